set_option maxRecDepth 100000
set_option maxHeartbeats 4000000 in
theorem mL_matchAll_5 {G : KG} {τ : KHp} {m : Nat} {ad : Nat → Nat} {Q : KQ} {X : KX} {y1 : Int32} {y2 : Int32} {a0 : TS × Int32 × Int32} {z : TS × Int32} (hd : Md m ad) (h : loopN (fun w : TS × Int32 × Int32 => B_matchAll_5 y1 y2 w.1 w.2.1 w.2.2) 9000 a0 = some z) (kk : kx G (yX6_matchAll.cls, cX6_matchAll, 6, (Option.some Jvm.ClassFile.FieldType.int), false, []) (2, 0, 0, Q, X) 0 0 (MP τ m ad z.1) 58 (kF [(3, .int (z.2))]) []) : kx G (yX6_matchAll.cls, cX6_matchAll, 6, (Option.some Jvm.ClassFile.FieldType.int), false, []) (2, 0, 0, Q, X) 0 0 (MP τ m ad a0.1) 5 (kF [(0, .ref m), (1, .int (y1)), (2, .int (y2)), (3, .int (a0.2.1)), (4, .int (a0.2.2))]) [] := by
  refine loopK_2_1 (B := B_matchAll_5 y1 y2) (fun (a : TS) (a3 : Int32) (a4 : Int32) => kx G (yX6_matchAll.cls, cX6_matchAll, 6, (Option.some Jvm.ClassFile.FieldType.int), false, []) (2, 0, 0, Q, X) 0 0 (MP τ m ad a) 5 (kF [(0, .ref m), (1, .int (y1)), (2, .int (y2)), (3, .int (a3)), (4, .int (a4))]) []) (fun (b : TS) (b3 : Int32) => kx G (yX6_matchAll.cls, cX6_matchAll, 6, (Option.some Jvm.ClassFile.FieldType.int), false, []) (2, 0, 0, Q, X) 0 0 (MP τ m ad b) 58 (kF [(3, .int (b3))]) []) (fun a a3 a4 r h kI kE => ?_) _ _ _ h kk
  · unfold B_matchAll_5 at h
    refine kx_iload dX6_matchAll_5 rfl ?_
    refine kx_iload_n dX6_matchAll_7 rfl rfl ?_
    refine kx_icmp_ge (tgt := 58) dX6_matchAll_8 (by decide) (fun c => ?_) (fun c => ?_)
    · have h := if_t c h
      exact kx_lwF [(3, .int (a3))] ⟨rfl, trivial⟩ (kE (a) (a3) (Option.some.inj h).symm)
    · have h := if_f c h
      refine kx_iload_n dX6_matchAll_11 rfl rfl ?_
      refine kx_bipush (v := 27) dX6_matchAll_12 (by decide) ?_
      refine kx_iload dX6_matchAll_14 rfl ?_
      refine kx_imul dX6_matchAll_16 ?_
      refine kx_iadd dX6_matchAll_17 ?_
      refine kx_istore dX6_matchAll_18 (Nat.le_of_ble_eq_true rfl) ?_
      refine kx_aload_n dX6_matchAll_20 rfl rfl ?_
      refine kx_iload dX6_matchAll_21 rfl ?_
      obtain ⟨r5001, er5001, h⟩ := bd_s h
      refine kx_callV dX6_matchAll_23 lk_X6_385 (mM_holds hd er5001) rfl kN_rc rfl (Nat.le_of_ble_eq_true rfl) (Nat.le_of_ble_eq_true rfl) (Nat.le_of_ble_eq_true rfl) (Nat.le_of_ble_eq_true rfl) (Nat.le_of_ble_eq_true rfl) (fun _ _ _ h => h.elim) (fun w_ σ_ hq => ?_)
      obtain ⟨rfl, rfl⟩ := hq
      refine kx_if_ne (tgt := 32) dX6_matchAll_26 (by decide) (fun c => ?_) (fun c => ?_)
      · have h := if_f c h
        refine kx_aload_n dX6_matchAll_32 rfl rfl ?_
        refine kx_getf dX6_matchAll_33 fl_X6_24_X6 kN_m rfl ?_
        refine kx_iload dX6_matchAll_36 rfl ?_
        refine kx_iconst (v := 2) dX6_matchAll_38 (by decide) ?_
        refine kx_iadd dX6_matchAll_39 ?_
        refine kx_dup2_11 dX6_matchAll_40 rfl rfl ?_
        refine kN_ald hd dX6_matchAll_41 h (fun v5002 ev5002 h => ?_)
        refine kx_iconst (v := 1) dX6_matchAll_42 (by decide) ?_
        refine kx_iadd dX6_matchAll_43 ?_
        refine kN_ast hd dX6_matchAll_44 h (fun s5003 es5003 h => ?_)
        refine kx_iload_n dX6_matchAll_45 rfl rfl ?_
        refine kx_iconst (v := 1) dX6_matchAll_46 (by decide) ?_
        refine kx_iload dX6_matchAll_47 rfl ?_
        refine kx_ishl dX6_matchAll_49 ?_
        refine kx_ior dX6_matchAll_50 ?_
        refine kx_istore_n dX6_matchAll_51 rfl (Nat.le_of_ble_eq_true rfl) ?_
        refine kx_iinc2 (v := 1) dX6_matchAll_52 rfl (by decide) ?_
        refine kx_goto (tgt := 5) dX6_matchAll_55 (by decide) ?_
        exact kx_lwF [(0, .ref m), (1, .int (y1)), (2, .int (y2)), (3, .int ((a3 ||| ((1 : Int32) <<< (a4 &&& 31))))), (4, .int ((a4 + (1 : Int32))))] ⟨rfl, rfl, rfl, rfl, rfl, trivial⟩ (kI (s5003) ((a3 ||| ((1 : Int32) <<< (a4 &&& 31)))) ((a4 + (1 : Int32))) (Option.some.inj h).symm)
      · have h := if_t c h
        refine kx_goto (tgt := 52) dX6_matchAll_29 (by decide) ?_
        refine kx_iinc2 (v := 1) dX6_matchAll_52 rfl (by decide) ?_
        refine kx_goto (tgt := 5) dX6_matchAll_55 (by decide) ?_
        exact kx_lwF [(0, .ref m), (1, .int (y1)), (2, .int (y2)), (3, .int (a3)), (4, .int ((a4 + (1 : Int32))))] ⟨rfl, rfl, rfl, rfl, rfl, trivial⟩ (kI (r5001.1) (a3) ((a4 + (1 : Int32))) (Option.some.inj h).symm)
set_option maxHeartbeats 4000000 in
theorem mM_matchAll {G : KG} {τ : KHp} {m : Nat} {ad : Nat → Nat} {s : TS} {x1 : Int32} {x2 : Int32} {z : TS × Int32} (hd : Md m ad) (h : P_matchAll s x1 x2 = some z) : kx_c G yX6_matchAll (ws_ yX6_matchAll cX6_matchAll 6 (Option.some Jvm.ClassFile.FieldType.int)) 2 0 0 [.ref m, .int (x1), .int (x2)] (MP τ m ad s) (fun rv σ' => rv = some (.int z.2) ∧ σ' = MP τ m ad z.1) kx_n := by
  refine kx_mk3 (ini := false) rfl (Nat.le_of_ble_eq_true rfl) (fun h => by cases h) (fun Q X hQ hX => ?_)
  unfold P_matchAll at h
  refine kx_iconst (v := 0) dX6_matchAll_0 (by decide) ?_
  refine kx_istore_n dX6_matchAll_1 rfl (Nat.le_of_ble_eq_true rfl) ?_
  refine kx_iconst (v := 0) dX6_matchAll_2 (by decide) ?_
  refine kx_istore dX6_matchAll_3 (Nat.le_of_ble_eq_true rfl) ?_
  obtain ⟨b1, eb1, h⟩ := bd_s h
  refine kx_lwF [(0, .ref m), (1, .int (x1)), (2, .int (x2)), (3, .int ((0 : Int32))), (4, .int ((0 : Int32)))] ⟨rfl, rfl, rfl, rfl, rfl, trivial⟩ (mL_matchAll_5 hd (a0 := (s, (0 : Int32), (0 : Int32))) eb1 ?_)
  refine kx_iload_n dX6_matchAll_58 rfl rfl ?_
  exact kx_iret dX6_matchAll_59 rfl (hQ _ _ (rtI (Option.some.inj h)))
set_option maxHeartbeats 4000000 in
theorem mL_firstOf_2 {G : KG} {τ : KHp} {m : Nat} {ad : Nat → Nat} {Q : KQ} {X : KX} {y1 : Int32} {y2 : Int32} {a0 : TS × Int32} {z : TS × Int32} (hd : Md m ad) (h : loopN (fun w : TS × Int32 => B_firstOf_2 y1 y2 w.1 w.2) 9000 a0 = some z) (hQ : ∀ rv σ', (rv = some (.int z.2) ∧ σ' = MP τ m ad z.1) → Q rv σ') : kx G (yX6_firstOf.cls, cX6_firstOf, 4, (Option.some Jvm.ClassFile.FieldType.int), false, []) (2, 0, 0, Q, X) 0 0 (MP τ m ad a0.1) 2 (kF [(0, .ref m), (1, .int (y1)), (2, .int (y2)), (3, .int (a0.2))]) [] := by
  refine loopK_1_T (B := B_firstOf_2 y1 y2) (fun (a : TS) (a3 : Int32) => kx G (yX6_firstOf.cls, cX6_firstOf, 4, (Option.some Jvm.ClassFile.FieldType.int), false, []) (2, 0, 0, Q, X) 0 0 (MP τ m ad a) 2 (kF [(0, .ref m), (1, .int (y1)), (2, .int (y2)), (3, .int (a3))]) []) (fun b => b = z) (fun a a3 r h kI kE => ?_) _ _ _ h rfl
  · unfold B_firstOf_2 at h
    refine kx_iload_n dX6_firstOf_2 rfl rfl ?_
    refine kx_aload_n dX6_firstOf_3 rfl rfl ?_
    refine kx_getf dX6_firstOf_4 fl_X6_17_X6 kN_m rfl ?_
    refine kx_iconst (v := 5) dX6_firstOf_7 (by decide) ?_
    refine kN_ald hd dX6_firstOf_8 h (fun v2001 ev2001 h => ?_)
    refine kx_icmp_ge (tgt := 41) dX6_firstOf_9 (by decide) (fun c => ?_) (fun c => ?_)
    · have h := if_t c h
      refine kx_iconst (v := -1) dX6_firstOf_41 (by decide) ?_
      exact kx_iret dX6_firstOf_42 rfl (hQ _ _ (rtI (kE _ (Option.some.inj h).symm)))
    · have h := if_f c h
      refine kx_iload_n dX6_firstOf_12 rfl rfl ?_
      refine kx_iload_n dX6_firstOf_13 rfl rfl ?_
      refine kx_ishr dX6_firstOf_14 ?_
      refine kx_iconst (v := 1) dX6_firstOf_15 (by decide) ?_
      refine kx_iand dX6_firstOf_16 ?_
      refine kx_iconst (v := 1) dX6_firstOf_17 (by decide) ?_
      refine kx_icmp_ne (tgt := 35) dX6_firstOf_18 (by decide) (fun c => ?_) (fun c => ?_)
      · have h := if_f c h
        refine kx_iinc2 (v := 1) dX6_firstOf_35 rfl (by decide) ?_
        refine kx_goto (tgt := 2) dX6_firstOf_38 (by decide) ?_
        exact kx_lwF [(0, .ref m), (1, .int (y1)), (2, .int (y2)), (3, .int ((a3 + (1 : Int32))))] ⟨rfl, rfl, rfl, rfl, trivial⟩ (kI (a) ((a3 + (1 : Int32))) (Option.some.inj h).symm)
      · have h := if_t c h
        refine kx_iload_n dX6_firstOf_21 rfl rfl ?_
        refine kx_if_eq (tgt := 33) dX6_firstOf_22 (by decide) (fun c => ?_) (fun c => ?_)
        · have h := if_t c h
          refine kx_iload_n dX6_firstOf_33 rfl rfl ?_
          exact kx_iret dX6_firstOf_34 rfl (hQ _ _ (rtI (kE _ (Option.some.inj h).symm)))
        · have h := if_f c h
          refine kx_aload_n dX6_firstOf_25 rfl rfl ?_
          refine kx_iload_n dX6_firstOf_26 rfl rfl ?_
          obtain ⟨r2002, er2002, h⟩ := bd_s h
          refine kx_callV dX6_firstOf_27 lk_X6_388 (mM_isAlwaysOne hd er2002) rfl kN_rc rfl (Nat.le_of_ble_eq_true rfl) (Nat.le_of_ble_eq_true rfl) (Nat.le_of_ble_eq_true rfl) (Nat.le_of_ble_eq_true rfl) (Nat.le_of_ble_eq_true rfl) (fun _ _ _ h => h.elim) (fun w_ σ_ hq => ?_)
          obtain ⟨rfl, rfl⟩ := hq
          refine kx_if_eq (tgt := 35) dX6_firstOf_30 (by decide) (fun c => ?_) (fun c => ?_)
          · have h := if_t c h
            refine kx_iinc2 (v := 1) dX6_firstOf_35 rfl (by decide) ?_
            refine kx_goto (tgt := 2) dX6_firstOf_38 (by decide) ?_
            exact kx_lwF [(0, .ref m), (1, .int (y1)), (2, .int (y2)), (3, .int ((a3 + (1 : Int32))))] ⟨rfl, rfl, rfl, rfl, trivial⟩ (kI (r2002.1) ((a3 + (1 : Int32))) (Option.some.inj h).symm)
          · have h := if_f c h
            refine kx_iload_n dX6_firstOf_33 rfl rfl ?_
            exact kx_iret dX6_firstOf_34 rfl (hQ _ _ (rtI (kE _ (Option.some.inj h).symm)))
set_option maxHeartbeats 4000000 in
theorem mM_firstOf {G : KG} {τ : KHp} {m : Nat} {ad : Nat → Nat} {s : TS} {x1 : Int32} {x2 : Int32} {z : TS × Int32} (hd : Md m ad) (h : P_firstOf s x1 x2 = some z) : kx_c G yX6_firstOf (ws_ yX6_firstOf cX6_firstOf 4 (Option.some Jvm.ClassFile.FieldType.int)) 2 0 0 [.ref m, .int (x1), .int (x2)] (MP τ m ad s) (fun rv σ' => rv = some (.int z.2) ∧ σ' = MP τ m ad z.1) kx_n := by
  refine kx_mk3 (ini := false) rfl (Nat.le_of_ble_eq_true rfl) (fun h => by cases h) (fun Q X hQ hX => ?_)
  unfold P_firstOf at h
  refine kx_iconst (v := 0) dX6_firstOf_0 (by decide) ?_
  refine kx_istore_n dX6_firstOf_1 rfl (Nat.le_of_ble_eq_true rfl) ?_
  exact kx_lwF [(0, .ref m), (1, .int (x1)), (2, .int (x2)), (3, .int ((0 : Int32)))] ⟨rfl, rfl, rfl, rfl, trivial⟩ (mL_firstOf_2 hd (a0 := (s, (0 : Int32))) h hQ)
set_option maxHeartbeats 4000000 in
theorem mL_trip_169 {G : KG} {τ : KHp} {m : Nat} {ad : Nat → Nat} {Q : KQ} {X : KX} {y1 : Int32} {y3 : Int32} {a0 : TS × Int32 × Int32} {z : TS × Int32} (hd : Md m ad) (h : loopN (fun w : TS × Int32 × Int32 => B_trip_169 y1 y3 w.1 w.2.1 w.2.2) 9000 a0 = some z) (kk : kx G (yX6_trip.cls, cX6_trip, 6, (Option.none : Option Jvm.ClassFile.FieldType), false, []) (3, 0, 0, Q, X) 0 0 (MP τ m ad z.1) 220 (kF [(0, .ref m), (1, .int (y1)), (3, .int (y3)), (4, .int (z.2))]) []) : kx G (yX6_trip.cls, cX6_trip, 6, (Option.none : Option Jvm.ClassFile.FieldType), false, []) (3, 0, 0, Q, X) 0 0 (MP τ m ad a0.1) 169 (kF [(0, .ref m), (1, .int (y1)), (3, .int (y3)), (4, .int (a0.2.1)), (5, .int (a0.2.2))]) [] := by
  refine loopK_2_1 (B := B_trip_169 y1 y3) (fun (a : TS) (a4 : Int32) (a5 : Int32) => kx G (yX6_trip.cls, cX6_trip, 6, (Option.none : Option Jvm.ClassFile.FieldType), false, []) (3, 0, 0, Q, X) 0 0 (MP τ m ad a) 169 (kF [(0, .ref m), (1, .int (y1)), (3, .int (y3)), (4, .int (a4)), (5, .int (a5))]) []) (fun (b : TS) (b4 : Int32) => kx G (yX6_trip.cls, cX6_trip, 6, (Option.none : Option Jvm.ClassFile.FieldType), false, []) (3, 0, 0, Q, X) 0 0 (MP τ m ad b) 220 (kF [(0, .ref m), (1, .int (y1)), (3, .int (y3)), (4, .int (b4))]) []) (fun a a4 a5 r h kI kE => ?_) _ _ _ h kk
  · unfold B_trip_169 at h
    refine kx_iload dX6_trip_169 rfl ?_
    refine kx_if_lt (tgt := 220) dX6_trip_171 (by decide) (fun c => ?_) (fun c => ?_)
    · have h := if_t c h
      exact kx_lwF [(0, .ref m), (1, .int (y1)), (3, .int (y3)), (4, .int (a4))] ⟨rfl, rfl, rfl, rfl, trivial⟩ (kE (a) (a4) (Option.some.inj h).symm)
    · have h := if_f c h
      refine kx_aload_n dX6_trip_174 rfl rfl ?_
      refine kx_iload_n dX6_trip_175 rfl rfl ?_
      refine kx_bipush (v := 16) dX6_trip_176 (by decide) ?_
      refine kx_iload dX6_trip_178 rfl ?_
      refine kx_iadd dX6_trip_180 ?_
      obtain ⟨r169001, er169001, h⟩ := bd_s h
      refine kx_callV dX6_trip_181 lk_X6_70 (mM_ofBranch hd er169001) rfl kN_rc rfl (Nat.le_of_ble_eq_true rfl) (Nat.le_of_ble_eq_true rfl) (Nat.le_of_ble_eq_true rfl) (Nat.le_of_ble_eq_true rfl) (Nat.le_of_ble_eq_true rfl) (fun _ _ _ h => h.elim) (fun w_ σ_ hq => ?_)
      obtain ⟨rfl, rfl⟩ := hq
      refine kx_if_ne (tgt := 190) dX6_trip_184 (by decide) (fun c => ?_) (fun c => ?_)
      · have h := if_f c h
        refine kx_aload_n dX6_trip_190 rfl rfl ?_
        refine kx_getf dX6_trip_191 fl_X6_17_X6 kN_m rfl ?_
        refine kx_iload_n dX6_trip_194 rfl rfl ?_
        refine kx_iconst (v := 5) dX6_trip_195 (by decide) ?_
        refine kx_iadd dX6_trip_196 ?_
        refine kx_iload dX6_trip_197 rfl ?_
        refine kx_iadd dX6_trip_199 ?_
        refine kx_aload_n dX6_trip_200 rfl rfl ?_
        refine kx_getf dX6_trip_201 fl_X6_17_X6 kN_m rfl ?_
        refine kx_bipush (v := 8) dX6_trip_204 (by decide) ?_
        refine kN_ald hd dX6_trip_206 h (fun v169002 ev169002 h => ?_)
        refine kx_iload dX6_trip_207 rfl ?_
        refine kx_isub dX6_trip_209 ?_
        refine kN_ast hd dX6_trip_210 h (fun s169003 es169003 h => ?_)
        refine kx_iinc2 (v := 1) dX6_trip_211 rfl (by decide) ?_
        refine kx_iinc2 (v := -1) dX6_trip_214 rfl (by decide) ?_
        refine kx_goto (tgt := 169) dX6_trip_217 (by decide) ?_
        exact kx_lwF [(0, .ref m), (1, .int (y1)), (3, .int (y3)), (4, .int ((a4 + (1 : Int32)))), (5, .int ((a5 + (-1 : Int32))))] ⟨rfl, rfl, rfl, rfl, rfl, trivial⟩ (kI (s169003) ((a4 + (1 : Int32))) ((a5 + (-1 : Int32))) (Option.some.inj h).symm)
      · have h := if_t c h
        refine kx_goto (tgt := 214) dX6_trip_187 (by decide) ?_
        refine kx_iinc2 (v := -1) dX6_trip_214 rfl (by decide) ?_
        refine kx_goto (tgt := 169) dX6_trip_217 (by decide) ?_
        exact kx_lwF [(0, .ref m), (1, .int (y1)), (3, .int (y3)), (4, .int (a4)), (5, .int ((a5 + (-1 : Int32))))] ⟨rfl, rfl, rfl, rfl, rfl, trivial⟩ (kI (r169001.1) (a4) ((a5 + (-1 : Int32))) (Option.some.inj h).symm)
set_option maxHeartbeats 4000000 in
theorem mL_trip_14 {G : KG} {τ : KHp} {m : Nat} {ad : Nat → Nat} {Q : KQ} {X : KX} {y1 : Int32} {y2 : Int32} {a0 : TS × Int32} {z : TS} (hd : Md m ad) (h : loopN (fun w : TS × Int32 => B_trip_14 y1 y2 w.1 w.2) 9000 a0 = some z) (kk : kx G (yX6_trip.cls, cX6_trip, 6, (Option.none : Option Jvm.ClassFile.FieldType), false, []) (3, 0, 0, Q, X) 0 0 (MP τ m ad z) 47 (kF [(0, .ref m), (1, .int (y1)), (2, .int (y2))]) []) : kx G (yX6_trip.cls, cX6_trip, 6, (Option.none : Option Jvm.ClassFile.FieldType), false, []) (3, 0, 0, Q, X) 0 0 (MP τ m ad a0.1) 14 (kF [(0, .ref m), (1, .int (y1)), (2, .int (y2)), (3, .int (a0.2))]) [] := by
  refine loopK_1_0 (B := B_trip_14 y1 y2) (fun (a : TS) (a3 : Int32) => kx G (yX6_trip.cls, cX6_trip, 6, (Option.none : Option Jvm.ClassFile.FieldType), false, []) (3, 0, 0, Q, X) 0 0 (MP τ m ad a) 14 (kF [(0, .ref m), (1, .int (y1)), (2, .int (y2)), (3, .int (a3))]) []) (fun (b : TS) => kx G (yX6_trip.cls, cX6_trip, 6, (Option.none : Option Jvm.ClassFile.FieldType), false, []) (3, 0, 0, Q, X) 0 0 (MP τ m ad b) 47 (kF [(0, .ref m), (1, .int (y1)), (2, .int (y2))]) []) (fun a a3 r h kI kE => ?_) _ _ _ h kk
  · unfold B_trip_14 at h
    refine kx_iload_n dX6_trip_14 rfl rfl ?_
    refine kx_sipush (v := 483) dX6_trip_15 (by decide) ?_
    refine kx_icmp_ge (tgt := 47) dX6_trip_18 (by decide) (fun c => ?_) (fun c => ?_)
    · have h := if_t c h
      exact kx_lwF [(0, .ref m), (1, .int (y1)), (2, .int (y2))] ⟨rfl, rfl, rfl, trivial⟩ (kE (a) (Option.some.inj h).symm)
    · have h := if_f c h
      refine kx_aload_n dX6_trip_21 rfl rfl ?_
      refine kx_getf dX6_trip_22 fl_X6_17_X6 kN_m rfl ?_
      refine kx_sipush (v := 913) dX6_trip_25 (by decide) ?_
      refine kx_iload_n dX6_trip_28 rfl rfl ?_
      refine kx_iadd dX6_trip_29 ?_
      refine kx_aload_n dX6_trip_30 rfl rfl ?_
      refine kx_getf dX6_trip_31 fl_X6_17_X6 kN_m rfl ?_
      refine kx_sipush (v := 982) dX6_trip_34 (by decide) ?_
      refine kx_iload_n dX6_trip_37 rfl rfl ?_
      refine kx_iadd dX6_trip_38 ?_
      refine kN_ald hd dX6_trip_39 h (fun v14001 ev14001 h => ?_)
      refine kN_ast hd dX6_trip_40 h (fun s14002 es14002 h => ?_)
      refine kx_iinc2 (v := 1) dX6_trip_41 rfl (by decide) ?_
      refine kx_goto (tgt := 14) dX6_trip_44 (by decide) ?_
      exact kx_lwF [(0, .ref m), (1, .int (y1)), (2, .int (y2)), (3, .int ((a3 + (1 : Int32))))] ⟨rfl, rfl, rfl, rfl, trivial⟩ (kI (s14002) ((a3 + (1 : Int32))) (Option.some.inj h).symm)
set_option maxHeartbeats 4000000 in
theorem mL_trip_49 {G : KG} {τ : KHp} {m : Nat} {ad : Nat → Nat} {Q : KQ} {X : KX} {y1 : Int32} {y2 : Int32} {a0 : TS × Int32} {z : TS} (hd : Md m ad) (h : loopN (fun w : TS × Int32 => B_trip_49 y1 y2 w.1 w.2) 9000 a0 = some z) (kk : kx G (yX6_trip.cls, cX6_trip, 6, (Option.none : Option Jvm.ClassFile.FieldType), false, []) (3, 0, 0, Q, X) 0 0 (MP τ m ad z) 83 (kF [(0, .ref m), (1, .int (y1)), (2, .int (y2))]) []) : kx G (yX6_trip.cls, cX6_trip, 6, (Option.none : Option Jvm.ClassFile.FieldType), false, []) (3, 0, 0, Q, X) 0 0 (MP τ m ad a0.1) 49 (kF [(0, .ref m), (1, .int (y1)), (2, .int (y2)), (3, .int (a0.2))]) [] := by
  refine loopK_1_0 (B := B_trip_49 y1 y2) (fun (a : TS) (a3 : Int32) => kx G (yX6_trip.cls, cX6_trip, 6, (Option.none : Option Jvm.ClassFile.FieldType), false, []) (3, 0, 0, Q, X) 0 0 (MP τ m ad a) 49 (kF [(0, .ref m), (1, .int (y1)), (2, .int (y2)), (3, .int (a3))]) []) (fun (b : TS) => kx G (yX6_trip.cls, cX6_trip, 6, (Option.none : Option Jvm.ClassFile.FieldType), false, []) (3, 0, 0, Q, X) 0 0 (MP τ m ad b) 83 (kF [(0, .ref m), (1, .int (y1)), (2, .int (y2))]) []) (fun a a3 r h kI kE => ?_) _ _ _ h kk
  · unfold B_trip_49 at h
    refine kx_iload_n dX6_trip_49 rfl rfl ?_
    refine kx_bipush (v := 7) dX6_trip_50 (by decide) ?_
    refine kx_icmp_ge (tgt := 83) dX6_trip_52 (by decide) (fun c => ?_) (fun c => ?_)
    · have h := if_t c h
      exact kx_lwF [(0, .ref m), (1, .int (y1)), (2, .int (y2))] ⟨rfl, rfl, rfl, trivial⟩ (kE (a) (Option.some.inj h).symm)
    · have h := if_f c h
      refine kx_aload_n dX6_trip_55 rfl rfl ?_
      refine kx_getf dX6_trip_56 fl_X6_27_X6 kN_m rfl ?_
      refine kx_sipush (v := 152) dX6_trip_59 (by decide) ?_
      refine kx_iload_n dX6_trip_62 rfl rfl ?_
      refine kx_iadd dX6_trip_63 ?_
      refine kx_aload_n dX6_trip_64 rfl rfl ?_
      refine kx_getf dX6_trip_65 fl_X6_27_X6 kN_m rfl ?_
      refine kx_sipush (v := 152) dX6_trip_68 (by decide) ?_
      refine kx_iload_n dX6_trip_71 rfl rfl ?_
      refine kx_iadd dX6_trip_72 ?_
      refine kx_iconst (v := 1) dX6_trip_73 (by decide) ?_
      refine kx_iadd dX6_trip_74 ?_
      refine kN_fld hd dX6_trip_75 h (fun v49001 ev49001 h => ?_)
      refine kN_fst hd dX6_trip_76 h (fun s49002 es49002 h => ?_)
      refine kx_iinc2 (v := 1) dX6_trip_77 rfl (by decide) ?_
      refine kx_goto (tgt := 49) dX6_trip_80 (by decide) ?_
      exact kx_lwF [(0, .ref m), (1, .int (y1)), (2, .int (y2)), (3, .int ((a3 + (1 : Int32))))] ⟨rfl, rfl, rfl, rfl, trivial⟩ (kI (s49002) ((a3 + (1 : Int32))) (Option.some.inj h).symm)
set_option maxHeartbeats 4000000 in
theorem mM_trip {G : KG} {τ : KHp} {m : Nat} {ad : Nat → Nat} {s : TS} {x1 : Int32} {x2 : Int32} {z : TS} (hd : Md m ad) (h : P_trip s x1 x2 = some z) : kx_c G yX6_trip (ws_ yX6_trip cX6_trip 6 (Option.none : Option Jvm.ClassFile.FieldType)) 3 0 0 [.ref m, .int (x1), .int (x2)] (MP τ m ad s) (fun rv σ' => rv = none ∧ σ' = MP τ m ad z) kx_n := by
  refine kx_mk3 (ini := false) rfl (Nat.le_of_ble_eq_true rfl) (fun h => by cases h) (fun Q X hQ hX => ?_)
  unfold P_trip at h
  refine kx_aload_n dX6_trip_0 rfl rfl ?_
  refine kx_getf dX6_trip_1 fl_X6_17_X6 kN_m rfl ?_
  refine kx_bipush (v := 10) dX6_trip_4 (by decide) ?_
  refine kN_ald hd dX6_trip_6 h (fun v1 ev1 h => ?_)
  refine kx_bipush (v := 8) dX6_trip_7 (by decide) ?_
  refine kx_icmp_ne (tgt := 94) dX6_trip_9 (by decide) (fun c => ?_) (fun c => ?_)
  · have h := if_f c h
    refine kx_sipush (v := 913) dX6_trip_94 (by decide) ?_
    refine kx_bipush (v := 69) dX6_trip_97 (by decide) ?_
    refine kx_aload_n dX6_trip_99 rfl rfl ?_
    refine kx_getf dX6_trip_100 fl_X6_17_X6 kN_m rfl ?_
    refine kx_bipush (v := 10) dX6_trip_103 (by decide) ?_
    refine kN_ald hd dX6_trip_105 h (fun v2 ev2 h => ?_)
    refine kx_imul dX6_trip_106 ?_
    refine kx_iadd dX6_trip_107 ?_
    refine kx_istore_n dX6_trip_108 rfl (Nat.le_of_ble_eq_true rfl) ?_
    refine kx_aload_n dX6_trip_109 rfl rfl ?_
    refine kx_getf dX6_trip_110 fl_X6_17_X6 kN_m rfl ?_
    refine kx_iload_n dX6_trip_113 rfl rfl ?_
    refine kx_iconst (v := 0) dX6_trip_114 (by decide) ?_
    refine kx_iadd dX6_trip_115 ?_
    refine kx_aload_n dX6_trip_116 rfl rfl ?_
    refine kx_getf dX6_trip_117 fl_X6_17_X6 kN_m rfl ?_
    refine kx_bipush (v := 8) dX6_trip_120 (by decide) ?_
    refine kN_ald hd dX6_trip_122 h (fun v3 ev3 h => ?_)
    refine kN_ast hd dX6_trip_123 h (fun s4 es4 h => ?_)
    refine kx_aload_n dX6_trip_124 rfl rfl ?_
    refine kx_getf dX6_trip_125 fl_X6_17_X6 kN_m rfl ?_
    refine kx_iload_n dX6_trip_128 rfl rfl ?_
    refine kx_iconst (v := 1) dX6_trip_129 (by decide) ?_
    refine kx_iadd dX6_trip_130 ?_
    refine kx_iload_n dX6_trip_131 rfl rfl ?_
    refine kN_ast hd dX6_trip_132 h (fun s5 es5 h => ?_)
    refine kx_aload_n dX6_trip_133 rfl rfl ?_
    refine kx_getf dX6_trip_134 fl_X6_17_X6 kN_m rfl ?_
    refine kx_iload_n dX6_trip_137 rfl rfl ?_
    refine kx_iconst (v := 2) dX6_trip_138 (by decide) ?_
    refine kx_iadd dX6_trip_139 ?_
    refine kx_iload_n dX6_trip_140 rfl rfl ?_
    refine kN_ast hd dX6_trip_141 h (fun s6 es6 h => ?_)
    refine kx_aload_n dX6_trip_142 rfl rfl ?_
    refine kx_getf dX6_trip_143 fl_X6_17_X6 kN_m rfl ?_
    refine kx_iload_n dX6_trip_146 rfl rfl ?_
    refine kx_iconst (v := 3) dX6_trip_147 (by decide) ?_
    refine kx_iadd dX6_trip_148 ?_
    refine kx_aload_n dX6_trip_149 rfl rfl ?_
    refine kx_iload_n dX6_trip_150 rfl rfl ?_
    refine kx_bipush (v := 9) dX6_trip_151 (by decide) ?_
    obtain ⟨r7, er7, h⟩ := bd_s h
    refine kx_callV dX6_trip_153 lk_X6_70 (mM_ofBranch hd er7) rfl kN_rc rfl (Nat.le_of_ble_eq_true rfl) (Nat.le_of_ble_eq_true rfl) (Nat.le_of_ble_eq_true rfl) (Nat.le_of_ble_eq_true rfl) (Nat.le_of_ble_eq_true rfl) (fun _ _ _ h => h.elim) (fun w_ σ_ hq => ?_)
    obtain ⟨rfl, rfl⟩ := hq
    refine kN_ast hd dX6_trip_156 h (fun s8 es8 h => ?_)
    refine kx_iconst (v := 0) dX6_trip_157 (by decide) ?_
    refine kx_istore dX6_trip_158 (Nat.le_of_ble_eq_true rfl) ?_
    refine kx_aload_n dX6_trip_160 rfl rfl ?_
    refine kx_iload_n dX6_trip_161 rfl rfl ?_
    obtain ⟨r9, er9, h⟩ := bd_s h
    refine kx_callV dX6_trip_162 lk_X6_405 (mM_windowOf hd er9) rfl kN_rc rfl (Nat.le_of_ble_eq_true rfl) (Nat.le_of_ble_eq_true rfl) (Nat.le_of_ble_eq_true rfl) (Nat.le_of_ble_eq_true rfl) (Nat.le_of_ble_eq_true rfl) (fun _ _ _ h => h.elim) (fun w_ σ_ hq => ?_)
    obtain ⟨rfl, rfl⟩ := hq
    refine kx_iconst (v := 1) dX6_trip_165 (by decide) ?_
    refine kx_isub dX6_trip_166 ?_
    refine kx_istore dX6_trip_167 (Nat.le_of_ble_eq_true rfl) ?_
    obtain ⟨b10, eb10, h⟩ := bd_s h
    refine kx_lwF [(0, .ref m), (1, .int (x1)), (3, .int (((913 : Int32) + ((69 : Int32) * v2)))), (4, .int ((0 : Int32))), (5, .int ((r9.2 - (1 : Int32))))] ⟨rfl, rfl, rfl, rfl, rfl, trivial⟩ (mL_trip_169 hd (a0 := (r9.1, (0 : Int32), (r9.2 - (1 : Int32)))) eb10 ?_)
    refine kx_aload_n dX6_trip_220 rfl rfl ?_
    refine kx_getf dX6_trip_221 fl_X6_17_X6 kN_m rfl ?_
    refine kx_iload_n dX6_trip_224 rfl rfl ?_
    refine kx_iconst (v := 4) dX6_trip_225 (by decide) ?_
    refine kx_iadd dX6_trip_226 ?_
    refine kx_iload dX6_trip_227 rfl ?_
    refine kN_ast hd dX6_trip_229 h (fun s11 es11 h => ?_)
    refine kx_aload_n dX6_trip_230 rfl rfl ?_
    refine kx_getf dX6_trip_231 fl_X6_27_X6 kN_m rfl ?_
    refine kx_sipush (v := 152) dX6_trip_234 (by decide) ?_
    refine kx_aload_n dX6_trip_237 rfl rfl ?_
    refine kx_getf dX6_trip_238 fl_X6_17_X6 kN_m rfl ?_
    refine kx_bipush (v := 10) dX6_trip_241 (by decide) ?_
    refine kN_ald hd dX6_trip_243 h (fun v12 ev12 h => ?_)
    refine kx_iadd dX6_trip_244 ?_
    refine kx_aload_n dX6_trip_245 rfl rfl ?_
    refine kx_iload_n dX6_trip_246 rfl rfl ?_
    refine kx_iconst (v := 0) dX6_trip_247 (by decide) ?_
    obtain ⟨r13, er13, h⟩ := bd_s h
    refine kx_callV dX6_trip_248 lk_X6_391 (mM_featureOf hd er13) rfl kN_rc rfl (Nat.le_of_ble_eq_true rfl) (Nat.le_of_ble_eq_true rfl) (Nat.le_of_ble_eq_true rfl) (Nat.le_of_ble_eq_true rfl) (Nat.le_of_ble_eq_true rfl) (fun _ _ _ h => h.elim) (fun w_ σ_ hq => ?_)
    obtain ⟨rfl, rfl⟩ := hq
    refine kN_fst hd dX6_trip_251 h (fun s14 es14 h => ?_)
    refine kx_aload_n dX6_trip_252 rfl rfl ?_
    refine kx_getf dX6_trip_253 fl_X6_17_X6 kN_m rfl ?_
    refine kx_bipush (v := 10) dX6_trip_256 (by decide) ?_
    refine kx_dup2_11 dX6_trip_258 rfl rfl ?_
    refine kN_ald hd dX6_trip_259 h (fun v15 ev15 h => ?_)
    refine kx_iconst (v := 1) dX6_trip_260 (by decide) ?_
    refine kx_iadd dX6_trip_261 ?_
    refine kN_ast hd dX6_trip_262 h (fun s16 es16 h => ?_)
    refine kx_aload_n dX6_trip_263 rfl rfl ?_
    refine kx_iload_n dX6_trip_264 rfl rfl ?_
    refine kx_iconst (v := 2) dX6_trip_265 (by decide) ?_
    obtain ⟨r17, er17, h⟩ := bd_s h
    refine kx_callV dX6_trip_266 lk_X6_70 (mM_ofBranch hd er17) rfl kN_rc rfl (Nat.le_of_ble_eq_true rfl) (Nat.le_of_ble_eq_true rfl) (Nat.le_of_ble_eq_true rfl) (Nat.le_of_ble_eq_true rfl) (Nat.le_of_ble_eq_true rfl) (fun _ _ _ h => h.elim) (fun w_ σ_ hq => ?_)
    obtain ⟨rfl, rfl⟩ := hq
    refine kx_iconst (v := 1) dX6_trip_269 (by decide) ?_
    refine kx_iadd dX6_trip_270 ?_
    refine kx_istore dX6_trip_271 (Nat.le_of_ble_eq_true rfl) ?_
    refine kx_aload_n dX6_trip_273 rfl rfl ?_
    refine kx_iload_n dX6_trip_274 rfl rfl ?_
    refine kx_iconst (v := 2) dX6_trip_275 (by decide) ?_
    refine kx_iload dX6_trip_276 rfl ?_
    obtain ⟨r18, er18, h⟩ := bd_s h
    refine kx_callV dX6_trip_278 lk_X6_270 (mM_setBranch hd er18) rfl kN_rc rfl (Nat.le_of_ble_eq_true rfl) (Nat.le_of_ble_eq_true rfl) (Nat.le_of_ble_eq_true rfl) (Nat.le_of_ble_eq_true rfl) (Nat.le_of_ble_eq_true rfl) (fun _ _ _ h => h.elim) (fun w_ σ_ hq => ?_)
    obtain ⟨rfl, rfl⟩ := hq
    refine kx_aload_n dX6_trip_281 rfl rfl ?_
    refine kx_iload_n dX6_trip_282 rfl rfl ?_
    refine kx_iconst (v := 1) dX6_trip_283 (by decide) ?_
    refine kx_iload dX6_trip_284 rfl ?_
    refine kx_iconst (v := 3) dX6_trip_286 (by decide) ?_
    obtain ⟨r19, er19, h⟩ := bd_s h
    refine kN_j (MP τ m ad r19.1) 295 [.int (r19.2), .int ((1 : Int32)), .int (x1), .ref m] ?_ (fun jr19 => ?_)
    · skip
      obtain ⟨r20, er20, h⟩ := bd_s h
      refine kx_callV dX6_trip_295 lk_X6_270 (mM_setBranch hd er20) rfl kN_rc rfl (Nat.le_of_ble_eq_true rfl) (Nat.le_of_ble_eq_true rfl) (Nat.le_of_ble_eq_true rfl) (Nat.le_of_ble_eq_true rfl) (Nat.le_of_ble_eq_true rfl) (fun _ _ _ h => h.elim) (fun w_ σ_ hq => ?_)
      obtain ⟨rfl, rfl⟩ := hq
      refine kx_aload_n dX6_trip_298 rfl rfl ?_
      refine kx_iload_n dX6_trip_299 rfl rfl ?_
      refine kx_iconst (v := 3) dX6_trip_300 (by decide) ?_
      refine kx_iconst (v := 0) dX6_trip_301 (by decide) ?_
      obtain ⟨r21, er21, h⟩ := bd_s h
      refine kx_callV dX6_trip_302 lk_X6_270 (mM_setBranch hd er21) rfl kN_rc rfl (Nat.le_of_ble_eq_true rfl) (Nat.le_of_ble_eq_true rfl) (Nat.le_of_ble_eq_true rfl) (Nat.le_of_ble_eq_true rfl) (Nat.le_of_ble_eq_true rfl) (fun _ _ _ h => h.elim) (fun w_ σ_ hq => ?_)
      obtain ⟨rfl, rfl⟩ := hq
      refine kx_aload_n dX6_trip_305 rfl rfl ?_
      refine kx_iload_n dX6_trip_306 rfl rfl ?_
      refine kx_iconst (v := 5) dX6_trip_307 (by decide) ?_
      refine kx_iconst (v := 0) dX6_trip_308 (by decide) ?_
      obtain ⟨r22, er22, h⟩ := bd_s h
      refine kx_callV dX6_trip_309 lk_X6_270 (mM_setBranch hd er22) rfl kN_rc rfl (Nat.le_of_ble_eq_true rfl) (Nat.le_of_ble_eq_true rfl) (Nat.le_of_ble_eq_true rfl) (Nat.le_of_ble_eq_true rfl) (Nat.le_of_ble_eq_true rfl) (fun _ _ _ h => h.elim) (fun w_ σ_ hq => ?_)
      obtain ⟨rfl, rfl⟩ := hq
      exact kx_vret dX6_trip_312 rfl (hQ _ _ (rtV (Option.some.inj h)))
    · have h := er19
      refine kx_icmp_lt (tgt := 294) dX6_trip_287 (by decide) (fun c => ?_) (fun c => ?_)
      · have h := if_t c h
        refine kx_iconst (v := 1) dX6_trip_294 (by decide) ?_
        exact jnI h jr19
      · have h := if_f c h
        refine kx_iconst (v := 2) dX6_trip_290 (by decide) ?_
        refine kx_goto (tgt := 295) dX6_trip_291 (by decide) ?_
        exact jnI h jr19
  · have h := if_t c h
    refine kx_iconst (v := 0) dX6_trip_12 (by decide) ?_
    refine kx_istore_n dX6_trip_13 rfl (Nat.le_of_ble_eq_true rfl) ?_
    obtain ⟨b23, eb23, h⟩ := bd_s h
    refine kx_lwF [(0, .ref m), (1, .int (x1)), (2, .int (x2)), (3, .int ((0 : Int32)))] ⟨rfl, rfl, rfl, rfl, trivial⟩ (mL_trip_14 hd (a0 := (s, (0 : Int32))) eb23 ?_)
    refine kx_iconst (v := 0) dX6_trip_47 (by decide) ?_
    refine kx_istore_n dX6_trip_48 rfl (Nat.le_of_ble_eq_true rfl) ?_
    obtain ⟨b24, eb24, h⟩ := bd_s h
    refine kx_lwF [(0, .ref m), (1, .int (x1)), (2, .int (x2)), (3, .int ((0 : Int32)))] ⟨rfl, rfl, rfl, rfl, trivial⟩ (mL_trip_49 hd (a0 := (b23, (0 : Int32))) eb24 ?_)
    refine kx_aload_n dX6_trip_83 rfl rfl ?_
    refine kx_getf dX6_trip_84 fl_X6_17_X6 kN_m rfl ?_
    refine kx_bipush (v := 10) dX6_trip_87 (by decide) ?_
    refine kx_dup2_11 dX6_trip_89 rfl rfl ?_
    refine kN_ald hd dX6_trip_90 h (fun v25 ev25 h => ?_)
    refine kx_iconst (v := 1) dX6_trip_91 (by decide) ?_
    refine kx_isub dX6_trip_92 ?_
    refine kN_ast hd dX6_trip_93 h (fun s26 es26 h => ?_)
    refine kx_sipush (v := 913) dX6_trip_94 (by decide) ?_
    refine kx_bipush (v := 69) dX6_trip_97 (by decide) ?_
    refine kx_aload_n dX6_trip_99 rfl rfl ?_
    refine kx_getf dX6_trip_100 fl_X6_17_X6 kN_m rfl ?_
    refine kx_bipush (v := 10) dX6_trip_103 (by decide) ?_
    refine kN_ald hd dX6_trip_105 h (fun v27 ev27 h => ?_)
    refine kx_imul dX6_trip_106 ?_
    refine kx_iadd dX6_trip_107 ?_
    refine kx_istore_n dX6_trip_108 rfl (Nat.le_of_ble_eq_true rfl) ?_
    refine kx_aload_n dX6_trip_109 rfl rfl ?_
    refine kx_getf dX6_trip_110 fl_X6_17_X6 kN_m rfl ?_
    refine kx_iload_n dX6_trip_113 rfl rfl ?_
    refine kx_iconst (v := 0) dX6_trip_114 (by decide) ?_
    refine kx_iadd dX6_trip_115 ?_
    refine kx_aload_n dX6_trip_116 rfl rfl ?_
    refine kx_getf dX6_trip_117 fl_X6_17_X6 kN_m rfl ?_
    refine kx_bipush (v := 8) dX6_trip_120 (by decide) ?_
    refine kN_ald hd dX6_trip_122 h (fun v28 ev28 h => ?_)
    refine kN_ast hd dX6_trip_123 h (fun s29 es29 h => ?_)
    refine kx_aload_n dX6_trip_124 rfl rfl ?_
    refine kx_getf dX6_trip_125 fl_X6_17_X6 kN_m rfl ?_
    refine kx_iload_n dX6_trip_128 rfl rfl ?_
    refine kx_iconst (v := 1) dX6_trip_129 (by decide) ?_
    refine kx_iadd dX6_trip_130 ?_
    refine kx_iload_n dX6_trip_131 rfl rfl ?_
    refine kN_ast hd dX6_trip_132 h (fun s30 es30 h => ?_)
    refine kx_aload_n dX6_trip_133 rfl rfl ?_
    refine kx_getf dX6_trip_134 fl_X6_17_X6 kN_m rfl ?_
    refine kx_iload_n dX6_trip_137 rfl rfl ?_
    refine kx_iconst (v := 2) dX6_trip_138 (by decide) ?_
    refine kx_iadd dX6_trip_139 ?_
    refine kx_iload_n dX6_trip_140 rfl rfl ?_
    refine kN_ast hd dX6_trip_141 h (fun s31 es31 h => ?_)
    refine kx_aload_n dX6_trip_142 rfl rfl ?_
    refine kx_getf dX6_trip_143 fl_X6_17_X6 kN_m rfl ?_
    refine kx_iload_n dX6_trip_146 rfl rfl ?_
    refine kx_iconst (v := 3) dX6_trip_147 (by decide) ?_
    refine kx_iadd dX6_trip_148 ?_
    refine kx_aload_n dX6_trip_149 rfl rfl ?_
    refine kx_iload_n dX6_trip_150 rfl rfl ?_
    refine kx_bipush (v := 9) dX6_trip_151 (by decide) ?_
    obtain ⟨r32, er32, h⟩ := bd_s h
    refine kx_callV dX6_trip_153 lk_X6_70 (mM_ofBranch hd er32) rfl kN_rc rfl (Nat.le_of_ble_eq_true rfl) (Nat.le_of_ble_eq_true rfl) (Nat.le_of_ble_eq_true rfl) (Nat.le_of_ble_eq_true rfl) (Nat.le_of_ble_eq_true rfl) (fun _ _ _ h => h.elim) (fun w_ σ_ hq => ?_)
    obtain ⟨rfl, rfl⟩ := hq
    refine kN_ast hd dX6_trip_156 h (fun s33 es33 h => ?_)
    refine kx_iconst (v := 0) dX6_trip_157 (by decide) ?_
    refine kx_istore dX6_trip_158 (Nat.le_of_ble_eq_true rfl) ?_
    refine kx_aload_n dX6_trip_160 rfl rfl ?_
    refine kx_iload_n dX6_trip_161 rfl rfl ?_
    obtain ⟨r34, er34, h⟩ := bd_s h
    refine kx_callV dX6_trip_162 lk_X6_405 (mM_windowOf hd er34) rfl kN_rc rfl (Nat.le_of_ble_eq_true rfl) (Nat.le_of_ble_eq_true rfl) (Nat.le_of_ble_eq_true rfl) (Nat.le_of_ble_eq_true rfl) (Nat.le_of_ble_eq_true rfl) (fun _ _ _ h => h.elim) (fun w_ σ_ hq => ?_)
    obtain ⟨rfl, rfl⟩ := hq
    refine kx_iconst (v := 1) dX6_trip_165 (by decide) ?_
    refine kx_isub dX6_trip_166 ?_
    refine kx_istore dX6_trip_167 (Nat.le_of_ble_eq_true rfl) ?_
    obtain ⟨b35, eb35, h⟩ := bd_s h
    refine kx_lwF [(0, .ref m), (1, .int (x1)), (3, .int (((913 : Int32) + ((69 : Int32) * v27)))), (4, .int ((0 : Int32))), (5, .int ((r34.2 - (1 : Int32))))] ⟨rfl, rfl, rfl, rfl, rfl, trivial⟩ (mL_trip_169 hd (a0 := (r34.1, (0 : Int32), (r34.2 - (1 : Int32)))) eb35 ?_)
    refine kx_aload_n dX6_trip_220 rfl rfl ?_
    refine kx_getf dX6_trip_221 fl_X6_17_X6 kN_m rfl ?_
    refine kx_iload_n dX6_trip_224 rfl rfl ?_
    refine kx_iconst (v := 4) dX6_trip_225 (by decide) ?_
    refine kx_iadd dX6_trip_226 ?_
    refine kx_iload dX6_trip_227 rfl ?_
    refine kN_ast hd dX6_trip_229 h (fun s36 es36 h => ?_)
    refine kx_aload_n dX6_trip_230 rfl rfl ?_
    refine kx_getf dX6_trip_231 fl_X6_27_X6 kN_m rfl ?_
    refine kx_sipush (v := 152) dX6_trip_234 (by decide) ?_
    refine kx_aload_n dX6_trip_237 rfl rfl ?_
    refine kx_getf dX6_trip_238 fl_X6_17_X6 kN_m rfl ?_
    refine kx_bipush (v := 10) dX6_trip_241 (by decide) ?_
    refine kN_ald hd dX6_trip_243 h (fun v37 ev37 h => ?_)
    refine kx_iadd dX6_trip_244 ?_
    refine kx_aload_n dX6_trip_245 rfl rfl ?_
    refine kx_iload_n dX6_trip_246 rfl rfl ?_
    refine kx_iconst (v := 0) dX6_trip_247 (by decide) ?_
    obtain ⟨r38, er38, h⟩ := bd_s h
    refine kx_callV dX6_trip_248 lk_X6_391 (mM_featureOf hd er38) rfl kN_rc rfl (Nat.le_of_ble_eq_true rfl) (Nat.le_of_ble_eq_true rfl) (Nat.le_of_ble_eq_true rfl) (Nat.le_of_ble_eq_true rfl) (Nat.le_of_ble_eq_true rfl) (fun _ _ _ h => h.elim) (fun w_ σ_ hq => ?_)
    obtain ⟨rfl, rfl⟩ := hq
    refine kN_fst hd dX6_trip_251 h (fun s39 es39 h => ?_)
    refine kx_aload_n dX6_trip_252 rfl rfl ?_
    refine kx_getf dX6_trip_253 fl_X6_17_X6 kN_m rfl ?_
    refine kx_bipush (v := 10) dX6_trip_256 (by decide) ?_
    refine kx_dup2_11 dX6_trip_258 rfl rfl ?_
    refine kN_ald hd dX6_trip_259 h (fun v40 ev40 h => ?_)
    refine kx_iconst (v := 1) dX6_trip_260 (by decide) ?_
    refine kx_iadd dX6_trip_261 ?_
    refine kN_ast hd dX6_trip_262 h (fun s41 es41 h => ?_)
    refine kx_aload_n dX6_trip_263 rfl rfl ?_
    refine kx_iload_n dX6_trip_264 rfl rfl ?_
    refine kx_iconst (v := 2) dX6_trip_265 (by decide) ?_
    obtain ⟨r42, er42, h⟩ := bd_s h
    refine kx_callV dX6_trip_266 lk_X6_70 (mM_ofBranch hd er42) rfl kN_rc rfl (Nat.le_of_ble_eq_true rfl) (Nat.le_of_ble_eq_true rfl) (Nat.le_of_ble_eq_true rfl) (Nat.le_of_ble_eq_true rfl) (Nat.le_of_ble_eq_true rfl) (fun _ _ _ h => h.elim) (fun w_ σ_ hq => ?_)
    obtain ⟨rfl, rfl⟩ := hq
    refine kx_iconst (v := 1) dX6_trip_269 (by decide) ?_
    refine kx_iadd dX6_trip_270 ?_
    refine kx_istore dX6_trip_271 (Nat.le_of_ble_eq_true rfl) ?_
    refine kx_aload_n dX6_trip_273 rfl rfl ?_
    refine kx_iload_n dX6_trip_274 rfl rfl ?_
    refine kx_iconst (v := 2) dX6_trip_275 (by decide) ?_
    refine kx_iload dX6_trip_276 rfl ?_
    obtain ⟨r43, er43, h⟩ := bd_s h
    refine kx_callV dX6_trip_278 lk_X6_270 (mM_setBranch hd er43) rfl kN_rc rfl (Nat.le_of_ble_eq_true rfl) (Nat.le_of_ble_eq_true rfl) (Nat.le_of_ble_eq_true rfl) (Nat.le_of_ble_eq_true rfl) (Nat.le_of_ble_eq_true rfl) (fun _ _ _ h => h.elim) (fun w_ σ_ hq => ?_)
    obtain ⟨rfl, rfl⟩ := hq
    refine kx_aload_n dX6_trip_281 rfl rfl ?_
    refine kx_iload_n dX6_trip_282 rfl rfl ?_
    refine kx_iconst (v := 1) dX6_trip_283 (by decide) ?_
    refine kx_iload dX6_trip_284 rfl ?_
    refine kx_iconst (v := 3) dX6_trip_286 (by decide) ?_
    obtain ⟨r44, er44, h⟩ := bd_s h
    refine kN_j (MP τ m ad r44.1) 295 [.int (r44.2), .int ((1 : Int32)), .int (x1), .ref m] ?_ (fun jr44 => ?_)
    · skip
      obtain ⟨r45, er45, h⟩ := bd_s h
      refine kx_callV dX6_trip_295 lk_X6_270 (mM_setBranch hd er45) rfl kN_rc rfl (Nat.le_of_ble_eq_true rfl) (Nat.le_of_ble_eq_true rfl) (Nat.le_of_ble_eq_true rfl) (Nat.le_of_ble_eq_true rfl) (Nat.le_of_ble_eq_true rfl) (fun _ _ _ h => h.elim) (fun w_ σ_ hq => ?_)
      obtain ⟨rfl, rfl⟩ := hq
      refine kx_aload_n dX6_trip_298 rfl rfl ?_
      refine kx_iload_n dX6_trip_299 rfl rfl ?_
      refine kx_iconst (v := 3) dX6_trip_300 (by decide) ?_
      refine kx_iconst (v := 0) dX6_trip_301 (by decide) ?_
      obtain ⟨r46, er46, h⟩ := bd_s h
      refine kx_callV dX6_trip_302 lk_X6_270 (mM_setBranch hd er46) rfl kN_rc rfl (Nat.le_of_ble_eq_true rfl) (Nat.le_of_ble_eq_true rfl) (Nat.le_of_ble_eq_true rfl) (Nat.le_of_ble_eq_true rfl) (Nat.le_of_ble_eq_true rfl) (fun _ _ _ h => h.elim) (fun w_ σ_ hq => ?_)
      obtain ⟨rfl, rfl⟩ := hq
      refine kx_aload_n dX6_trip_305 rfl rfl ?_
      refine kx_iload_n dX6_trip_306 rfl rfl ?_
      refine kx_iconst (v := 5) dX6_trip_307 (by decide) ?_
      refine kx_iconst (v := 0) dX6_trip_308 (by decide) ?_
      obtain ⟨r47, er47, h⟩ := bd_s h
      refine kx_callV dX6_trip_309 lk_X6_270 (mM_setBranch hd er47) rfl kN_rc rfl (Nat.le_of_ble_eq_true rfl) (Nat.le_of_ble_eq_true rfl) (Nat.le_of_ble_eq_true rfl) (Nat.le_of_ble_eq_true rfl) (Nat.le_of_ble_eq_true rfl) (fun _ _ _ h => h.elim) (fun w_ σ_ hq => ?_)
      obtain ⟨rfl, rfl⟩ := hq
      exact kx_vret dX6_trip_312 rfl (hQ _ _ (rtV (Option.some.inj h)))
    · have h := er44
      refine kx_icmp_lt (tgt := 294) dX6_trip_287 (by decide) (fun c => ?_) (fun c => ?_)
      · have h := if_t c h
        refine kx_iconst (v := 1) dX6_trip_294 (by decide) ?_
        exact jnI h jr44
      · have h := if_f c h
        refine kx_iconst (v := 2) dX6_trip_290 (by decide) ?_
        refine kx_goto (tgt := 295) dX6_trip_291 (by decide) ?_
        exact jnI h jr44
set_option maxHeartbeats 4000000 in
theorem mM_sample {G : KG} {τ : KHp} {m : Nat} {ad : Nat → Nat} {s : TS} {x1 : Int32} {x2 : Int32} {z : TS × UInt32} (hd : Md m ad) (h : P_sample s x1 x2 = some z) : kx_c G yX6_sample (ws_ yX6_sample cX6_sample 3 (Option.some Jvm.ClassFile.FieldType.float)) 3 0 0 [.ref m, .int (x1), .int (x2)] (MP τ m ad s) (fun rv σ' => rv = some (.float z.2) ∧ σ' = MP τ m ad z.1) kx_n := by
  refine kx_mk3 (ini := false) rfl (Nat.le_of_ble_eq_true rfl) (fun h => by cases h) (fun Q X hQ hX => ?_)
  unfold P_sample at h
  refine kx_aload_n dX6_sample_0 rfl rfl ?_
  refine kx_aload_n dX6_sample_1 rfl rfl ?_
  refine kx_iload_n dX6_sample_2 rfl rfl ?_
  obtain ⟨r1, er1, h⟩ := bd_s h
  refine kx_callV dX6_sample_3 lk_X6_329 (mM_isBranch hd er1) rfl kN_rc rfl (Nat.le_of_ble_eq_true rfl) (Nat.le_of_ble_eq_true rfl) (Nat.le_of_ble_eq_true rfl) (Nat.le_of_ble_eq_true rfl) (Nat.le_of_ble_eq_true rfl) (fun _ _ _ h => h.elim) (fun w_ σ_ hq => ?_)
  obtain ⟨rfl, rfl⟩ := hq
  refine kx_iload_n dX6_sample_6 rfl rfl ?_
  refine kx_i2l dX6_sample_7 rfl ?_
  refine kx_lconst (v := 0) dX6_sample_8 (by decide) ?_
  refine kx_aload_n dX6_sample_9 rfl rfl ?_
  refine kx_getf dX6_sample_10 fl_X6_17_X6 kN_m rfl ?_
  refine kx_iconst (v := 0) dX6_sample_13 (by decide) ?_
  refine kN_ald hd dX6_sample_14 h (fun v2 ev2 h => ?_)
  refine kx_iconst (v := 1) dX6_sample_15 (by decide) ?_
  refine kx_isub dX6_sample_16 ?_
  refine kx_i2l dX6_sample_17 rfl ?_
  obtain ⟨r3, er3, h⟩ := bd_s h
  refine kx_callS dX6_sample_18 lk_X6_66 (mM_in hd er3) rfl rfl (Nat.le_of_ble_eq_true rfl) (Nat.le_of_ble_eq_true rfl) (Nat.le_of_ble_eq_true rfl) (Nat.le_of_ble_eq_true rfl) (Nat.le_of_ble_eq_true rfl) (fun _ _ _ h => h.elim) (fun w_ σ_ hq => ?_)
  obtain ⟨rfl, rfl⟩ := hq
  refine kx_aload_n dX6_sample_21 rfl rfl ?_
  refine kx_iload_n dX6_sample_22 rfl rfl ?_
  obtain ⟨r4, er4, h⟩ := bd_s h
  refine kx_callV dX6_sample_23 lk_X6_329 (mM_isBranch hd er4) rfl kN_rc rfl (Nat.le_of_ble_eq_true rfl) (Nat.le_of_ble_eq_true rfl) (Nat.le_of_ble_eq_true rfl) (Nat.le_of_ble_eq_true rfl) (Nat.le_of_ble_eq_true rfl) (fun _ _ _ h => h.elim) (fun w_ σ_ hq => ?_)
  obtain ⟨rfl, rfl⟩ := hq
  obtain ⟨r5, er5, h⟩ := bd_s h
  refine kN_j (MP τ m ad r5.1) 42 [.int (r5.2), .int (r3.2), .int (r1.2), .ref m] ?_ (fun jr5 => ?_)
  · skip
    obtain ⟨r7, er7, h⟩ := bd_s h
    refine kx_callV dX6_sample_42 lk_X6_347 (mM_passes3 hd er7) rfl kN_rc rfl (Nat.le_of_ble_eq_true rfl) (Nat.le_of_ble_eq_true rfl) (Nat.le_of_ble_eq_true rfl) (Nat.le_of_ble_eq_true rfl) (Nat.le_of_ble_eq_true rfl) (fun _ _ _ h => h.elim) (fun w_ σ_ hq => ?_)
    obtain ⟨rfl, rfl⟩ := hq
    obtain ⟨r8, er8, h⟩ := bd_s h
    refine kN_j (MP τ m ad r8.1) 63 [.float (r8.2)] ?_ (fun jr8 => ?_)
    · skip
      exact kx_fret dX6_sample_63 rfl (hQ _ _ (rtF (Option.some.inj h)))
    · have h := er8
      refine kx_if_eq (tgt := 62) dX6_sample_45 (by decide) (fun c => ?_) (fun c => ?_)
      · have h := if_t c h
        refine kx_fconst0 dX6_sample_62 ?_
        exact jnF h jr8
      · have h := if_f c h
        refine kx_aload_n dX6_sample_48 rfl rfl ?_
        refine kx_getf dX6_sample_49 fl_X6_27_X6 kN_m rfl ?_
        refine kx_bipush (v := 38) dX6_sample_52 (by decide) ?_
        refine kx_iload_n dX6_sample_54 rfl rfl ?_
        refine kx_imul dX6_sample_55 ?_
        refine kx_iload_n dX6_sample_56 rfl rfl ?_
        refine kx_iadd dX6_sample_57 ?_
        refine kN_fld hd dX6_sample_58 h (fun v9 ev9 h => ?_)
        refine kx_goto (tgt := 63) dX6_sample_59 (by decide) ?_
        exact jnF h jr8
  · have h := er5
    refine kx_if_eq (tgt := 37) dX6_sample_26 (by decide) (fun c => ?_) (fun c => ?_)
    · have h := if_t c h
      refine kx_iconst (v := 1) dX6_sample_37 (by decide) ?_
      refine kx_goto (tgt := 42) dX6_sample_38 (by decide) ?_
      exact jnI h jr5
    · have h := if_f c h
      refine kx_aload_n dX6_sample_29 rfl rfl ?_
      refine kx_iload_n dX6_sample_30 rfl rfl ?_
      obtain ⟨r6, er6, h⟩ := bd_s h
      refine kx_callV dX6_sample_31 lk_X6_443 (mM_hasHad hd er6) rfl kN_rc rfl (Nat.le_of_ble_eq_true rfl) (Nat.le_of_ble_eq_true rfl) (Nat.le_of_ble_eq_true rfl) (Nat.le_of_ble_eq_true rfl) (Nat.le_of_ble_eq_true rfl) (fun _ _ _ h => h.elim) (fun w_ σ_ hq => ?_)
      obtain ⟨rfl, rfl⟩ := hq
      refine kx_if_eq (tgt := 41) dX6_sample_34 (by decide) (fun c => ?_) (fun c => ?_)
      · have h := if_t c h
        refine kx_iconst (v := 0) dX6_sample_41 (by decide) ?_
        exact jnI h jr5
      · have h := if_f c h
        refine kx_iconst (v := 1) dX6_sample_37 (by decide) ?_
        refine kx_goto (tgt := 42) dX6_sample_38 (by decide) ?_
        exact jnI h jr5
set_option maxHeartbeats 4000000 in
theorem mM_feature {G : KG} {τ : KHp} {m : Nat} {ad : Nat → Nat} {s : TS} {x1 : Int32} {x2 : Int32} {z : TS × UInt32} (hd : Md m ad) (h : P_feature s x1 x2 = some z) : kx_c G yX6_feature (ws_ yX6_feature cX6_feature 3 (Option.some Jvm.ClassFile.FieldType.float)) 3 0 0 [.ref m, .int (x1), .int (x2)] (MP τ m ad s) (fun rv σ' => rv = some (.float z.2) ∧ σ' = MP τ m ad z.1) kx_n := by
  refine kx_mk3 (ini := false) rfl (Nat.le_of_ble_eq_true rfl) (fun h => by cases h) (fun Q X hQ hX => ?_)
  unfold P_feature at h
  refine kx_aload_n dX6_feature_0 rfl rfl ?_
  refine kx_aload_n dX6_feature_1 rfl rfl ?_
  refine kx_iload_n dX6_feature_2 rfl rfl ?_
  obtain ⟨r1, er1, h⟩ := bd_s h
  refine kx_callV dX6_feature_3 lk_X6_329 (mM_isBranch hd er1) rfl kN_rc rfl (Nat.le_of_ble_eq_true rfl) (Nat.le_of_ble_eq_true rfl) (Nat.le_of_ble_eq_true rfl) (Nat.le_of_ble_eq_true rfl) (Nat.le_of_ble_eq_true rfl) (fun _ _ _ h => h.elim) (fun w_ σ_ hq => ?_)
  obtain ⟨rfl, rfl⟩ := hq
  refine kx_iload_n dX6_feature_6 rfl rfl ?_
  obtain ⟨r2, er2, h⟩ := bd_s h
  refine kx_callS dX6_feature_7 lk_X6_448 (mM_isFeature hd er2) rfl rfl (Nat.le_of_ble_eq_true rfl) (Nat.le_of_ble_eq_true rfl) (Nat.le_of_ble_eq_true rfl) (Nat.le_of_ble_eq_true rfl) (Nat.le_of_ble_eq_true rfl) (fun _ _ _ h => h.elim) (fun w_ σ_ hq => ?_)
  obtain ⟨rfl, rfl⟩ := hq
  refine kx_aload_n dX6_feature_10 rfl rfl ?_
  refine kx_iload_n dX6_feature_11 rfl rfl ?_
  obtain ⟨r3, er3, h⟩ := bd_s h
  refine kx_callV dX6_feature_12 lk_X6_329 (mM_isBranch hd er3) rfl kN_rc rfl (Nat.le_of_ble_eq_true rfl) (Nat.le_of_ble_eq_true rfl) (Nat.le_of_ble_eq_true rfl) (Nat.le_of_ble_eq_true rfl) (Nat.le_of_ble_eq_true rfl) (fun _ _ _ h => h.elim) (fun w_ σ_ hq => ?_)
  obtain ⟨rfl, rfl⟩ := hq
  obtain ⟨r4, er4, h⟩ := bd_s h
  refine kN_j (MP τ m ad r4.1) 31 [.int (r4.2), .int (r2.2), .int (r1.2), .ref m] ?_ (fun jr4 => ?_)
  · skip
    obtain ⟨r6, er6, h⟩ := bd_s h
    refine kx_callV dX6_feature_31 lk_X6_347 (mM_passes3 hd er6) rfl kN_rc rfl (Nat.le_of_ble_eq_true rfl) (Nat.le_of_ble_eq_true rfl) (Nat.le_of_ble_eq_true rfl) (Nat.le_of_ble_eq_true rfl) (Nat.le_of_ble_eq_true rfl) (fun _ _ _ h => h.elim) (fun w_ σ_ hq => ?_)
    obtain ⟨rfl, rfl⟩ := hq
    obtain ⟨r7, er7, h⟩ := bd_s h
    refine kN_j (MP τ m ad r7.1) 47 [.float (r7.2)] ?_ (fun jr7 => ?_)
    · skip
      exact kx_fret dX6_feature_47 rfl (hQ _ _ (rtF (Option.some.inj h)))
    · have h := er7
      refine kx_if_eq (tgt := 46) dX6_feature_34 (by decide) (fun c => ?_) (fun c => ?_)
      · have h := if_t c h
        refine kx_fconst0 dX6_feature_46 ?_
        exact jnF h jr7
      · have h := if_f c h
        refine kx_aload_n dX6_feature_37 rfl rfl ?_
        refine kx_iload_n dX6_feature_38 rfl rfl ?_
        refine kx_iload_n dX6_feature_39 rfl rfl ?_
        obtain ⟨r8, er8, h⟩ := bd_s h
        refine kx_callV dX6_feature_40 lk_X6_391 (mM_featureOf hd er8) rfl kN_rc rfl (Nat.le_of_ble_eq_true rfl) (Nat.le_of_ble_eq_true rfl) (Nat.le_of_ble_eq_true rfl) (Nat.le_of_ble_eq_true rfl) (Nat.le_of_ble_eq_true rfl) (fun _ _ _ h => h.elim) (fun w_ σ_ hq => ?_)
        obtain ⟨rfl, rfl⟩ := hq
        refine kx_goto (tgt := 47) dX6_feature_43 (by decide) ?_
        exact jnF h jr7
  · have h := er4
    refine kx_if_eq (tgt := 26) dX6_feature_15 (by decide) (fun c => ?_) (fun c => ?_)
    · have h := if_t c h
      refine kx_iconst (v := 1) dX6_feature_26 (by decide) ?_
      refine kx_goto (tgt := 31) dX6_feature_27 (by decide) ?_
      exact jnI h jr4
    · have h := if_f c h
      refine kx_aload_n dX6_feature_18 rfl rfl ?_
      refine kx_iload_n dX6_feature_19 rfl rfl ?_
      obtain ⟨r5, er5, h⟩ := bd_s h
      refine kx_callV dX6_feature_20 lk_X6_443 (mM_hasHad hd er5) rfl kN_rc rfl (Nat.le_of_ble_eq_true rfl) (Nat.le_of_ble_eq_true rfl) (Nat.le_of_ble_eq_true rfl) (Nat.le_of_ble_eq_true rfl) (Nat.le_of_ble_eq_true rfl) (fun _ _ _ h => h.elim) (fun w_ σ_ hq => ?_)
      obtain ⟨rfl, rfl⟩ := hq
      refine kx_if_eq (tgt := 30) dX6_feature_23 (by decide) (fun c => ?_) (fun c => ?_)
      · have h := if_t c h
        refine kx_iconst (v := 0) dX6_feature_30 (by decide) ?_
        exact jnI h jr4
      · have h := if_f c h
        refine kx_iconst (v := 1) dX6_feature_26 (by decide) ?_
        refine kx_goto (tgt := 31) dX6_feature_27 (by decide) ?_
        exact jnI h jr4
set_option maxHeartbeats 4000000 in
theorem mM_matching {G : KG} {τ : KHp} {m : Nat} {ad : Nat → Nat} {s : TS} {x1 : Int32} {z : TS × Int32} (hd : Md m ad) (h : P_matching s x1 = some z) : kx_c G yX6_matching (ws_ yX6_matching cX6_matching 2 (Option.some Jvm.ClassFile.FieldType.int)) 3 0 0 [.ref m, .int (x1)] (MP τ m ad s) (fun rv σ' => rv = some (.int z.2) ∧ σ' = MP τ m ad z.1) kx_n := by
  refine kx_mk3 (ini := false) rfl (Nat.le_of_ble_eq_true rfl) (fun h => by cases h) (fun Q X hQ hX => ?_)
  unfold P_matching at h
  refine kx_aload_n dX6_matching_0 rfl rfl ?_
  refine kx_aload_n dX6_matching_1 rfl rfl ?_
  refine kx_iload_n dX6_matching_2 rfl rfl ?_
  obtain ⟨r1, er1, h⟩ := bd_s h
  refine kx_callV dX6_matching_3 lk_X6_329 (mM_isBranch hd er1) rfl kN_rc rfl (Nat.le_of_ble_eq_true rfl) (Nat.le_of_ble_eq_true rfl) (Nat.le_of_ble_eq_true rfl) (Nat.le_of_ble_eq_true rfl) (Nat.le_of_ble_eq_true rfl) (fun _ _ _ h => h.elim) (fun w_ σ_ hq => ?_)
  obtain ⟨rfl, rfl⟩ := hq
  obtain ⟨r2, er2, h⟩ := bd_s h
  refine kx_callV dX6_matching_6 lk_X6_77 (mM_passes hd er2) rfl kN_rc rfl (Nat.le_of_ble_eq_true rfl) (Nat.le_of_ble_eq_true rfl) (Nat.le_of_ble_eq_true rfl) (Nat.le_of_ble_eq_true rfl) (Nat.le_of_ble_eq_true rfl) (fun _ _ _ h => h.elim) (fun w_ σ_ hq => ?_)
  obtain ⟨rfl, rfl⟩ := hq
  obtain ⟨r3, er3, h⟩ := bd_s h
  refine kN_j (MP τ m ad r3.1) 23 [.int (r3.2)] ?_ (fun jr3 => ?_)
  · skip
    exact kx_iret dX6_matching_23 rfl (hQ _ _ (rtI (Option.some.inj h)))
  · have h := er3
    refine kx_if_eq (tgt := 22) dX6_matching_9 (by decide) (fun c => ?_) (fun c => ?_)
    · have h := if_t c h
      refine kx_iconst (v := 0) dX6_matching_22 (by decide) ?_
      exact jnI h jr3
    · have h := if_f c h
      refine kx_aload_n dX6_matching_12 rfl rfl ?_
      refine kx_iload_n dX6_matching_13 rfl rfl ?_
      refine kx_bipush (v := 6) dX6_matching_14 (by decide) ?_
      obtain ⟨r4, er4, h⟩ := bd_s h
      refine kx_callV dX6_matching_16 lk_X6_70 (mM_ofBranch hd er4) rfl kN_rc rfl (Nat.le_of_ble_eq_true rfl) (Nat.le_of_ble_eq_true rfl) (Nat.le_of_ble_eq_true rfl) (Nat.le_of_ble_eq_true rfl) (Nat.le_of_ble_eq_true rfl) (fun _ _ _ h => h.elim) (fun w_ σ_ hq => ?_)
      obtain ⟨rfl, rfl⟩ := hq
      refine kx_goto (tgt := 23) dX6_matching_19 (by decide) ?_
      exact jnI h jr3
set_option maxHeartbeats 4000000 in
theorem mM_hiding {G : KG} {τ : KHp} {m : Nat} {ad : Nat → Nat} {s : TS} {x1 : Int32} {z : TS × Int32} (hd : Md m ad) (h : P_hiding s x1 = some z) : kx_c G yX6_hiding (ws_ yX6_hiding cX6_hiding 2 (Option.some Jvm.ClassFile.FieldType.int)) 3 0 0 [.ref m, .int (x1)] (MP τ m ad s) (fun rv σ' => rv = some (.int z.2) ∧ σ' = MP τ m ad z.1) kx_n := by
  refine kx_mk3 (ini := false) rfl (Nat.le_of_ble_eq_true rfl) (fun h => by cases h) (fun Q X hQ hX => ?_)
  unfold P_hiding at h
  refine kx_aload_n dX6_hiding_0 rfl rfl ?_
  refine kx_aload_n dX6_hiding_1 rfl rfl ?_
  refine kx_iload_n dX6_hiding_2 rfl rfl ?_
  obtain ⟨r1, er1, h⟩ := bd_s h
  refine kx_callV dX6_hiding_3 lk_X6_329 (mM_isBranch hd er1) rfl kN_rc rfl (Nat.le_of_ble_eq_true rfl) (Nat.le_of_ble_eq_true rfl) (Nat.le_of_ble_eq_true rfl) (Nat.le_of_ble_eq_true rfl) (Nat.le_of_ble_eq_true rfl) (fun _ _ _ h => h.elim) (fun w_ σ_ hq => ?_)
  obtain ⟨rfl, rfl⟩ := hq
  obtain ⟨r2, er2, h⟩ := bd_s h
  refine kx_callV dX6_hiding_6 lk_X6_77 (mM_passes hd er2) rfl kN_rc rfl (Nat.le_of_ble_eq_true rfl) (Nat.le_of_ble_eq_true rfl) (Nat.le_of_ble_eq_true rfl) (Nat.le_of_ble_eq_true rfl) (Nat.le_of_ble_eq_true rfl) (fun _ _ _ h => h.elim) (fun w_ σ_ hq => ?_)
  obtain ⟨rfl, rfl⟩ := hq
  obtain ⟨r3, er3, h⟩ := bd_s h
  refine kN_j (MP τ m ad r3.1) 23 [.int (r3.2)] ?_ (fun jr3 => ?_)
  · skip
    exact kx_iret dX6_hiding_23 rfl (hQ _ _ (rtI (Option.some.inj h)))
  · have h := er3
    refine kx_if_eq (tgt := 22) dX6_hiding_9 (by decide) (fun c => ?_) (fun c => ?_)
    · have h := if_t c h
      refine kx_iconst (v := 0) dX6_hiding_22 (by decide) ?_
      exact jnI h jr3
    · have h := if_f c h
      refine kx_aload_n dX6_hiding_12 rfl rfl ?_
      refine kx_iload_n dX6_hiding_13 rfl rfl ?_
      refine kx_bipush (v := 7) dX6_hiding_14 (by decide) ?_
      obtain ⟨r4, er4, h⟩ := bd_s h
      refine kx_callV dX6_hiding_16 lk_X6_70 (mM_ofBranch hd er4) rfl kN_rc rfl (Nat.le_of_ble_eq_true rfl) (Nat.le_of_ble_eq_true rfl) (Nat.le_of_ble_eq_true rfl) (Nat.le_of_ble_eq_true rfl) (Nat.le_of_ble_eq_true rfl) (fun _ _ _ h => h.elim) (fun w_ σ_ hq => ?_)
      obtain ⟨rfl, rfl⟩ := hq
      refine kx_goto (tgt := 23) dX6_hiding_19 (by decide) ?_
      exact jnI h jr3
set_option maxHeartbeats 4000000 in
theorem mM_isSuspect {G : KG} {τ : KHp} {m : Nat} {ad : Nat → Nat} {s : TS} {x1 : Int32} {z : TS × Int32} (hd : Md m ad) (h : P_isSuspect s x1 = some z) : kx_c G yX6_isSuspect (ws_ yX6_isSuspect cX6_isSuspect 2 (Option.some Jvm.ClassFile.FieldType.boolean)) 3 0 0 [.ref m, .int (x1)] (MP τ m ad s) (fun rv σ' => rv = some (.int z.2) ∧ σ' = MP τ m ad z.1) kx_n := by
  refine kx_mk3 (ini := false) rfl (Nat.le_of_ble_eq_true rfl) (fun h => by cases h) (fun Q X hQ hX => ?_)
  unfold P_isSuspect at h
  refine kx_aload_n dX6_isSuspect_0 rfl rfl ?_
  refine kx_aload_n dX6_isSuspect_1 rfl rfl ?_
  refine kx_iload_n dX6_isSuspect_2 rfl rfl ?_
  obtain ⟨r1, er1, h⟩ := bd_s h
  refine kx_callV dX6_isSuspect_3 lk_X6_329 (mM_isBranch hd er1) rfl kN_rc rfl (Nat.le_of_ble_eq_true rfl) (Nat.le_of_ble_eq_true rfl) (Nat.le_of_ble_eq_true rfl) (Nat.le_of_ble_eq_true rfl) (Nat.le_of_ble_eq_true rfl) (fun _ _ _ h => h.elim) (fun w_ σ_ hq => ?_)
  obtain ⟨rfl, rfl⟩ := hq
  obtain ⟨r2, er2, h⟩ := bd_s h
  refine kx_callV dX6_isSuspect_6 lk_X6_77 (mM_passes hd er2) rfl kN_rc rfl (Nat.le_of_ble_eq_true rfl) (Nat.le_of_ble_eq_true rfl) (Nat.le_of_ble_eq_true rfl) (Nat.le_of_ble_eq_true rfl) (Nat.le_of_ble_eq_true rfl) (fun _ _ _ h => h.elim) (fun w_ σ_ hq => ?_)
  obtain ⟨rfl, rfl⟩ := hq
  obtain ⟨r3, er3, h⟩ := bd_s h
  refine kN_j (MP τ m ad r3.1) 28 [.int (r3.2)] ?_ (fun jr3 => ?_)
  · skip
    refine kN_zret dX6_isSuspect_28 rfl h (fun v5 ev5 h => hQ _ _ (by subst ev5; exact rtI (Option.some.inj h)))
  · have h := er3
    refine kx_if_eq (tgt := 27) dX6_isSuspect_9 (by decide) (fun c => ?_) (fun c => ?_)
    · have h := if_t c h
      refine kx_iconst (v := 0) dX6_isSuspect_27 (by decide) ?_
      exact jnI h jr3
    · have h := if_f c h
      refine kx_aload_n dX6_isSuspect_12 rfl rfl ?_
      refine kx_iload_n dX6_isSuspect_13 rfl rfl ?_
      refine kx_bipush (v := 8) dX6_isSuspect_14 (by decide) ?_
      obtain ⟨r4, er4, h⟩ := bd_s h
      refine kx_callV dX6_isSuspect_16 lk_X6_70 (mM_ofBranch hd er4) rfl kN_rc rfl (Nat.le_of_ble_eq_true rfl) (Nat.le_of_ble_eq_true rfl) (Nat.le_of_ble_eq_true rfl) (Nat.le_of_ble_eq_true rfl) (Nat.le_of_ble_eq_true rfl) (fun _ _ _ h => h.elim) (fun w_ σ_ hq => ?_)
      obtain ⟨rfl, rfl⟩ := hq
      refine kx_iconst (v := 1) dX6_isSuspect_19 (by decide) ?_
      refine kx_icmp_ne (tgt := 27) dX6_isSuspect_20 (by decide) (fun c => ?_) (fun c => ?_)
      · have h := if_f c h
        refine kx_iconst (v := 0) dX6_isSuspect_27 (by decide) ?_
        exact jnI h jr3
      · have h := if_t c h
        refine kx_iconst (v := 1) dX6_isSuspect_23 (by decide) ?_
        refine kx_goto (tgt := 28) dX6_isSuspect_24 (by decide) ?_
        exact jnI h jr3
set_option maxHeartbeats 4000000 in
theorem mM_suspects {G : KG} {τ : KHp} {m : Nat} {ad : Nat → Nat} {s : TS} {x1 : Int32} {z : TS × Int32} (hd : Md m ad) (h : P_suspects s x1 = some z) : kx_c G yX6_suspects (ws_ yX6_suspects cX6_suspects 2 (Option.some Jvm.ClassFile.FieldType.int)) 3 0 0 [.ref m, .int (x1)] (MP τ m ad s) (fun rv σ' => rv = some (.int z.2) ∧ σ' = MP τ m ad z.1) kx_n := by
  refine kx_mk3 (ini := false) rfl (Nat.le_of_ble_eq_true rfl) (fun h => by cases h) (fun Q X hQ hX => ?_)
  unfold P_suspects at h
  refine kx_aload_n dX6_suspects_0 rfl rfl ?_
  refine kx_aload_n dX6_suspects_1 rfl rfl ?_
  refine kx_iload_n dX6_suspects_2 rfl rfl ?_
  obtain ⟨r1, er1, h⟩ := bd_s h
  refine kx_callV dX6_suspects_3 lk_X6_329 (mM_isBranch hd er1) rfl kN_rc rfl (Nat.le_of_ble_eq_true rfl) (Nat.le_of_ble_eq_true rfl) (Nat.le_of_ble_eq_true rfl) (Nat.le_of_ble_eq_true rfl) (Nat.le_of_ble_eq_true rfl) (fun _ _ _ h => h.elim) (fun w_ σ_ hq => ?_)
  obtain ⟨rfl, rfl⟩ := hq
  obtain ⟨r2, er2, h⟩ := bd_s h
  refine kx_callV dX6_suspects_6 lk_X6_77 (mM_passes hd er2) rfl kN_rc rfl (Nat.le_of_ble_eq_true rfl) (Nat.le_of_ble_eq_true rfl) (Nat.le_of_ble_eq_true rfl) (Nat.le_of_ble_eq_true rfl) (Nat.le_of_ble_eq_true rfl) (fun _ _ _ h => h.elim) (fun w_ σ_ hq => ?_)
  obtain ⟨rfl, rfl⟩ := hq
  obtain ⟨r3, er3, h⟩ := bd_s h
  refine kN_j (MP τ m ad r3.1) 26 [.int (r3.2)] ?_ (fun jr3 => ?_)
  · skip
    exact kx_iret dX6_suspects_26 rfl (hQ _ _ (rtI (Option.some.inj h)))
  · have h := er3
    refine kx_if_eq (tgt := 25) dX6_suspects_9 (by decide) (fun c => ?_) (fun c => ?_)
    · have h := if_t c h
      refine kx_iconst (v := 0) dX6_suspects_25 (by decide) ?_
      exact jnI h jr3
    · have h := if_f c h
      refine kx_aload_n dX6_suspects_12 rfl rfl ?_
      refine kx_iload_n dX6_suspects_13 rfl rfl ?_
      refine kx_aload_n dX6_suspects_14 rfl rfl ?_
      refine kx_iload_n dX6_suspects_15 rfl rfl ?_
      obtain ⟨r4, er4, h⟩ := bd_s h
      refine kx_callV dX6_suspects_16 lk_X6_405 (mM_windowOf hd er4) rfl kN_rc rfl (Nat.le_of_ble_eq_true rfl) (Nat.le_of_ble_eq_true rfl) (Nat.le_of_ble_eq_true rfl) (Nat.le_of_ble_eq_true rfl) (Nat.le_of_ble_eq_true rfl) (fun _ _ _ h => h.elim) (fun w_ σ_ hq => ?_)
      obtain ⟨rfl, rfl⟩ := hq
      obtain ⟨r5, er5, h⟩ := bd_s h
      refine kx_callV dX6_suspects_19 lk_X6_422 (mM_suspectsOf hd er5) rfl kN_rc rfl (Nat.le_of_ble_eq_true rfl) (Nat.le_of_ble_eq_true rfl) (Nat.le_of_ble_eq_true rfl) (Nat.le_of_ble_eq_true rfl) (Nat.le_of_ble_eq_true rfl) (fun _ _ _ h => h.elim) (fun w_ σ_ hq => ?_)
      obtain ⟨rfl, rfl⟩ := hq
      refine kx_goto (tgt := 26) dX6_suspects_22 (by decide) ?_
      exact jnI h jr3
set_option maxHeartbeats 4000000 in
theorem mM_margin {G : KG} {τ : KHp} {m : Nat} {ad : Nat → Nat} {s : TS} {x1 : Int32} {z : TS × Int32} (hd : Md m ad) (h : P_margin s x1 = some z) : kx_c G yX6_margin (ws_ yX6_margin cX6_margin 2 (Option.some Jvm.ClassFile.FieldType.int)) 4 0 0 [.ref m, .int (x1)] (MP τ m ad s) (fun rv σ' => rv = some (.int z.2) ∧ σ' = MP τ m ad z.1) kx_n := by
  refine kx_mk3 (ini := false) rfl (Nat.le_of_ble_eq_true rfl) (fun h => by cases h) (fun Q X hQ hX => ?_)
  unfold P_margin at h
  refine kx_aload_n dX6_margin_0 rfl rfl ?_
  refine kx_aload_n dX6_margin_1 rfl rfl ?_
  refine kx_iload_n dX6_margin_2 rfl rfl ?_
  obtain ⟨r1, er1, h⟩ := bd_s h
  refine kx_callV dX6_margin_3 lk_X6_329 (mM_isBranch hd er1) rfl kN_rc rfl (Nat.le_of_ble_eq_true rfl) (Nat.le_of_ble_eq_true rfl) (Nat.le_of_ble_eq_true rfl) (Nat.le_of_ble_eq_true rfl) (Nat.le_of_ble_eq_true rfl) (fun _ _ _ h => h.elim) (fun w_ σ_ hq => ?_)
  obtain ⟨rfl, rfl⟩ := hq
  obtain ⟨r2, er2, h⟩ := bd_s h
  refine kx_callV dX6_margin_6 lk_X6_77 (mM_passes hd er2) rfl kN_rc rfl (Nat.le_of_ble_eq_true rfl) (Nat.le_of_ble_eq_true rfl) (Nat.le_of_ble_eq_true rfl) (Nat.le_of_ble_eq_true rfl) (Nat.le_of_ble_eq_true rfl) (fun _ _ _ h => h.elim) (fun w_ σ_ hq => ?_)
  obtain ⟨rfl, rfl⟩ := hq
  obtain ⟨r3, er3, h⟩ := bd_s h
  refine kN_j (MP τ m ad r3.1) 21 [.int (r3.2)] ?_ (fun jr3 => ?_)
  · skip
    exact kx_iret dX6_margin_21 rfl (hQ _ _ (rtI (Option.some.inj h)))
  · have h := er3
    refine kx_if_eq (tgt := 20) dX6_margin_9 (by decide) (fun c => ?_) (fun c => ?_)
    · have h := if_t c h
      refine kx_iconst (v := 0) dX6_margin_20 (by decide) ?_
      exact jnI h jr3
    · have h := if_f c h
      refine kx_aload_n dX6_margin_12 rfl rfl ?_
      refine kx_iload_n dX6_margin_13 rfl rfl ?_
      obtain ⟨r4, er4, h⟩ := bd_s h
      refine kx_callV dX6_margin_14 lk_X6_453 (mM_marginOf hd er4) rfl kN_rc rfl (Nat.le_of_ble_eq_true rfl) (Nat.le_of_ble_eq_true rfl) (Nat.le_of_ble_eq_true rfl) (Nat.le_of_ble_eq_true rfl) (Nat.le_of_ble_eq_true rfl) (fun _ _ _ h => h.elim) (fun w_ σ_ hq => ?_)
      obtain ⟨rfl, rfl⟩ := hq
      refine kx_goto (tgt := 21) dX6_margin_17 (by decide) ?_
      exact jnI h jr3
set_option maxHeartbeats 4000000 in
theorem mM_hits {G : KG} {τ : KHp} {m : Nat} {ad : Nat → Nat} {s : TS} {x1 : Int32} {z : TS × Int32} (hd : Md m ad) (h : P_hits s x1 = some z) : kx_c G yX6_hits (ws_ yX6_hits cX6_hits 2 (Option.some Jvm.ClassFile.FieldType.int)) 3 0 0 [.ref m, .int (x1)] (MP τ m ad s) (fun rv σ' => rv = some (.int z.2) ∧ σ' = MP τ m ad z.1) kx_n := by
  refine kx_mk3 (ini := false) rfl (Nat.le_of_ble_eq_true rfl) (fun h => by cases h) (fun Q X hQ hX => ?_)
  unfold P_hits at h
  refine kx_aload_n dX6_hits_0 rfl rfl ?_
  refine kx_aload_n dX6_hits_1 rfl rfl ?_
  refine kx_iload_n dX6_hits_2 rfl rfl ?_
  obtain ⟨r1, er1, h⟩ := bd_s h
  refine kx_callV dX6_hits_3 lk_X6_456 (mM_isSignature hd er1) rfl kN_rc rfl (Nat.le_of_ble_eq_true rfl) (Nat.le_of_ble_eq_true rfl) (Nat.le_of_ble_eq_true rfl) (Nat.le_of_ble_eq_true rfl) (Nat.le_of_ble_eq_true rfl) (fun _ _ _ h => h.elim) (fun w_ σ_ hq => ?_)
  obtain ⟨rfl, rfl⟩ := hq
  obtain ⟨r2, er2, h⟩ := bd_s h
  refine kx_callV dX6_hits_6 lk_X6_77 (mM_passes hd er2) rfl kN_rc rfl (Nat.le_of_ble_eq_true rfl) (Nat.le_of_ble_eq_true rfl) (Nat.le_of_ble_eq_true rfl) (Nat.le_of_ble_eq_true rfl) (Nat.le_of_ble_eq_true rfl) (fun _ _ _ h => h.elim) (fun w_ σ_ hq => ?_)
  obtain ⟨rfl, rfl⟩ := hq
  obtain ⟨r3, er3, h⟩ := bd_s h
  refine kN_j (MP τ m ad r3.1) 31 [.int (r3.2)] ?_ (fun jr3 => ?_)
  · skip
    exact kx_iret dX6_hits_31 rfl (hQ _ _ (rtI (Option.some.inj h)))
  · have h := er3
    refine kx_if_eq (tgt := 30) dX6_hits_9 (by decide) (fun c => ?_) (fun c => ?_)
    · have h := if_t c h
      refine kx_iconst (v := 0) dX6_hits_30 (by decide) ?_
      exact jnI h jr3
    · have h := if_f c h
      refine kx_aload_n dX6_hits_12 rfl rfl ?_
      refine kx_getf dX6_hits_13 fl_X6_17_X6 kN_m rfl ?_
      refine kx_sipush (v := 475) dX6_hits_16 (by decide) ?_
      refine kx_bipush (v := 27) dX6_hits_19 (by decide) ?_
      refine kx_iload_n dX6_hits_21 rfl rfl ?_
      refine kx_imul dX6_hits_22 ?_
      refine kx_iadd dX6_hits_23 ?_
      refine kx_iconst (v := 2) dX6_hits_24 (by decide) ?_
      refine kx_iadd dX6_hits_25 ?_
      refine kN_ald hd dX6_hits_26 h (fun v4 ev4 h => ?_)
      refine kx_goto (tgt := 31) dX6_hits_27 (by decide) ?_
      exact jnI h jr3
set_option maxHeartbeats 4000000 in
theorem mM_isAlways {G : KG} {τ : KHp} {m : Nat} {ad : Nat → Nat} {s : TS} {x1 : Int32} {z : TS × Int32} (hd : Md m ad) (h : P_isAlways s x1 = some z) : kx_c G yX6_isAlways (ws_ yX6_isAlways cX6_isAlways 2 (Option.some Jvm.ClassFile.FieldType.boolean)) 3 0 0 [.ref m, .int (x1)] (MP τ m ad s) (fun rv σ' => rv = some (.int z.2) ∧ σ' = MP τ m ad z.1) kx_n := by
  refine kx_mk3 (ini := false) rfl (Nat.le_of_ble_eq_true rfl) (fun h => by cases h) (fun Q X hQ hX => ?_)
  unfold P_isAlways at h
  refine kx_aload_n dX6_isAlways_0 rfl rfl ?_
  refine kx_aload_n dX6_isAlways_1 rfl rfl ?_
  refine kx_iload_n dX6_isAlways_2 rfl rfl ?_
  obtain ⟨r1, er1, h⟩ := bd_s h
  refine kx_callV dX6_isAlways_3 lk_X6_456 (mM_isSignature hd er1) rfl kN_rc rfl (Nat.le_of_ble_eq_true rfl) (Nat.le_of_ble_eq_true rfl) (Nat.le_of_ble_eq_true rfl) (Nat.le_of_ble_eq_true rfl) (Nat.le_of_ble_eq_true rfl) (fun _ _ _ h => h.elim) (fun w_ σ_ hq => ?_)
  obtain ⟨rfl, rfl⟩ := hq
  obtain ⟨r2, er2, h⟩ := bd_s h
  refine kx_callV dX6_isAlways_6 lk_X6_77 (mM_passes hd er2) rfl kN_rc rfl (Nat.le_of_ble_eq_true rfl) (Nat.le_of_ble_eq_true rfl) (Nat.le_of_ble_eq_true rfl) (Nat.le_of_ble_eq_true rfl) (Nat.le_of_ble_eq_true rfl) (fun _ _ _ h => h.elim) (fun w_ σ_ hq => ?_)
  obtain ⟨rfl, rfl⟩ := hq
  obtain ⟨r3, er3, h⟩ := bd_s h
  refine kN_j (MP τ m ad r3.1) 25 [.int (r3.2)] ?_ (fun jr3 => ?_)
  · skip
    refine kN_zret dX6_isAlways_25 rfl h (fun v5 ev5 h => hQ _ _ (by subst ev5; exact rtI (Option.some.inj h)))
  · have h := er3
    refine kx_if_eq (tgt := 24) dX6_isAlways_9 (by decide) (fun c => ?_) (fun c => ?_)
    · have h := if_t c h
      refine kx_iconst (v := 0) dX6_isAlways_24 (by decide) ?_
      exact jnI h jr3
    · have h := if_f c h
      refine kx_aload_n dX6_isAlways_12 rfl rfl ?_
      refine kx_iload_n dX6_isAlways_13 rfl rfl ?_
      obtain ⟨r4, er4, h⟩ := bd_s h
      refine kx_callV dX6_isAlways_14 lk_X6_388 (mM_isAlwaysOne hd er4) rfl kN_rc rfl (Nat.le_of_ble_eq_true rfl) (Nat.le_of_ble_eq_true rfl) (Nat.le_of_ble_eq_true rfl) (Nat.le_of_ble_eq_true rfl) (Nat.le_of_ble_eq_true rfl) (fun _ _ _ h => h.elim) (fun w_ σ_ hq => ?_)
      obtain ⟨rfl, rfl⟩ := hq
      refine kx_if_eq (tgt := 24) dX6_isAlways_17 (by decide) (fun c => ?_) (fun c => ?_)
      · have h := if_t c h
        refine kx_iconst (v := 0) dX6_isAlways_24 (by decide) ?_
        exact jnI h jr3
      · have h := if_f c h
        refine kx_iconst (v := 1) dX6_isAlways_20 (by decide) ?_
        refine kx_goto (tgt := 25) dX6_isAlways_21 (by decide) ?_
        exact jnI h jr3
set_option maxHeartbeats 4000000 in
theorem mM_nuisanceHits {G : KG} {τ : KHp} {m : Nat} {ad : Nat → Nat} {s : TS} {x1 : Int32} {z : TS × Int32} (hd : Md m ad) (h : P_nuisanceHits s x1 = some z) : kx_c G yX6_nuisanceHits (ws_ yX6_nuisanceHits cX6_nuisanceHits 2 (Option.some Jvm.ClassFile.FieldType.int)) 3 0 0 [.ref m, .int (x1)] (MP τ m ad s) (fun rv σ' => rv = some (.int z.2) ∧ σ' = MP τ m ad z.1) kx_n := by
  refine kx_mk3 (ini := false) rfl (Nat.le_of_ble_eq_true rfl) (fun h => by cases h) (fun Q X hQ hX => ?_)
  unfold P_nuisanceHits at h
  refine kx_aload_n dX6_nuisanceHits_0 rfl rfl ?_
  refine kx_aload_n dX6_nuisanceHits_1 rfl rfl ?_
  refine kx_iload_n dX6_nuisanceHits_2 rfl rfl ?_
  obtain ⟨r1, er1, h⟩ := bd_s h
  refine kx_callV dX6_nuisanceHits_3 lk_X6_459 (mM_isNuisance hd er1) rfl kN_rc rfl (Nat.le_of_ble_eq_true rfl) (Nat.le_of_ble_eq_true rfl) (Nat.le_of_ble_eq_true rfl) (Nat.le_of_ble_eq_true rfl) (Nat.le_of_ble_eq_true rfl) (fun _ _ _ h => h.elim) (fun w_ σ_ hq => ?_)
  obtain ⟨rfl, rfl⟩ := hq
  obtain ⟨r2, er2, h⟩ := bd_s h
  refine kx_callV dX6_nuisanceHits_6 lk_X6_77 (mM_passes hd er2) rfl kN_rc rfl (Nat.le_of_ble_eq_true rfl) (Nat.le_of_ble_eq_true rfl) (Nat.le_of_ble_eq_true rfl) (Nat.le_of_ble_eq_true rfl) (Nat.le_of_ble_eq_true rfl) (fun _ _ _ h => h.elim) (fun w_ σ_ hq => ?_)
  obtain ⟨rfl, rfl⟩ := hq
  obtain ⟨r3, er3, h⟩ := bd_s h
  refine kN_j (MP τ m ad r3.1) 31 [.int (r3.2)] ?_ (fun jr3 => ?_)
  · skip
    exact kx_iret dX6_nuisanceHits_31 rfl (hQ _ _ (rtI (Option.some.inj h)))
  · have h := er3
    refine kx_if_eq (tgt := 30) dX6_nuisanceHits_9 (by decide) (fun c => ?_) (fun c => ?_)
    · have h := if_t c h
      refine kx_iconst (v := 0) dX6_nuisanceHits_30 (by decide) ?_
      exact jnI h jr3
    · have h := if_f c h
      refine kx_aload_n dX6_nuisanceHits_12 rfl rfl ?_
      refine kx_getf dX6_nuisanceHits_13 fl_X6_17_X6 kN_m rfl ?_
      refine kx_sipush (v := 637) dX6_nuisanceHits_16 (by decide) ?_
      refine kx_bipush (v := 27) dX6_nuisanceHits_19 (by decide) ?_
      refine kx_iload_n dX6_nuisanceHits_21 rfl rfl ?_
      refine kx_imul dX6_nuisanceHits_22 ?_
      refine kx_iadd dX6_nuisanceHits_23 ?_
      refine kx_iconst (v := 2) dX6_nuisanceHits_24 (by decide) ?_
      refine kx_iadd dX6_nuisanceHits_25 ?_
      refine kN_ald hd dX6_nuisanceHits_26 h (fun v4 ev4 h => ?_)
      refine kx_goto (tgt := 31) dX6_nuisanceHits_27 (by decide) ?_
      exact jnI h jr3
set_option maxHeartbeats 4000000 in
theorem mM_wouldMatch {G : KG} {τ : KHp} {m : Nat} {ad : Nat → Nat} {s : TS} {x1 : Int32} {x2 : UInt32} {x3 : UInt32} {x4 : UInt32} {x5 : UInt32} {x6 : UInt32} {z : TS × Int32} (hd : Md m ad) (h : P_wouldMatch s x1 x2 x3 x4 x5 x6 = some z) : kx_c G yX6_wouldMatch (ws_ yX6_wouldMatch cX6_wouldMatch 7 (Option.some Jvm.ClassFile.FieldType.boolean)) 3 0 0 [.ref m, .int (x1), .float (x2), .float (x3), .float (x4), .float (x5), .float (x6)] (MP τ m ad s) (fun rv σ' => rv = some (.int z.2) ∧ σ' = MP τ m ad z.1) kx_n := by
  refine kx_mk3 (ini := false) rfl (Nat.le_of_ble_eq_true rfl) (fun h => by cases h) (fun Q X hQ hX => ?_)
  unfold P_wouldMatch at h
  refine kx_aload_n dX6_wouldMatch_0 rfl rfl ?_
  refine kx_aload_n dX6_wouldMatch_1 rfl rfl ?_
  refine kx_iload_n dX6_wouldMatch_2 rfl rfl ?_
  obtain ⟨r1, er1, h⟩ := bd_s h
  refine kx_callV dX6_wouldMatch_3 lk_X6_456 (mM_isSignature hd er1) rfl kN_rc rfl (Nat.le_of_ble_eq_true rfl) (Nat.le_of_ble_eq_true rfl) (Nat.le_of_ble_eq_true rfl) (Nat.le_of_ble_eq_true rfl) (Nat.le_of_ble_eq_true rfl) (fun _ _ _ h => h.elim) (fun w_ σ_ hq => ?_)
  obtain ⟨rfl, rfl⟩ := hq
  obtain ⟨r2, er2, h⟩ := bd_s h
  refine kx_callV dX6_wouldMatch_6 lk_X6_77 (mM_passes hd er2) rfl kN_rc rfl (Nat.le_of_ble_eq_true rfl) (Nat.le_of_ble_eq_true rfl) (Nat.le_of_ble_eq_true rfl) (Nat.le_of_ble_eq_true rfl) (Nat.le_of_ble_eq_true rfl) (fun _ _ _ h => h.elim) (fun w_ σ_ hq => ?_)
  obtain ⟨rfl, rfl⟩ := hq
  refine kx_if_ne (tgt := 14) dX6_wouldMatch_9 (by decide) (fun c => ?_) (fun c => ?_)
  · have h := if_f c h
    refine kx_aload_n dX6_wouldMatch_14 rfl rfl ?_
    refine kx_getf dX6_wouldMatch_15 fl_X6_48_X6 kN_m rfl ?_
    refine kx_iconst (v := 0) dX6_wouldMatch_18 (by decide) ?_
    refine kx_fload_n dX6_wouldMatch_19 rfl rfl ?_
    refine kN_fst hd dX6_wouldMatch_20 h (fun s3 es3 h => ?_)
    refine kx_aload_n dX6_wouldMatch_21 rfl rfl ?_
    refine kx_getf dX6_wouldMatch_22 fl_X6_48_X6 kN_m rfl ?_
    refine kx_iconst (v := 1) dX6_wouldMatch_25 (by decide) ?_
    refine kx_fload_n dX6_wouldMatch_26 rfl rfl ?_
    refine kN_fst hd dX6_wouldMatch_27 h (fun s4 es4 h => ?_)
    refine kx_aload_n dX6_wouldMatch_28 rfl rfl ?_
    refine kx_getf dX6_wouldMatch_29 fl_X6_48_X6 kN_m rfl ?_
    refine kx_iconst (v := 2) dX6_wouldMatch_32 (by decide) ?_
    refine kx_fload dX6_wouldMatch_33 rfl ?_
    refine kN_fst hd dX6_wouldMatch_35 h (fun s5 es5 h => ?_)
    refine kx_aload_n dX6_wouldMatch_36 rfl rfl ?_
    refine kx_getf dX6_wouldMatch_37 fl_X6_48_X6 kN_m rfl ?_
    refine kx_iconst (v := 3) dX6_wouldMatch_40 (by decide) ?_
    refine kx_fload dX6_wouldMatch_41 rfl ?_
    refine kN_fst hd dX6_wouldMatch_43 h (fun s6 es6 h => ?_)
    refine kx_aload_n dX6_wouldMatch_44 rfl rfl ?_
    refine kx_getf dX6_wouldMatch_45 fl_X6_48_X6 kN_m rfl ?_
    refine kx_iconst (v := 4) dX6_wouldMatch_48 (by decide) ?_
    refine kx_fload dX6_wouldMatch_49 rfl ?_
    refine kN_fst hd dX6_wouldMatch_51 h (fun s7 es7 h => ?_)
    refine kx_aload_n dX6_wouldMatch_52 rfl rfl ?_
    refine kx_getf dX6_wouldMatch_53 fl_X6_48_X6 kN_m rfl ?_
    refine kx_iconst (v := 5) dX6_wouldMatch_56 (by decide) ?_
    refine kx_fload_n dX6_wouldMatch_57 rfl rfl ?_
    refine kx_fload_n dX6_wouldMatch_58 rfl rfl ?_
    refine kN_fmul dX6_wouldMatch_59 h (fun v8 ev8 h => ?_)
    refine kN_fst hd dX6_wouldMatch_60 h (fun s9 es9 h => ?_)
    refine kx_aload_n dX6_wouldMatch_61 rfl rfl ?_
    refine kx_sipush (v := 475) dX6_wouldMatch_62 (by decide) ?_
    refine kx_bipush (v := 27) dX6_wouldMatch_65 (by decide) ?_
    refine kx_iload_n dX6_wouldMatch_67 rfl rfl ?_
    refine kx_imul dX6_wouldMatch_68 ?_
    refine kx_iadd dX6_wouldMatch_69 ?_
    obtain ⟨r10, er10, h⟩ := bd_s h
    refine kx_callV dX6_wouldMatch_70 lk_X6_385 (mM_holds hd er10) rfl kN_rc rfl (Nat.le_of_ble_eq_true rfl) (Nat.le_of_ble_eq_true rfl) (Nat.le_of_ble_eq_true rfl) (Nat.le_of_ble_eq_true rfl) (Nat.le_of_ble_eq_true rfl) (fun _ _ _ h => h.elim) (fun w_ σ_ hq => ?_)
    obtain ⟨rfl, rfl⟩ := hq
    refine kN_zret dX6_wouldMatch_73 rfl h (fun v11 ev11 h => hQ _ _ (by subst ev11; exact rtI (Option.some.inj h)))
  · have h := if_t c h
    refine kx_iconst (v := 0) dX6_wouldMatch_12 (by decide) ?_
    exact kx_zret dX6_wouldMatch_13 rfl rfl (hQ _ _ (rtI (Option.some.inj h)))
set_option maxHeartbeats 4000000 in
theorem mL_forget_43 {G : KG} {τ : KHp} {m : Nat} {ad : Nat → Nat} {Q : KQ} {X : KX} {y1 : Int32} {y2 : Int32} {a0 : TS × Int32} {z : TS} (hd : Md m ad) (h : loopN (fun w : TS × Int32 => B_forget_43 y1 y2 w.1 w.2) 9000 a0 = some z) (kk : kx G (yX6_forget.cls, cX6_forget, 6, (Option.some Jvm.ClassFile.FieldType.int), false, []) (3, 0, 0, Q, X) 0 0 (MP τ m ad z) 84 (kF [(0, .ref m), (1, .int (y1)), (2, .int (y2))]) []) : kx G (yX6_forget.cls, cX6_forget, 6, (Option.some Jvm.ClassFile.FieldType.int), false, []) (3, 0, 0, Q, X) 0 0 (MP τ m ad a0.1) 43 (kF [(0, .ref m), (1, .int (y1)), (2, .int (y2)), (3, .int (a0.2))]) [] := by
  refine loopK_1_0 (B := B_forget_43 y1 y2) (fun (a : TS) (a3 : Int32) => kx G (yX6_forget.cls, cX6_forget, 6, (Option.some Jvm.ClassFile.FieldType.int), false, []) (3, 0, 0, Q, X) 0 0 (MP τ m ad a) 43 (kF [(0, .ref m), (1, .int (y1)), (2, .int (y2)), (3, .int (a3))]) []) (fun (b : TS) => kx G (yX6_forget.cls, cX6_forget, 6, (Option.some Jvm.ClassFile.FieldType.int), false, []) (3, 0, 0, Q, X) 0 0 (MP τ m ad b) 84 (kF [(0, .ref m), (1, .int (y1)), (2, .int (y2))]) []) (fun a a3 r h kI kE => ?_) _ _ _ h kk
  · unfold B_forget_43 at h
    refine kx_iload_n dX6_forget_43 rfl rfl ?_
    refine kx_sipush (v := 637) dX6_forget_44 (by decide) ?_
    refine kx_bipush (v := 27) dX6_forget_47 (by decide) ?_
    refine kx_aload_n dX6_forget_49 rfl rfl ?_
    refine kx_getf dX6_forget_50 fl_X6_17_X6 kN_m rfl ?_
    refine kx_bipush (v := 6) dX6_forget_53 (by decide) ?_
    refine kN_ald hd dX6_forget_55 h (fun v43001 ev43001 h => ?_)
    refine kx_iconst (v := 1) dX6_forget_56 (by decide) ?_
    refine kx_isub dX6_forget_57 ?_
    refine kx_imul dX6_forget_58 ?_
    refine kx_iadd dX6_forget_59 ?_
    refine kx_icmp_ge (tgt := 84) dX6_forget_60 (by decide) (fun c => ?_) (fun c => ?_)
    · have h := if_t c h
      exact kx_lwF [(0, .ref m), (1, .int (y1)), (2, .int (y2))] ⟨rfl, rfl, rfl, trivial⟩ (kE (a) (Option.some.inj h).symm)
    · have h := if_f c h
      refine kx_aload_n dX6_forget_63 rfl rfl ?_
      refine kx_getf dX6_forget_64 fl_X6_17_X6 kN_m rfl ?_
      refine kx_iload_n dX6_forget_67 rfl rfl ?_
      refine kx_aload_n dX6_forget_68 rfl rfl ?_
      refine kx_getf dX6_forget_69 fl_X6_17_X6 kN_m rfl ?_
      refine kx_iload_n dX6_forget_72 rfl rfl ?_
      refine kx_bipush (v := 27) dX6_forget_73 (by decide) ?_
      refine kx_iadd dX6_forget_75 ?_
      refine kN_ald hd dX6_forget_76 h (fun v43002 ev43002 h => ?_)
      refine kN_ast hd dX6_forget_77 h (fun s43003 es43003 h => ?_)
      refine kx_iinc2 (v := 1) dX6_forget_78 rfl (by decide) ?_
      refine kx_goto (tgt := 43) dX6_forget_81 (by decide) ?_
      exact kx_lwF [(0, .ref m), (1, .int (y1)), (2, .int (y2)), (3, .int ((a3 + (1 : Int32))))] ⟨rfl, rfl, rfl, rfl, trivial⟩ (kI (s43003) ((a3 + (1 : Int32))) (Option.some.inj h).symm)
set_option maxHeartbeats 4000000 in
theorem mL_forget_97 {G : KG} {τ : KHp} {m : Nat} {ad : Nat → Nat} {Q : KQ} {X : KX} {y1 : Int32} {y2 : Int32} {a0 : TS × Int32} {z : TS} (hd : Md m ad) (h : loopN (fun w : TS × Int32 => B_forget_97 y1 y2 w.1 w.2) 9000 a0 = some z) (kk : kx G (yX6_forget.cls, cX6_forget, 6, (Option.some Jvm.ClassFile.FieldType.int), false, []) (3, 0, 0, Q, X) 0 0 (MP τ m ad z) 151 (kF [(2, .int (y2))]) []) : kx G (yX6_forget.cls, cX6_forget, 6, (Option.some Jvm.ClassFile.FieldType.int), false, []) (3, 0, 0, Q, X) 0 0 (MP τ m ad a0.1) 97 (kF [(0, .ref m), (1, .int (y1)), (2, .int (y2)), (3, .int (a0.2))]) [] := by
  refine loopK_1_0 (B := B_forget_97 y1 y2) (fun (a : TS) (a3 : Int32) => kx G (yX6_forget.cls, cX6_forget, 6, (Option.some Jvm.ClassFile.FieldType.int), false, []) (3, 0, 0, Q, X) 0 0 (MP τ m ad a) 97 (kF [(0, .ref m), (1, .int (y1)), (2, .int (y2)), (3, .int (a3))]) []) (fun (b : TS) => kx G (yX6_forget.cls, cX6_forget, 6, (Option.some Jvm.ClassFile.FieldType.int), false, []) (3, 0, 0, Q, X) 0 0 (MP τ m ad b) 151 (kF [(2, .int (y2))]) []) (fun a a3 r h kI kE => ?_) _ _ _ h kk
  · unfold B_forget_97 at h
    refine kx_iload_n dX6_forget_97 rfl rfl ?_
    refine kx_aload_n dX6_forget_98 rfl rfl ?_
    refine kx_getf dX6_forget_99 fl_X6_17_X6 kN_m rfl ?_
    refine kx_iconst (v := 3) dX6_forget_102 (by decide) ?_
    refine kN_ald hd dX6_forget_103 h (fun v97001 ev97001 h => ?_)
    refine kx_icmp_ge (tgt := 151) dX6_forget_104 (by decide) (fun c => ?_) (fun c => ?_)
    · have h := if_t c h
      exact kx_lwF [(2, .int (y2))] ⟨rfl, trivial⟩ (kE (a) (Option.some.inj h).symm)
    · have h := if_f c h
      refine kx_aload_n dX6_forget_107 rfl rfl ?_
      refine kx_iload_n dX6_forget_108 rfl rfl ?_
      refine kx_bipush (v := 7) dX6_forget_109 (by decide) ?_
      obtain ⟨r97002, er97002, h⟩ := bd_s h
      refine kx_callV dX6_forget_111 lk_X6_70 (mM_ofBranch hd er97002) rfl kN_rc rfl (Nat.le_of_ble_eq_true rfl) (Nat.le_of_ble_eq_true rfl) (Nat.le_of_ble_eq_true rfl) (Nat.le_of_ble_eq_true rfl) (Nat.le_of_ble_eq_true rfl) (fun _ _ _ h => h.elim) (fun w_ σ_ hq => ?_)
      obtain ⟨rfl, rfl⟩ := hq
      refine kx_istore dX6_forget_114 (Nat.le_of_ble_eq_true rfl) ?_
      refine kx_iconst (v := 1) dX6_forget_116 (by decide) ?_
      refine kx_iload_n dX6_forget_117 rfl rfl ?_
      refine kx_ishl dX6_forget_118 ?_
      refine kx_iconst (v := 1) dX6_forget_119 (by decide) ?_
      refine kx_isub dX6_forget_120 ?_
      refine kx_istore dX6_forget_121 (Nat.le_of_ble_eq_true rfl) ?_
      refine kx_aload_n dX6_forget_123 rfl rfl ?_
      refine kx_iload_n dX6_forget_124 rfl rfl ?_
      refine kx_bipush (v := 7) dX6_forget_125 (by decide) ?_
      refine kx_iload dX6_forget_127 rfl ?_
      refine kx_iload dX6_forget_129 rfl ?_
      refine kx_iand dX6_forget_131 ?_
      refine kx_iload dX6_forget_132 rfl ?_
      refine kx_iconst (v := 1) dX6_forget_134 (by decide) ?_
      refine kx_ishr dX6_forget_135 ?_
      refine kx_iload dX6_forget_136 rfl ?_
      refine kx_iconst (v := -1) dX6_forget_138 (by decide) ?_
      refine kx_ixor dX6_forget_139 ?_
      refine kx_iand dX6_forget_140 ?_
      refine kx_ior dX6_forget_141 ?_
      obtain ⟨r97003, er97003, h⟩ := bd_s h
      refine kx_callV dX6_forget_142 lk_X6_270 (mM_setBranch hd er97003) rfl kN_rc rfl (Nat.le_of_ble_eq_true rfl) (Nat.le_of_ble_eq_true rfl) (Nat.le_of_ble_eq_true rfl) (Nat.le_of_ble_eq_true rfl) (Nat.le_of_ble_eq_true rfl) (fun _ _ _ h => h.elim) (fun w_ σ_ hq => ?_)
      obtain ⟨rfl, rfl⟩ := hq
      refine kx_iinc2 (v := 1) dX6_forget_145 rfl (by decide) ?_
      refine kx_goto (tgt := 97) dX6_forget_148 (by decide) ?_
      exact kx_lwF [(0, .ref m), (1, .int (y1)), (2, .int (y2)), (3, .int ((a3 + (1 : Int32))))] ⟨rfl, rfl, rfl, rfl, trivial⟩ (kI (r97003) ((a3 + (1 : Int32))) (Option.some.inj h).symm)
set_option maxHeartbeats 4000000 in
theorem mM_forget {G : KG} {τ : KHp} {m : Nat} {ad : Nat → Nat} {s : TS} {x1 : Int32} {z : TS × Int32} (hd : Md m ad) (h : P_forget s x1 = some z) : kx_c G yX6_forget (ws_ yX6_forget cX6_forget 6 (Option.some Jvm.ClassFile.FieldType.int)) 3 0 0 [.ref m, .int (x1)] (MP τ m ad s) (fun rv σ' => rv = some (.int z.2) ∧ σ' = MP τ m ad z.1) kx_n := by
  refine kx_mk3 (ini := false) rfl (Nat.le_of_ble_eq_true rfl) (fun h => by cases h) (fun Q X hQ hX => ?_)
  unfold P_forget at h
  refine kx_aload_n dX6_forget_0 rfl rfl ?_
  refine kx_aload_n dX6_forget_1 rfl rfl ?_
  refine kx_iload_n dX6_forget_2 rfl rfl ?_
  obtain ⟨r1, er1, h⟩ := bd_s h
  refine kx_callV dX6_forget_3 lk_X6_459 (mM_isNuisance hd er1) rfl kN_rc rfl (Nat.le_of_ble_eq_true rfl) (Nat.le_of_ble_eq_true rfl) (Nat.le_of_ble_eq_true rfl) (Nat.le_of_ble_eq_true rfl) (Nat.le_of_ble_eq_true rfl) (fun _ _ _ h => h.elim) (fun w_ σ_ hq => ?_)
  obtain ⟨rfl, rfl⟩ := hq
  obtain ⟨r2, er2, h⟩ := bd_s h
  refine kx_callV dX6_forget_6 lk_X6_77 (mM_passes hd er2) rfl kN_rc rfl (Nat.le_of_ble_eq_true rfl) (Nat.le_of_ble_eq_true rfl) (Nat.le_of_ble_eq_true rfl) (Nat.le_of_ble_eq_true rfl) (Nat.le_of_ble_eq_true rfl) (fun _ _ _ h => h.elim) (fun w_ σ_ hq => ?_)
  obtain ⟨rfl, rfl⟩ := hq
  refine kx_if_ne (tgt := 14) dX6_forget_9 (by decide) (fun c => ?_) (fun c => ?_)
  · have h := if_f c h
    refine kx_aload_n dX6_forget_14 rfl rfl ?_
    obtain ⟨r3, er3, h⟩ := bd_s h
    refine kx_callV dX6_forget_15 lk_X6_321 (mM_remember hd er3) rfl kN_rc rfl (Nat.le_of_ble_eq_true rfl) (Nat.le_of_ble_eq_true rfl) (Nat.le_of_ble_eq_true rfl) (Nat.le_of_ble_eq_true rfl) (Nat.le_of_ble_eq_true rfl) (fun _ _ _ h => h.elim) (fun w_ σ_ hq => ?_)
    obtain ⟨rfl, rfl⟩ := hq
    refine kx_aload_n dX6_forget_18 rfl rfl ?_
    refine kx_getf dX6_forget_19 fl_X6_17_X6 kN_m rfl ?_
    refine kx_sipush (v := 637) dX6_forget_22 (by decide) ?_
    refine kx_bipush (v := 27) dX6_forget_25 (by decide) ?_
    refine kx_iload_n dX6_forget_27 rfl rfl ?_
    refine kx_imul dX6_forget_28 ?_
    refine kx_iadd dX6_forget_29 ?_
    refine kx_iconst (v := 2) dX6_forget_30 (by decide) ?_
    refine kx_iadd dX6_forget_31 ?_
    refine kN_ald hd dX6_forget_32 h (fun v4 ev4 h => ?_)
    refine kx_istore_n dX6_forget_33 rfl (Nat.le_of_ble_eq_true rfl) ?_
    refine kx_sipush (v := 637) dX6_forget_34 (by decide) ?_
    refine kx_bipush (v := 27) dX6_forget_37 (by decide) ?_
    refine kx_iload_n dX6_forget_39 rfl rfl ?_
    refine kx_imul dX6_forget_40 ?_
    refine kx_iadd dX6_forget_41 ?_
    refine kx_istore_n dX6_forget_42 rfl (Nat.le_of_ble_eq_true rfl) ?_
    obtain ⟨b5, eb5, h⟩ := bd_s h
    refine kx_lwF [(0, .ref m), (1, .int (x1)), (2, .int (v4)), (3, .int (((637 : Int32) + ((27 : Int32) * x1))))] ⟨rfl, rfl, rfl, rfl, trivial⟩ (mL_forget_43 hd (a0 := (r3, ((637 : Int32) + ((27 : Int32) * x1)))) eb5 ?_)
    refine kx_aload_n dX6_forget_84 rfl rfl ?_
    refine kx_getf dX6_forget_85 fl_X6_17_X6 kN_m rfl ?_
    refine kx_bipush (v := 6) dX6_forget_88 (by decide) ?_
    refine kx_dup2_11 dX6_forget_90 rfl rfl ?_
    refine kN_ald hd dX6_forget_91 h (fun v6 ev6 h => ?_)
    refine kx_iconst (v := 1) dX6_forget_92 (by decide) ?_
    refine kx_isub dX6_forget_93 ?_
    refine kN_ast hd dX6_forget_94 h (fun s7 es7 h => ?_)
    refine kx_iconst (v := 0) dX6_forget_95 (by decide) ?_
    refine kx_istore_n dX6_forget_96 rfl (Nat.le_of_ble_eq_true rfl) ?_
    obtain ⟨b8, eb8, h⟩ := bd_s h
    refine kx_lwF [(0, .ref m), (1, .int (x1)), (2, .int (v4)), (3, .int ((0 : Int32)))] ⟨rfl, rfl, rfl, rfl, trivial⟩ (mL_forget_97 hd (a0 := (s7, (0 : Int32))) eb8 ?_)
    refine kx_iload_n dX6_forget_151 rfl rfl ?_
    exact kx_iret dX6_forget_152 rfl (hQ _ _ (rtI (Option.some.inj h)))
  · have h := if_t c h
    refine kx_iconst (v := 0) dX6_forget_12 (by decide) ?_
    exact kx_iret dX6_forget_13 rfl (hQ _ _ (rtI (Option.some.inj h)))
set_option maxHeartbeats 4000000 in
theorem mM_setLimits {G : KG} {τ : KHp} {m : Nat} {ad : Nat → Nat} {s : TS} {x1 : Int32} {x2 : Int32} {z : TS × Int32} (hd : Md m ad) (h : P_setLimits s x1 x2 = some z) : kx_c G yX6_setLimits (ws_ yX6_setLimits cX6_setLimits 4 (Option.some Jvm.ClassFile.FieldType.int)) 3 0 0 [.ref m, .int (x1), .int (x2)] (MP τ m ad s) (fun rv σ' => rv = some (.int z.2) ∧ σ' = MP τ m ad z.1) kx_n := by
  refine kx_mk3 (ini := false) rfl (Nat.le_of_ble_eq_true rfl) (fun h => by cases h) (fun Q X hQ hX => ?_)
  unfold P_setLimits at h
  refine kx_aload_n dX6_setLimits_0 rfl rfl ?_
  refine kx_iload_n dX6_setLimits_1 rfl rfl ?_
  refine kx_i2l dX6_setLimits_2 rfl ?_
  refine kx_lconst (v := 1) dX6_setLimits_3 (by decide) ?_
  refine kx_ldc2 dX6_setLimits_4 q3330 ?_
  obtain ⟨r1, er1, h⟩ := bd_s h
  refine kx_callS dX6_setLimits_7 lk_X6_66 (mM_in hd er1) rfl rfl (Nat.le_of_ble_eq_true rfl) (Nat.le_of_ble_eq_true rfl) (Nat.le_of_ble_eq_true rfl) (Nat.le_of_ble_eq_true rfl) (Nat.le_of_ble_eq_true rfl) (fun _ _ _ h => h.elim) (fun w_ σ_ hq => ?_)
  obtain ⟨rfl, rfl⟩ := hq
  obtain ⟨r2, er2, h⟩ := bd_s h
  refine kN_j (MP τ m ad r2.1) 29 [.int (r2.2), .ref m] ?_ (fun jr2 => ?_)
  · skip
    obtain ⟨r4, er4, h⟩ := bd_s h
    refine kx_callV dX6_setLimits_29 lk_X6_77 (mM_passes hd er4) rfl kN_rc rfl (Nat.le_of_ble_eq_true rfl) (Nat.le_of_ble_eq_true rfl) (Nat.le_of_ble_eq_true rfl) (Nat.le_of_ble_eq_true rfl) (Nat.le_of_ble_eq_true rfl) (fun _ _ _ h => h.elim) (fun w_ σ_ hq => ?_)
    obtain ⟨rfl, rfl⟩ := hq
    refine kx_if_ne (tgt := 37) dX6_setLimits_32 (by decide) (fun c => ?_) (fun c => ?_)
    · have h := if_f c h
      refine kx_aload_n dX6_setLimits_37 rfl rfl ?_
      obtain ⟨r5, er5, h⟩ := bd_s h
      refine kx_callV dX6_setLimits_38 lk_X6_321 (mM_remember hd er5) rfl kN_rc rfl (Nat.le_of_ble_eq_true rfl) (Nat.le_of_ble_eq_true rfl) (Nat.le_of_ble_eq_true rfl) (Nat.le_of_ble_eq_true rfl) (Nat.le_of_ble_eq_true rfl) (fun _ _ _ h => h.elim) (fun w_ σ_ hq => ?_)
      obtain ⟨rfl, rfl⟩ := hq
      refine kx_aload_n dX6_setLimits_41 rfl rfl ?_
      refine kx_getf dX6_setLimits_42 fl_X6_17_X6 kN_m rfl ?_
      refine kx_iconst (v := 2) dX6_setLimits_45 (by decide) ?_
      refine kN_ald hd dX6_setLimits_46 h (fun v6 ev6 h => ?_)
      refine kx_istore_n dX6_setLimits_47 rfl (Nat.le_of_ble_eq_true rfl) ?_
      refine kx_aload_n dX6_setLimits_48 rfl rfl ?_
      refine kx_getf dX6_setLimits_49 fl_X6_17_X6 kN_m rfl ?_
      refine kx_iconst (v := 1) dX6_setLimits_52 (by decide) ?_
      refine kx_iload_n dX6_setLimits_53 rfl rfl ?_
      refine kN_ast hd dX6_setLimits_54 h (fun s7 es7 h => ?_)
      refine kx_aload_n dX6_setLimits_55 rfl rfl ?_
      refine kx_getf dX6_setLimits_56 fl_X6_17_X6 kN_m rfl ?_
      refine kx_iconst (v := 2) dX6_setLimits_59 (by decide) ?_
      refine kx_iload_n dX6_setLimits_60 rfl rfl ?_
      refine kN_ast hd dX6_setLimits_61 h (fun s8 es8 h => ?_)
      refine kx_iload_n dX6_setLimits_62 rfl rfl ?_
      exact kx_iret dX6_setLimits_63 rfl (hQ _ _ (rtI (Option.some.inj h)))
    · have h := if_t c h
      refine kx_iconst (v := 0) dX6_setLimits_35 (by decide) ?_
      exact kx_iret dX6_setLimits_36 rfl (hQ _ _ (rtI (Option.some.inj h)))
  · have h := er2
    refine kx_if_eq (tgt := 28) dX6_setLimits_10 (by decide) (fun c => ?_) (fun c => ?_)
    · have h := if_t c h
      refine kx_iconst (v := 0) dX6_setLimits_28 (by decide) ?_
      exact jnI h jr2
    · have h := if_f c h
      refine kx_iload_n dX6_setLimits_13 rfl rfl ?_
      refine kx_i2l dX6_setLimits_14 rfl ?_
      refine kx_lconst (v := 1) dX6_setLimits_15 (by decide) ?_
      refine kx_iload_n dX6_setLimits_16 rfl rfl ?_
      refine kx_i2l dX6_setLimits_17 rfl ?_
      obtain ⟨r3, er3, h⟩ := bd_s h
      refine kx_callS dX6_setLimits_18 lk_X6_66 (mM_in hd er3) rfl rfl (Nat.le_of_ble_eq_true rfl) (Nat.le_of_ble_eq_true rfl) (Nat.le_of_ble_eq_true rfl) (Nat.le_of_ble_eq_true rfl) (Nat.le_of_ble_eq_true rfl) (fun _ _ _ h => h.elim) (fun w_ σ_ hq => ?_)
      obtain ⟨rfl, rfl⟩ := hq
      refine kx_if_eq (tgt := 28) dX6_setLimits_21 (by decide) (fun c => ?_) (fun c => ?_)
      · have h := if_t c h
        refine kx_iconst (v := 0) dX6_setLimits_28 (by decide) ?_
        exact jnI h jr2
      · have h := if_f c h
        refine kx_iconst (v := 1) dX6_setLimits_24 (by decide) ?_
        refine kx_goto (tgt := 29) dX6_setLimits_25 (by decide) ?_
        exact jnI h jr2
set_option maxHeartbeats 4000000 in
theorem mM_service {G : KG} {τ : KHp} {m : Nat} {ad : Nat → Nat} {s : TS} {x1 : Int32} {z : TS × Int32} (hd : Md m ad) (h : P_service s x1 = some z) : kx_c G yX6_service (ws_ yX6_service cX6_service 3 (Option.some Jvm.ClassFile.FieldType.int)) 3 0 0 [.ref m, .int (x1)] (MP τ m ad s) (fun rv σ' => rv = some (.int z.2) ∧ σ' = MP τ m ad z.1) kx_n := by
  refine kx_mk3 (ini := false) rfl (Nat.le_of_ble_eq_true rfl) (fun h => by cases h) (fun Q X hQ hX => ?_)
  unfold P_service at h
  refine kx_aload_n dX6_service_0 rfl rfl ?_
  refine kx_aload_n dX6_service_1 rfl rfl ?_
  refine kx_iload_n dX6_service_2 rfl rfl ?_
  obtain ⟨r1, er1, h⟩ := bd_s h
  refine kx_callV dX6_service_3 lk_X6_329 (mM_isBranch hd er1) rfl kN_rc rfl (Nat.le_of_ble_eq_true rfl) (Nat.le_of_ble_eq_true rfl) (Nat.le_of_ble_eq_true rfl) (Nat.le_of_ble_eq_true rfl) (Nat.le_of_ble_eq_true rfl) (fun _ _ _ h => h.elim) (fun w_ σ_ hq => ?_)
  obtain ⟨rfl, rfl⟩ := hq
  obtain ⟨r2, er2, h⟩ := bd_s h
  refine kx_callV dX6_service_6 lk_X6_77 (mM_passes hd er2) rfl kN_rc rfl (Nat.le_of_ble_eq_true rfl) (Nat.le_of_ble_eq_true rfl) (Nat.le_of_ble_eq_true rfl) (Nat.le_of_ble_eq_true rfl) (Nat.le_of_ble_eq_true rfl) (fun _ _ _ h => h.elim) (fun w_ σ_ hq => ?_)
  obtain ⟨rfl, rfl⟩ := hq
  refine kx_if_ne (tgt := 14) dX6_service_9 (by decide) (fun c => ?_) (fun c => ?_)
  · have h := if_f c h
    refine kx_aload_n dX6_service_14 rfl rfl ?_
    obtain ⟨r3, er3, h⟩ := bd_s h
    refine kx_callV dX6_service_15 lk_X6_321 (mM_remember hd er3) rfl kN_rc rfl (Nat.le_of_ble_eq_true rfl) (Nat.le_of_ble_eq_true rfl) (Nat.le_of_ble_eq_true rfl) (Nat.le_of_ble_eq_true rfl) (Nat.le_of_ble_eq_true rfl) (fun _ _ _ h => h.elim) (fun w_ σ_ hq => ?_)
    obtain ⟨rfl, rfl⟩ := hq
    refine kx_aload_n dX6_service_18 rfl rfl ?_
    refine kx_iload_n dX6_service_19 rfl rfl ?_
    refine kx_iconst (v := 2) dX6_service_20 (by decide) ?_
    obtain ⟨r4, er4, h⟩ := bd_s h
    refine kx_callV dX6_service_21 lk_X6_70 (mM_ofBranch hd er4) rfl kN_rc rfl (Nat.le_of_ble_eq_true rfl) (Nat.le_of_ble_eq_true rfl) (Nat.le_of_ble_eq_true rfl) (Nat.le_of_ble_eq_true rfl) (Nat.le_of_ble_eq_true rfl) (fun _ _ _ h => h.elim) (fun w_ σ_ hq => ?_)
    obtain ⟨rfl, rfl⟩ := hq
    refine kx_istore_n dX6_service_24 rfl (Nat.le_of_ble_eq_true rfl) ?_
    refine kx_aload_n dX6_service_25 rfl rfl ?_
    refine kx_iload_n dX6_service_26 rfl rfl ?_
    refine kx_iconst (v := 2) dX6_service_27 (by decide) ?_
    refine kx_iconst (v := 0) dX6_service_28 (by decide) ?_
    obtain ⟨r5, er5, h⟩ := bd_s h
    refine kx_callV dX6_service_29 lk_X6_270 (mM_setBranch hd er5) rfl kN_rc rfl (Nat.le_of_ble_eq_true rfl) (Nat.le_of_ble_eq_true rfl) (Nat.le_of_ble_eq_true rfl) (Nat.le_of_ble_eq_true rfl) (Nat.le_of_ble_eq_true rfl) (fun _ _ _ h => h.elim) (fun w_ σ_ hq => ?_)
    obtain ⟨rfl, rfl⟩ := hq
    refine kx_aload_n dX6_service_32 rfl rfl ?_
    refine kx_iload_n dX6_service_33 rfl rfl ?_
    refine kx_iconst (v := 1) dX6_service_34 (by decide) ?_
    obtain ⟨r6, er6, h⟩ := bd_s h
    refine kx_callV dX6_service_35 lk_X6_70 (mM_ofBranch hd er6) rfl kN_rc rfl (Nat.le_of_ble_eq_true rfl) (Nat.le_of_ble_eq_true rfl) (Nat.le_of_ble_eq_true rfl) (Nat.le_of_ble_eq_true rfl) (Nat.le_of_ble_eq_true rfl) (fun _ _ _ h => h.elim) (fun w_ σ_ hq => ?_)
    obtain ⟨rfl, rfl⟩ := hq
    refine kx_iconst (v := 2) dX6_service_38 (by decide) ?_
    refine kx_icmp_ne (tgt := 49) dX6_service_39 (by decide) (fun c => ?_) (fun c => ?_)
    · have h := if_f c h
      refine kx_iload_n dX6_service_49 rfl rfl ?_
      exact kx_iret dX6_service_50 rfl (hQ _ _ (rtI (Option.some.inj h)))
    · have h := if_t c h
      refine kx_aload_n dX6_service_42 rfl rfl ?_
      refine kx_iload_n dX6_service_43 rfl rfl ?_
      refine kx_iconst (v := 1) dX6_service_44 (by decide) ?_
      refine kx_iconst (v := 1) dX6_service_45 (by decide) ?_
      obtain ⟨r7, er7, h⟩ := bd_s h
      refine kx_callV dX6_service_46 lk_X6_270 (mM_setBranch hd er7) rfl kN_rc rfl (Nat.le_of_ble_eq_true rfl) (Nat.le_of_ble_eq_true rfl) (Nat.le_of_ble_eq_true rfl) (Nat.le_of_ble_eq_true rfl) (Nat.le_of_ble_eq_true rfl) (fun _ _ _ h => h.elim) (fun w_ σ_ hq => ?_)
      obtain ⟨rfl, rfl⟩ := hq
      refine kx_iload_n dX6_service_49 rfl rfl ?_
      exact kx_iret dX6_service_50 rfl (hQ _ _ (rtI (Option.some.inj h)))
  · have h := if_t c h
    refine kx_iconst (v := 0) dX6_service_12 (by decide) ?_
    exact kx_iret dX6_service_13 rfl (hQ _ _ (rtI (Option.some.inj h)))
set_option maxHeartbeats 4000000 in
theorem mM_isTested {G : KG} {τ : KHp} {m : Nat} {ad : Nat → Nat} {s : TS} {x1 : Int32} {z : TS × Int32} (hd : Md m ad) (h : P_isTested s x1 = some z) : kx_c G yX6_isTested (ws_ yX6_isTested cX6_isTested 2 (Option.some Jvm.ClassFile.FieldType.boolean)) 3 0 0 [.ref m, .int (x1)] (MP τ m ad s) (fun rv σ' => rv = some (.int z.2) ∧ σ' = MP τ m ad z.1) kx_n := by
  refine kx_mk3 (ini := false) rfl (Nat.le_of_ble_eq_true rfl) (fun h => by cases h) (fun Q X hQ hX => ?_)
  unfold P_isTested at h
  refine kx_aload_n dX6_isTested_0 rfl rfl ?_
  refine kx_aload_n dX6_isTested_1 rfl rfl ?_
  refine kx_iload_n dX6_isTested_2 rfl rfl ?_
  obtain ⟨r1, er1, h⟩ := bd_s h
  refine kx_callV dX6_isTested_3 lk_X6_329 (mM_isBranch hd er1) rfl kN_rc rfl (Nat.le_of_ble_eq_true rfl) (Nat.le_of_ble_eq_true rfl) (Nat.le_of_ble_eq_true rfl) (Nat.le_of_ble_eq_true rfl) (Nat.le_of_ble_eq_true rfl) (fun _ _ _ h => h.elim) (fun w_ σ_ hq => ?_)
  obtain ⟨rfl, rfl⟩ := hq
  obtain ⟨r2, er2, h⟩ := bd_s h
  refine kx_callV dX6_isTested_6 lk_X6_77 (mM_passes hd er2) rfl kN_rc rfl (Nat.le_of_ble_eq_true rfl) (Nat.le_of_ble_eq_true rfl) (Nat.le_of_ble_eq_true rfl) (Nat.le_of_ble_eq_true rfl) (Nat.le_of_ble_eq_true rfl) (fun _ _ _ h => h.elim) (fun w_ σ_ hq => ?_)
  obtain ⟨rfl, rfl⟩ := hq
  obtain ⟨r3, er3, h⟩ := bd_s h
  refine kN_j (MP τ m ad r3.1) 27 [.int (r3.2)] ?_ (fun jr3 => ?_)
  · skip
    refine kN_zret dX6_isTested_27 rfl h (fun v5 ev5 h => hQ _ _ (by subst ev5; exact rtI (Option.some.inj h)))
  · have h := er3
    refine kx_if_eq (tgt := 26) dX6_isTested_9 (by decide) (fun c => ?_) (fun c => ?_)
    · have h := if_t c h
      refine kx_iconst (v := 0) dX6_isTested_26 (by decide) ?_
      exact jnI h jr3
    · have h := if_f c h
      refine kx_aload_n dX6_isTested_12 rfl rfl ?_
      refine kx_iload_n dX6_isTested_13 rfl rfl ?_
      refine kx_iconst (v := 3) dX6_isTested_14 (by decide) ?_
      obtain ⟨r4, er4, h⟩ := bd_s h
      refine kx_callV dX6_isTested_15 lk_X6_70 (mM_ofBranch hd er4) rfl kN_rc rfl (Nat.le_of_ble_eq_true rfl) (Nat.le_of_ble_eq_true rfl) (Nat.le_of_ble_eq_true rfl) (Nat.le_of_ble_eq_true rfl) (Nat.le_of_ble_eq_true rfl) (fun _ _ _ h => h.elim) (fun w_ σ_ hq => ?_)
      obtain ⟨rfl, rfl⟩ := hq
      refine kx_iconst (v := 1) dX6_isTested_18 (by decide) ?_
      refine kx_icmp_ne (tgt := 26) dX6_isTested_19 (by decide) (fun c => ?_) (fun c => ?_)
      · have h := if_f c h
        refine kx_iconst (v := 0) dX6_isTested_26 (by decide) ?_
        exact jnI h jr3
      · have h := if_t c h
        refine kx_iconst (v := 1) dX6_isTested_22 (by decide) ?_
        refine kx_goto (tgt := 27) dX6_isTested_23 (by decide) ?_
        exact jnI h jr3
set_option maxHeartbeats 4000000 in
theorem mM_trips {G : KG} {τ : KHp} {m : Nat} {ad : Nat → Nat} {s : TS} {x1 : Int32} {z : TS × Int32} (hd : Md m ad) (h : P_trips s x1 = some z) : kx_c G yX6_trips (ws_ yX6_trips cX6_trips 2 (Option.some Jvm.ClassFile.FieldType.int)) 3 0 0 [.ref m, .int (x1)] (MP τ m ad s) (fun rv σ' => rv = some (.int z.2) ∧ σ' = MP τ m ad z.1) kx_n := by
  refine kx_mk3 (ini := false) rfl (Nat.le_of_ble_eq_true rfl) (fun h => by cases h) (fun Q X hQ hX => ?_)
  unfold P_trips at h
  refine kx_aload_n dX6_trips_0 rfl rfl ?_
  refine kx_aload_n dX6_trips_1 rfl rfl ?_
  refine kx_iload_n dX6_trips_2 rfl rfl ?_
  obtain ⟨r1, er1, h⟩ := bd_s h
  refine kx_callV dX6_trips_3 lk_X6_329 (mM_isBranch hd er1) rfl kN_rc rfl (Nat.le_of_ble_eq_true rfl) (Nat.le_of_ble_eq_true rfl) (Nat.le_of_ble_eq_true rfl) (Nat.le_of_ble_eq_true rfl) (Nat.le_of_ble_eq_true rfl) (fun _ _ _ h => h.elim) (fun w_ σ_ hq => ?_)
  obtain ⟨rfl, rfl⟩ := hq
  obtain ⟨r2, er2, h⟩ := bd_s h
  refine kx_callV dX6_trips_6 lk_X6_77 (mM_passes hd er2) rfl kN_rc rfl (Nat.le_of_ble_eq_true rfl) (Nat.le_of_ble_eq_true rfl) (Nat.le_of_ble_eq_true rfl) (Nat.le_of_ble_eq_true rfl) (Nat.le_of_ble_eq_true rfl) (fun _ _ _ h => h.elim) (fun w_ σ_ hq => ?_)
  obtain ⟨rfl, rfl⟩ := hq
  obtain ⟨r3, er3, h⟩ := bd_s h
  refine kN_j (MP τ m ad r3.1) 22 [.int (r3.2)] ?_ (fun jr3 => ?_)
  · skip
    exact kx_iret dX6_trips_22 rfl (hQ _ _ (rtI (Option.some.inj h)))
  · have h := er3
    refine kx_if_eq (tgt := 21) dX6_trips_9 (by decide) (fun c => ?_) (fun c => ?_)
    · have h := if_t c h
      refine kx_iconst (v := 0) dX6_trips_21 (by decide) ?_
      exact jnI h jr3
    · have h := if_f c h
      refine kx_aload_n dX6_trips_12 rfl rfl ?_
      refine kx_iload_n dX6_trips_13 rfl rfl ?_
      refine kx_iconst (v := 2) dX6_trips_14 (by decide) ?_
      obtain ⟨r4, er4, h⟩ := bd_s h
      refine kx_callV dX6_trips_15 lk_X6_70 (mM_ofBranch hd er4) rfl kN_rc rfl (Nat.le_of_ble_eq_true rfl) (Nat.le_of_ble_eq_true rfl) (Nat.le_of_ble_eq_true rfl) (Nat.le_of_ble_eq_true rfl) (Nat.le_of_ble_eq_true rfl) (fun _ _ _ h => h.elim) (fun w_ σ_ hq => ?_)
      obtain ⟨rfl, rfl⟩ := hq
      refine kx_goto (tgt := 22) dX6_trips_18 (by decide) ?_
      exact jnI h jr3
set_option maxHeartbeats 4000000 in
theorem mM_memory {G : KG} {τ : KHp} {m : Nat} {ad : Nat → Nat} {s : TS} {x1 : Int32} {x2 : Int32} {z : TS × Int32} (hd : Md m ad) (h : P_memory s x1 x2 = some z) : kx_c G yX6_memory (ws_ yX6_memory cX6_memory 3 (Option.some Jvm.ClassFile.FieldType.int)) 3 0 0 [.ref m, .int (x1), .int (x2)] (MP τ m ad s) (fun rv σ' => rv = some (.int z.2) ∧ σ' = MP τ m ad z.1) kx_n := by
  refine kx_mk3 (ini := false) rfl (Nat.le_of_ble_eq_true rfl) (fun h => by cases h) (fun Q X hQ hX => ?_)
  unfold P_memory at h
  refine kx_aload_n dX6_memory_0 rfl rfl ?_
  refine kx_aload_n dX6_memory_1 rfl rfl ?_
  refine kx_iload_n dX6_memory_2 rfl rfl ?_
  obtain ⟨r1, er1, h⟩ := bd_s h
  refine kx_callV dX6_memory_3 lk_X6_468 (mM_isTrip hd er1) rfl kN_rc rfl (Nat.le_of_ble_eq_true rfl) (Nat.le_of_ble_eq_true rfl) (Nat.le_of_ble_eq_true rfl) (Nat.le_of_ble_eq_true rfl) (Nat.le_of_ble_eq_true rfl) (fun _ _ _ h => h.elim) (fun w_ σ_ hq => ?_)
  obtain ⟨rfl, rfl⟩ := hq
  refine kx_iload_n dX6_memory_6 rfl rfl ?_
  refine kx_i2l dX6_memory_7 rfl ?_
  refine kx_lconst (v := 0) dX6_memory_8 (by decide) ?_
  refine kx_ldc2 dX6_memory_9 q3103 ?_
  obtain ⟨r2, er2, h⟩ := bd_s h
  refine kx_callS dX6_memory_12 lk_X6_66 (mM_in hd er2) rfl rfl (Nat.le_of_ble_eq_true rfl) (Nat.le_of_ble_eq_true rfl) (Nat.le_of_ble_eq_true rfl) (Nat.le_of_ble_eq_true rfl) (Nat.le_of_ble_eq_true rfl) (fun _ _ _ h => h.elim) (fun w_ σ_ hq => ?_)
  obtain ⟨rfl, rfl⟩ := hq
  obtain ⟨r3, er3, h⟩ := bd_s h
  refine kx_callV dX6_memory_15 lk_X6_338 (mM_passes2 hd er3) rfl kN_rc rfl (Nat.le_of_ble_eq_true rfl) (Nat.le_of_ble_eq_true rfl) (Nat.le_of_ble_eq_true rfl) (Nat.le_of_ble_eq_true rfl) (Nat.le_of_ble_eq_true rfl) (fun _ _ _ h => h.elim) (fun w_ σ_ hq => ?_)
  obtain ⟨rfl, rfl⟩ := hq
  obtain ⟨r4, er4, h⟩ := bd_s h
  refine kN_j (MP τ m ad r4.1) 31 [.int (r4.2)] ?_ (fun jr4 => ?_)
  · skip
    exact kx_iret dX6_memory_31 rfl (hQ _ _ (rtI (Option.some.inj h)))
  · have h := er4
    refine kx_if_eq (tgt := 30) dX6_memory_18 (by decide) (fun c => ?_) (fun c => ?_)
    · have h := if_t c h
      refine kx_iconst (v := 0) dX6_memory_30 (by decide) ?_
      exact jnI h jr4
    · have h := if_f c h
      refine kx_aload_n dX6_memory_21 rfl rfl ?_
      refine kx_iload_n dX6_memory_22 rfl rfl ?_
      refine kx_iload_n dX6_memory_23 rfl rfl ?_
      obtain ⟨r5, er5, h⟩ := bd_s h
      refine kx_callV dX6_memory_24 lk_X6_471 (mM_ofTrip hd er5) rfl kN_rc rfl (Nat.le_of_ble_eq_true rfl) (Nat.le_of_ble_eq_true rfl) (Nat.le_of_ble_eq_true rfl) (Nat.le_of_ble_eq_true rfl) (Nat.le_of_ble_eq_true rfl) (fun _ _ _ h => h.elim) (fun w_ σ_ hq => ?_)
      obtain ⟨rfl, rfl⟩ := hq
      refine kx_goto (tgt := 31) dX6_memory_27 (by decide) ?_
      exact jnI h jr4
set_option maxHeartbeats 4000000 in
theorem mM_peakOf {G : KG} {τ : KHp} {m : Nat} {ad : Nat → Nat} {s : TS} {x1 : Int32} {z : TS × UInt32} (hd : Md m ad) (h : P_peakOf s x1 = some z) : kx_c G yX6_peakOf (ws_ yX6_peakOf cX6_peakOf 2 (Option.some Jvm.ClassFile.FieldType.float)) 3 0 0 [.ref m, .int (x1)] (MP τ m ad s) (fun rv σ' => rv = some (.float z.2) ∧ σ' = MP τ m ad z.1) kx_n := by
  refine kx_mk3 (ini := false) rfl (Nat.le_of_ble_eq_true rfl) (fun h => by cases h) (fun Q X hQ hX => ?_)
  unfold P_peakOf at h
  refine kx_aload_n dX6_peakOf_0 rfl rfl ?_
  refine kx_aload_n dX6_peakOf_1 rfl rfl ?_
  refine kx_iload_n dX6_peakOf_2 rfl rfl ?_
  obtain ⟨r1, er1, h⟩ := bd_s h
  refine kx_callV dX6_peakOf_3 lk_X6_468 (mM_isTrip hd er1) rfl kN_rc rfl (Nat.le_of_ble_eq_true rfl) (Nat.le_of_ble_eq_true rfl) (Nat.le_of_ble_eq_true rfl) (Nat.le_of_ble_eq_true rfl) (Nat.le_of_ble_eq_true rfl) (fun _ _ _ h => h.elim) (fun w_ σ_ hq => ?_)
  obtain ⟨rfl, rfl⟩ := hq
  obtain ⟨r2, er2, h⟩ := bd_s h
  refine kx_callV dX6_peakOf_6 lk_X6_77 (mM_passes hd er2) rfl kN_rc rfl (Nat.le_of_ble_eq_true rfl) (Nat.le_of_ble_eq_true rfl) (Nat.le_of_ble_eq_true rfl) (Nat.le_of_ble_eq_true rfl) (Nat.le_of_ble_eq_true rfl) (fun _ _ _ h => h.elim) (fun w_ σ_ hq => ?_)
  obtain ⟨rfl, rfl⟩ := hq
  obtain ⟨r3, er3, h⟩ := bd_s h
  refine kN_j (MP τ m ad r3.1) 26 [.float (r3.2)] ?_ (fun jr3 => ?_)
  · skip
    exact kx_fret dX6_peakOf_26 rfl (hQ _ _ (rtF (Option.some.inj h)))
  · have h := er3
    refine kx_if_eq (tgt := 25) dX6_peakOf_9 (by decide) (fun c => ?_) (fun c => ?_)
    · have h := if_t c h
      refine kx_fconst0 dX6_peakOf_25 ?_
      exact jnF h jr3
    · have h := if_f c h
      refine kx_aload_n dX6_peakOf_12 rfl rfl ?_
      refine kx_getf dX6_peakOf_13 fl_X6_27_X6 kN_m rfl ?_
      refine kx_sipush (v := 152) dX6_peakOf_16 (by decide) ?_
      refine kx_iload_n dX6_peakOf_19 rfl rfl ?_
      refine kx_iadd dX6_peakOf_20 ?_
      refine kN_fld hd dX6_peakOf_21 h (fun v4 ev4 h => ?_)
      refine kx_goto (tgt := 26) dX6_peakOf_22 (by decide) ?_
      exact jnF h jr3
set_option maxHeartbeats 4000000 in
theorem mM_loadSample {G : KG} {τ : KHp} {m : Nat} {ad : Nat → Nat} {s : TS} {x1 : Int32} {x2 : Int32} {z : TS × UInt32} (hd : Md m ad) (h : P_loadSample s x1 x2 = some z) : kx_c G yX6_loadSample (ws_ yX6_loadSample cX6_loadSample 3 (Option.some Jvm.ClassFile.FieldType.float)) 4 0 0 [.ref m, .int (x1), .int (x2)] (MP τ m ad s) (fun rv σ' => rv = some (.float z.2) ∧ σ' = MP τ m ad z.1) kx_n := by
  refine kx_mk3 (ini := false) rfl (Nat.le_of_ble_eq_true rfl) (fun h => by cases h) (fun Q X hQ hX => ?_)
  unfold P_loadSample at h
  refine kx_aload_n dX6_loadSample_0 rfl rfl ?_
  refine kx_aload_n dX6_loadSample_1 rfl rfl ?_
  refine kx_iload_n dX6_loadSample_2 rfl rfl ?_
  obtain ⟨r1, er1, h⟩ := bd_s h
  refine kx_callV dX6_loadSample_3 lk_X6_333 (mM_isLoad hd er1) rfl kN_rc rfl (Nat.le_of_ble_eq_true rfl) (Nat.le_of_ble_eq_true rfl) (Nat.le_of_ble_eq_true rfl) (Nat.le_of_ble_eq_true rfl) (Nat.le_of_ble_eq_true rfl) (fun _ _ _ h => h.elim) (fun w_ σ_ hq => ?_)
  obtain ⟨rfl, rfl⟩ := hq
  refine kx_iload_n dX6_loadSample_6 rfl rfl ?_
  refine kx_i2l dX6_loadSample_7 rfl ?_
  refine kx_lconst (v := 0) dX6_loadSample_8 (by decide) ?_
  refine kx_aload_n dX6_loadSample_9 rfl rfl ?_
  refine kx_getf dX6_loadSample_10 fl_X6_17_X6 kN_m rfl ?_
  refine kx_iconst (v := 0) dX6_loadSample_13 (by decide) ?_
  refine kN_ald hd dX6_loadSample_14 h (fun v2 ev2 h => ?_)
  refine kx_iconst (v := 1) dX6_loadSample_15 (by decide) ?_
  refine kx_isub dX6_loadSample_16 ?_
  refine kx_i2l dX6_loadSample_17 rfl ?_
  obtain ⟨r3, er3, h⟩ := bd_s h
  refine kx_callS dX6_loadSample_18 lk_X6_66 (mM_in hd er3) rfl rfl (Nat.le_of_ble_eq_true rfl) (Nat.le_of_ble_eq_true rfl) (Nat.le_of_ble_eq_true rfl) (Nat.le_of_ble_eq_true rfl) (Nat.le_of_ble_eq_true rfl) (fun _ _ _ h => h.elim) (fun w_ σ_ hq => ?_)
  obtain ⟨rfl, rfl⟩ := hq
  obtain ⟨r4, er4, h⟩ := bd_s h
  refine kx_callV dX6_loadSample_21 lk_X6_338 (mM_passes2 hd er4) rfl kN_rc rfl (Nat.le_of_ble_eq_true rfl) (Nat.le_of_ble_eq_true rfl) (Nat.le_of_ble_eq_true rfl) (Nat.le_of_ble_eq_true rfl) (Nat.le_of_ble_eq_true rfl) (fun _ _ _ h => h.elim) (fun w_ σ_ hq => ?_)
  obtain ⟨rfl, rfl⟩ := hq
  obtain ⟨r5, er5, h⟩ := bd_s h
  refine kN_j (MP τ m ad r5.1) 37 [.float (r5.2)] ?_ (fun jr5 => ?_)
  · skip
    exact kx_fret dX6_loadSample_37 rfl (hQ _ _ (rtF (Option.some.inj h)))
  · have h := er5
    refine kx_if_eq (tgt := 36) dX6_loadSample_24 (by decide) (fun c => ?_) (fun c => ?_)
    · have h := if_t c h
      refine kx_fconst0 dX6_loadSample_36 ?_
      exact jnF h jr5
    · have h := if_f c h
      refine kx_aload_n dX6_loadSample_27 rfl rfl ?_
      refine kx_iload_n dX6_loadSample_28 rfl rfl ?_
      refine kx_iload_n dX6_loadSample_29 rfl rfl ?_
      obtain ⟨r6, er6, h⟩ := bd_s h
      refine kx_callV dX6_loadSample_30 lk_X6_374 (mM_plainAt hd er6) rfl kN_rc rfl (Nat.le_of_ble_eq_true rfl) (Nat.le_of_ble_eq_true rfl) (Nat.le_of_ble_eq_true rfl) (Nat.le_of_ble_eq_true rfl) (Nat.le_of_ble_eq_true rfl) (fun _ _ _ h => h.elim) (fun w_ σ_ hq => ?_)
      obtain ⟨rfl, rfl⟩ := hq
      refine kx_goto (tgt := 37) dX6_loadSample_33 (by decide) ?_
      exact jnF h jr5
set_option maxHeartbeats 4000000 in
theorem mL_undo_33 {G : KG} {τ : KHp} {m : Nat} {ad : Nat → Nat} {Q : KQ} {X : KX}  {a0 : TS × Int32} {z : TS} (hd : Md m ad) (h : loopN (fun w : TS × Int32 => B_undo_33  w.1 w.2) 9000 a0 = some z) (kk : kx G (yX6_undo.cls, cX6_undo, 2, (Option.some Jvm.ClassFile.FieldType.int), false, []) (3, 0, 0, Q, X) 0 0 (MP τ m ad z) 67 (kF [(0, .ref m)]) []) : kx G (yX6_undo.cls, cX6_undo, 2, (Option.some Jvm.ClassFile.FieldType.int), false, []) (3, 0, 0, Q, X) 0 0 (MP τ m ad a0.1) 33 (kF [(0, .ref m), (1, .int (a0.2))]) [] := by
  refine loopK_1_0 (B := B_undo_33 ) (fun (a : TS) (a1 : Int32) => kx G (yX6_undo.cls, cX6_undo, 2, (Option.some Jvm.ClassFile.FieldType.int), false, []) (3, 0, 0, Q, X) 0 0 (MP τ m ad a) 33 (kF [(0, .ref m), (1, .int (a1))]) []) (fun (b : TS) => kx G (yX6_undo.cls, cX6_undo, 2, (Option.some Jvm.ClassFile.FieldType.int), false, []) (3, 0, 0, Q, X) 0 0 (MP τ m ad b) 67 (kF [(0, .ref m)]) []) (fun a a1 r h kI kE => ?_) _ _ _ h kk
  · unfold B_undo_33 at h
    refine kx_iload_n dX6_undo_33 rfl rfl ?_
    refine kx_sipush (v := 1465) dX6_undo_34 (by decide) ?_
    refine kx_icmp_ge (tgt := 67) dX6_undo_37 (by decide) (fun c => ?_) (fun c => ?_)
    · have h := if_t c h
      exact kx_lwF [(0, .ref m)] ⟨rfl, trivial⟩ (kE (a) (Option.some.inj h).symm)
    · have h := if_f c h
      refine kx_aload_n dX6_undo_40 rfl rfl ?_
      refine kx_getf dX6_undo_41 fl_X6_17_X6 kN_m rfl ?_
      refine kx_iload_n dX6_undo_44 rfl rfl ?_
      refine kx_aload_n dX6_undo_45 rfl rfl ?_
      refine kx_getf dX6_undo_46 fl_X6_57_X6 kN_m rfl ?_
      refine kx_sipush (v := 1465) dX6_undo_49 (by decide) ?_
      refine kx_aload_n dX6_undo_52 rfl rfl ?_
      refine kx_getf dX6_undo_53 fl_X6_483_X6 kN_m rfl ?_
      refine kx_imul dX6_undo_56 ?_
      refine kx_iload_n dX6_undo_57 rfl rfl ?_
      refine kx_iadd dX6_undo_58 ?_
      refine kN_ald hd dX6_undo_59 h (fun v33001 ev33001 h => ?_)
      refine kN_ast hd dX6_undo_60 h (fun s33002 es33002 h => ?_)
      refine kx_iinc2 (v := 1) dX6_undo_61 rfl (by decide) ?_
      refine kx_goto (tgt := 33) dX6_undo_64 (by decide) ?_
      exact kx_lwF [(0, .ref m), (1, .int ((a1 + (1 : Int32))))] ⟨rfl, rfl, trivial⟩ (kI (s33002) ((a1 + (1 : Int32))) (Option.some.inj h).symm)
set_option maxHeartbeats 4000000 in
theorem mL_undo_69 {G : KG} {τ : KHp} {m : Nat} {ad : Nat → Nat} {Q : KQ} {X : KX}  {a0 : TS × Int32} {z : TS} (hd : Md m ad) (h : loopN (fun w : TS × Int32 => B_undo_69  w.1 w.2) 9000 a0 = some z) (kk : kx G (yX6_undo.cls, cX6_undo, 2, (Option.some Jvm.ClassFile.FieldType.int), false, []) (3, 0, 0, Q, X) 0 0 (MP τ m ad z) 103 (kF [(0, .ref m)]) []) : kx G (yX6_undo.cls, cX6_undo, 2, (Option.some Jvm.ClassFile.FieldType.int), false, []) (3, 0, 0, Q, X) 0 0 (MP τ m ad a0.1) 69 (kF [(0, .ref m), (1, .int (a0.2))]) [] := by
  refine loopK_1_0 (B := B_undo_69 ) (fun (a : TS) (a1 : Int32) => kx G (yX6_undo.cls, cX6_undo, 2, (Option.some Jvm.ClassFile.FieldType.int), false, []) (3, 0, 0, Q, X) 0 0 (MP τ m ad a) 69 (kF [(0, .ref m), (1, .int (a1))]) []) (fun (b : TS) => kx G (yX6_undo.cls, cX6_undo, 2, (Option.some Jvm.ClassFile.FieldType.int), false, []) (3, 0, 0, Q, X) 0 0 (MP τ m ad b) 103 (kF [(0, .ref m)]) []) (fun a a1 r h kI kE => ?_) _ _ _ h kk
  · unfold B_undo_69 at h
    refine kx_iload_n dX6_undo_69 rfl rfl ?_
    refine kx_sipush (v := 160) dX6_undo_70 (by decide) ?_
    refine kx_icmp_ge (tgt := 103) dX6_undo_73 (by decide) (fun c => ?_) (fun c => ?_)
    · have h := if_t c h
      exact kx_lwF [(0, .ref m)] ⟨rfl, trivial⟩ (kE (a) (Option.some.inj h).symm)
    · have h := if_f c h
      refine kx_aload_n dX6_undo_76 rfl rfl ?_
      refine kx_getf dX6_undo_77 fl_X6_27_X6 kN_m rfl ?_
      refine kx_iload_n dX6_undo_80 rfl rfl ?_
      refine kx_aload_n dX6_undo_81 rfl rfl ?_
      refine kx_getf dX6_undo_82 fl_X6_60_X6 kN_m rfl ?_
      refine kx_sipush (v := 160) dX6_undo_85 (by decide) ?_
      refine kx_aload_n dX6_undo_88 rfl rfl ?_
      refine kx_getf dX6_undo_89 fl_X6_483_X6 kN_m rfl ?_
      refine kx_imul dX6_undo_92 ?_
      refine kx_iload_n dX6_undo_93 rfl rfl ?_
      refine kx_iadd dX6_undo_94 ?_
      refine kN_fld hd dX6_undo_95 h (fun v69001 ev69001 h => ?_)
      refine kN_fst hd dX6_undo_96 h (fun s69002 es69002 h => ?_)
      refine kx_iinc2 (v := 1) dX6_undo_97 rfl (by decide) ?_
      refine kx_goto (tgt := 69) dX6_undo_100 (by decide) ?_
      exact kx_lwF [(0, .ref m), (1, .int ((a1 + (1 : Int32))))] ⟨rfl, rfl, trivial⟩ (kI (s69002) ((a1 + (1 : Int32))) (Option.some.inj h).symm)
set_option maxHeartbeats 4000000 in
theorem mM_undo {G : KG} {τ : KHp} {m : Nat} {ad : Nat → Nat} {s : TS}  {z : TS × Int32} (hd : Md m ad) (h : P_undo s  = some z) : kx_c G yX6_undo (ws_ yX6_undo cX6_undo 2 (Option.some Jvm.ClassFile.FieldType.int)) 3 0 0 [.ref m] (MP τ m ad s) (fun rv σ' => rv = some (.int z.2) ∧ σ' = MP τ m ad z.1) kx_n := by
  refine kx_mk3 (ini := false) rfl (Nat.le_of_ble_eq_true rfl) (fun h => by cases h) (fun Q X hQ hX => ?_)
  unfold P_undo at h
  refine kx_aload_n dX6_undo_0 rfl rfl ?_
  refine kx_aload_n dX6_undo_1 rfl rfl ?_
  refine kx_getf dX6_undo_2 fl_X6_483_X6 kN_m rfl ?_
  obtain ⟨r1, er1, h⟩ := bd_s h
  refine kN_j (MP τ m ad r1.1) 13 [.int (r1.2), .ref m] ?_ (fun jr1 => ?_)
  · skip
    obtain ⟨r2, er2, h⟩ := bd_s h
    refine kx_callV dX6_undo_13 lk_X6_77 (mM_passes hd er2) rfl kN_rc rfl (Nat.le_of_ble_eq_true rfl) (Nat.le_of_ble_eq_true rfl) (Nat.le_of_ble_eq_true rfl) (Nat.le_of_ble_eq_true rfl) (Nat.le_of_ble_eq_true rfl) (fun _ _ _ h => h.elim) (fun w_ σ_ hq => ?_)
    obtain ⟨rfl, rfl⟩ := hq
    refine kx_if_ne (tgt := 21) dX6_undo_16 (by decide) (fun c => ?_) (fun c => ?_)
    · have h := if_f c h
      refine kx_aload_n dX6_undo_21 rfl rfl ?_
      refine kx_dup dX6_undo_22 rfl ?_
      refine kx_getf dX6_undo_23 fl_X6_483_X6 kN_m rfl ?_
      refine kx_iconst (v := 1) dX6_undo_26 (by decide) ?_
      refine kx_isub dX6_undo_27 ?_
      refine kN_put dX6_undo_28 fl_X6_483_X6 (Or.inl rfl) rfl h rfl (fun s3 es3 h => ?_)
      refine kx_iconst (v := 0) dX6_undo_31 (by decide) ?_
      refine kx_istore_n dX6_undo_32 rfl (Nat.le_of_ble_eq_true rfl) ?_
      obtain ⟨b4, eb4, h⟩ := bd_s h
      refine kx_lwF [(0, .ref m), (1, .int ((0 : Int32)))] ⟨rfl, rfl, trivial⟩ (mL_undo_33 hd (a0 := (s3, (0 : Int32))) eb4 ?_)
      refine kx_iconst (v := 0) dX6_undo_67 (by decide) ?_
      refine kx_istore_n dX6_undo_68 rfl (Nat.le_of_ble_eq_true rfl) ?_
      obtain ⟨b5, eb5, h⟩ := bd_s h
      refine kx_lwF [(0, .ref m), (1, .int ((0 : Int32)))] ⟨rfl, rfl, trivial⟩ (mL_undo_69 hd (a0 := (b4, (0 : Int32))) eb5 ?_)
      refine kx_aload_n dX6_undo_103 rfl rfl ?_
      refine kx_getf dX6_undo_104 fl_X6_483_X6 kN_m rfl ?_
      exact kx_iret dX6_undo_107 rfl (hQ _ _ (rtI (Option.some.inj h)))
    · have h := if_t c h
      refine kx_iconst (v := 0) dX6_undo_19 (by decide) ?_
      exact kx_iret dX6_undo_20 rfl (hQ _ _ (rtI (Option.some.inj h)))
  · have h := er1
    refine kx_if_le (tgt := 12) dX6_undo_5 (by decide) (fun c => ?_) (fun c => ?_)
    · have h := if_t c h
      refine kx_iconst (v := 0) dX6_undo_12 (by decide) ?_
      exact jnI h jr1
    · have h := if_f c h
      refine kx_iconst (v := 1) dX6_undo_8 (by decide) ?_
      refine kx_goto (tgt := 13) dX6_undo_9 (by decide) ?_
      exact jnI h jr1
set_option maxHeartbeats 4000000 in
theorem mL_writeTrip_28 {G : KG} {τ : KHp} {m : Nat} {ad : Nat → Nat} {Q : KQ} {X : KX} {y1 : Int32} {y2 : Int32} {a0 : TS × Int32} {z : TS} (hd : Md m ad) (h : loopN (fun w : TS × Int32 => B_writeTrip_28 y1 y2 w.1 w.2) 9000 a0 = some z) (kk : kx G (yX6_writeTrip.cls, cX6_writeTrip, 4, (Option.some Jvm.ClassFile.FieldType.int), false, []) (3, 0, 0, Q, X) 0 0 (MP τ m ad z) 65 (kF [(0, .ref m), (1, .int (y1))]) []) : kx G (yX6_writeTrip.cls, cX6_writeTrip, 4, (Option.some Jvm.ClassFile.FieldType.int), false, []) (3, 0, 0, Q, X) 0 0 (MP τ m ad a0.1) 28 (kF [(0, .ref m), (1, .int (y1)), (2, .int (y2)), (3, .int (a0.2))]) [] := by
  refine loopK_1_0 (B := B_writeTrip_28 y1 y2) (fun (a : TS) (a3 : Int32) => kx G (yX6_writeTrip.cls, cX6_writeTrip, 4, (Option.some Jvm.ClassFile.FieldType.int), false, []) (3, 0, 0, Q, X) 0 0 (MP τ m ad a) 28 (kF [(0, .ref m), (1, .int (y1)), (2, .int (y2)), (3, .int (a3))]) []) (fun (b : TS) => kx G (yX6_writeTrip.cls, cX6_writeTrip, 4, (Option.some Jvm.ClassFile.FieldType.int), false, []) (3, 0, 0, Q, X) 0 0 (MP τ m ad b) 65 (kF [(0, .ref m), (1, .int (y1))]) []) (fun a a3 r h kI kE => ?_) _ _ _ h kk
  · unfold B_writeTrip_28 at h
    refine kx_iload_n dX6_writeTrip_28 rfl rfl ?_
    refine kx_bipush (v := 6) dX6_writeTrip_29 (by decide) ?_
    refine kx_icmp_ge (tgt := 65) dX6_writeTrip_31 (by decide) (fun c => ?_) (fun c => ?_)
    · have h := if_t c h
      exact kx_lwF [(0, .ref m), (1, .int (y1))] ⟨rfl, rfl, trivial⟩ (kE (a) (Option.some.inj h).symm)
    · have h := if_f c h
      refine kx_aload_n dX6_writeTrip_34 rfl rfl ?_
      refine kx_iload_n dX6_writeTrip_35 rfl rfl ?_
      refine kx_bipush (v := 10) dX6_writeTrip_36 (by decide) ?_
      refine kx_iload_n dX6_writeTrip_38 rfl rfl ?_
      refine kx_iadd dX6_writeTrip_39 ?_
      obtain ⟨r28001, er28001, h⟩ := bd_s h
      refine kx_callV dX6_writeTrip_40 lk_X6_70 (mM_ofBranch hd er28001) rfl kN_rc rfl (Nat.le_of_ble_eq_true rfl) (Nat.le_of_ble_eq_true rfl) (Nat.le_of_ble_eq_true rfl) (Nat.le_of_ble_eq_true rfl) (Nat.le_of_ble_eq_true rfl) (fun _ _ _ h => h.elim) (fun w_ σ_ hq => ?_)
      obtain ⟨rfl, rfl⟩ := hq
      refine kx_if_eq (tgt := 65) dX6_writeTrip_43 (by decide) (fun c => ?_) (fun c => ?_)
      · have h := if_t c h
        exact kx_lwF [(0, .ref m), (1, .int (y1))] ⟨rfl, rfl, trivial⟩ (kE (r28001.1) (Option.some.inj h).symm)
      · have h := if_f c h
        refine kx_aload_n dX6_writeTrip_46 rfl rfl ?_
        refine kx_aload_n dX6_writeTrip_47 rfl rfl ?_
        refine kx_iload_n dX6_writeTrip_48 rfl rfl ?_
        refine kx_bipush (v := 10) dX6_writeTrip_49 (by decide) ?_
        refine kx_iload_n dX6_writeTrip_51 rfl rfl ?_
        refine kx_iadd dX6_writeTrip_52 ?_
        obtain ⟨r28002, er28002, h⟩ := bd_s h
        refine kx_callV dX6_writeTrip_53 lk_X6_70 (mM_ofBranch hd er28002) rfl kN_rc rfl (Nat.le_of_ble_eq_true rfl) (Nat.le_of_ble_eq_true rfl) (Nat.le_of_ble_eq_true rfl) (Nat.le_of_ble_eq_true rfl) (Nat.le_of_ble_eq_true rfl) (fun _ _ _ h => h.elim) (fun w_ σ_ hq => ?_)
        obtain ⟨rfl, rfl⟩ := hq
        obtain ⟨r28003, er28003, h⟩ := bd_s h
        refine kx_callV dX6_writeTrip_56 lk_X6_489 (mM_write hd er28003) rfl kN_rc rfl (Nat.le_of_ble_eq_true rfl) (Nat.le_of_ble_eq_true rfl) (Nat.le_of_ble_eq_true rfl) (Nat.le_of_ble_eq_true rfl) (Nat.le_of_ble_eq_true rfl) (fun _ _ _ h => h.elim) (fun w_ σ_ hq => ?_)
        obtain ⟨rfl, rfl⟩ := hq
        refine kx_iinc2 (v := 1) dX6_writeTrip_59 rfl (by decide) ?_
        refine kx_goto (tgt := 28) dX6_writeTrip_62 (by decide) ?_
        exact kx_lwF [(0, .ref m), (1, .int (y1)), (2, .int (y2)), (3, .int ((a3 + (1 : Int32))))] ⟨rfl, rfl, rfl, rfl, trivial⟩ (kI (r28003) ((a3 + (1 : Int32))) (Option.some.inj h).symm)
set_option maxHeartbeats 4000000 in
theorem mL_writeTrip_99 {G : KG} {τ : KHp} {m : Nat} {ad : Nat → Nat} {Q : KQ} {X : KX} {y1 : Int32} {a0 : TS × Int32} {z : TS} (hd : Md m ad) (h : loopN (fun w : TS × Int32 => B_writeTrip_99 y1 w.1 w.2) 9000 a0 = some z) (kk : kx G (yX6_writeTrip.cls, cX6_writeTrip, 4, (Option.some Jvm.ClassFile.FieldType.int), false, []) (3, 0, 0, Q, X) 0 0 (MP τ m ad z) 133 (kF [(0, .ref m)]) []) : kx G (yX6_writeTrip.cls, cX6_writeTrip, 4, (Option.some Jvm.ClassFile.FieldType.int), false, []) (3, 0, 0, Q, X) 0 0 (MP τ m ad a0.1) 99 (kF [(0, .ref m), (1, .int (y1)), (3, .int (a0.2))]) [] := by
  refine loopK_1_0 (B := B_writeTrip_99 y1) (fun (a : TS) (a3 : Int32) => kx G (yX6_writeTrip.cls, cX6_writeTrip, 4, (Option.some Jvm.ClassFile.FieldType.int), false, []) (3, 0, 0, Q, X) 0 0 (MP τ m ad a) 99 (kF [(0, .ref m), (1, .int (y1)), (3, .int (a3))]) []) (fun (b : TS) => kx G (yX6_writeTrip.cls, cX6_writeTrip, 4, (Option.some Jvm.ClassFile.FieldType.int), false, []) (3, 0, 0, Q, X) 0 0 (MP τ m ad b) 133 (kF [(0, .ref m)]) []) (fun a a3 r h kI kE => ?_) _ _ _ h kk
  · unfold B_writeTrip_99 at h
    refine kx_iload_n dX6_writeTrip_99 rfl rfl ?_
    refine kx_aload_n dX6_writeTrip_100 rfl rfl ?_
    refine kx_iload_n dX6_writeTrip_101 rfl rfl ?_
    refine kx_iconst (v := 4) dX6_writeTrip_102 (by decide) ?_
    obtain ⟨r99001, er99001, h⟩ := bd_s h
    refine kx_callV dX6_writeTrip_103 lk_X6_471 (mM_ofTrip hd er99001) rfl kN_rc rfl (Nat.le_of_ble_eq_true rfl) (Nat.le_of_ble_eq_true rfl) (Nat.le_of_ble_eq_true rfl) (Nat.le_of_ble_eq_true rfl) (Nat.le_of_ble_eq_true rfl) (fun _ _ _ h => h.elim) (fun w_ σ_ hq => ?_)
    obtain ⟨rfl, rfl⟩ := hq
    refine kx_icmp_ge (tgt := 133) dX6_writeTrip_106 (by decide) (fun c => ?_) (fun c => ?_)
    · have h := if_t c h
      exact kx_lwF [(0, .ref m)] ⟨rfl, trivial⟩ (kE (r99001.1) (Option.some.inj h).symm)
    · have h := if_f c h
      refine kx_aload_n dX6_writeTrip_109 rfl rfl ?_
      refine kx_bipush (v := 32) dX6_writeTrip_110 (by decide) ?_
      obtain ⟨r99002, er99002, h⟩ := bd_s h
      refine kx_callV dX6_writeTrip_112 lk_X6_489 (mM_write hd er99002) rfl kN_rc rfl (Nat.le_of_ble_eq_true rfl) (Nat.le_of_ble_eq_true rfl) (Nat.le_of_ble_eq_true rfl) (Nat.le_of_ble_eq_true rfl) (Nat.le_of_ble_eq_true rfl) (fun _ _ _ h => h.elim) (fun w_ σ_ hq => ?_)
      obtain ⟨rfl, rfl⟩ := hq
      refine kx_aload_n dX6_writeTrip_115 rfl rfl ?_
      refine kx_aload_n dX6_writeTrip_116 rfl rfl ?_
      refine kx_iload_n dX6_writeTrip_117 rfl rfl ?_
      refine kx_iconst (v := 5) dX6_writeTrip_118 (by decide) ?_
      refine kx_iload_n dX6_writeTrip_119 rfl rfl ?_
      refine kx_iadd dX6_writeTrip_120 ?_
      obtain ⟨r99003, er99003, h⟩ := bd_s h
      refine kx_callV dX6_writeTrip_121 lk_X6_471 (mM_ofTrip hd er99003) rfl kN_rc rfl (Nat.le_of_ble_eq_true rfl) (Nat.le_of_ble_eq_true rfl) (Nat.le_of_ble_eq_true rfl) (Nat.le_of_ble_eq_true rfl) (Nat.le_of_ble_eq_true rfl) (fun _ _ _ h => h.elim) (fun w_ σ_ hq => ?_)
      obtain ⟨rfl, rfl⟩ := hq
      obtain ⟨r99004, er99004, h⟩ := bd_s h
      refine kx_callV dX6_writeTrip_124 lk_X6_492 (mM_writeNumber hd er99004) rfl kN_rc rfl (Nat.le_of_ble_eq_true rfl) (Nat.le_of_ble_eq_true rfl) (Nat.le_of_ble_eq_true rfl) (Nat.le_of_ble_eq_true rfl) (Nat.le_of_ble_eq_true rfl) (fun _ _ _ h => h.elim) (fun w_ σ_ hq => ?_)
      obtain ⟨rfl, rfl⟩ := hq
      refine kx_iinc2 (v := 1) dX6_writeTrip_127 rfl (by decide) ?_
      refine kx_goto (tgt := 99) dX6_writeTrip_130 (by decide) ?_
      exact kx_lwF [(0, .ref m), (1, .int (y1)), (3, .int ((a3 + (1 : Int32))))] ⟨rfl, rfl, rfl, trivial⟩ (kI (r99004) ((a3 + (1 : Int32))) (Option.some.inj h).symm)
set_option maxHeartbeats 4000000 in
theorem mM_writeTrip {G : KG} {τ : KHp} {m : Nat} {ad : Nat → Nat} {s : TS} {x1 : Int32} {z : TS × Int32} (hd : Md m ad) (h : P_writeTrip s x1 = some z) : kx_c G yX6_writeTrip (ws_ yX6_writeTrip cX6_writeTrip 4 (Option.some Jvm.ClassFile.FieldType.int)) 3 0 0 [.ref m, .int (x1)] (MP τ m ad s) (fun rv σ' => rv = some (.int z.2) ∧ σ' = MP τ m ad z.1) kx_n := by
  refine kx_mk3 (ini := false) rfl (Nat.le_of_ble_eq_true rfl) (fun h => by cases h) (fun Q X hQ hX => ?_)
  unfold P_writeTrip at h
  refine kx_aload_n dX6_writeTrip_0 rfl rfl ?_
  refine kx_aload_n dX6_writeTrip_1 rfl rfl ?_
  refine kx_iload_n dX6_writeTrip_2 rfl rfl ?_
  obtain ⟨r1, er1, h⟩ := bd_s h
  refine kx_callV dX6_writeTrip_3 lk_X6_468 (mM_isTrip hd er1) rfl kN_rc rfl (Nat.le_of_ble_eq_true rfl) (Nat.le_of_ble_eq_true rfl) (Nat.le_of_ble_eq_true rfl) (Nat.le_of_ble_eq_true rfl) (Nat.le_of_ble_eq_true rfl) (fun _ _ _ h => h.elim) (fun w_ σ_ hq => ?_)
  obtain ⟨rfl, rfl⟩ := hq
  obtain ⟨r2, er2, h⟩ := bd_s h
  refine kx_callV dX6_writeTrip_6 lk_X6_77 (mM_passes hd er2) rfl kN_rc rfl (Nat.le_of_ble_eq_true rfl) (Nat.le_of_ble_eq_true rfl) (Nat.le_of_ble_eq_true rfl) (Nat.le_of_ble_eq_true rfl) (Nat.le_of_ble_eq_true rfl) (fun _ _ _ h => h.elim) (fun w_ σ_ hq => ?_)
  obtain ⟨rfl, rfl⟩ := hq
  refine kx_if_ne (tgt := 14) dX6_writeTrip_9 (by decide) (fun c => ?_) (fun c => ?_)
  · have h := if_f c h
    refine kx_aload_n dX6_writeTrip_14 rfl rfl ?_
    refine kx_iconst (v := 0) dX6_writeTrip_15 (by decide) ?_
    refine kN_put dX6_writeTrip_16 fl_X6_486_X6 (Or.inl rfl) rfl h rfl (fun s3 es3 h => ?_)
    refine kx_aload_n dX6_writeTrip_19 rfl rfl ?_
    refine kx_iload_n dX6_writeTrip_20 rfl rfl ?_
    refine kx_iconst (v := 1) dX6_writeTrip_21 (by decide) ?_
    obtain ⟨r4, er4, h⟩ := bd_s h
    refine kx_callV dX6_writeTrip_22 lk_X6_471 (mM_ofTrip hd er4) rfl kN_rc rfl (Nat.le_of_ble_eq_true rfl) (Nat.le_of_ble_eq_true rfl) (Nat.le_of_ble_eq_true rfl) (Nat.le_of_ble_eq_true rfl) (Nat.le_of_ble_eq_true rfl) (fun _ _ _ h => h.elim) (fun w_ σ_ hq => ?_)
    obtain ⟨rfl, rfl⟩ := hq
    refine kx_istore_n dX6_writeTrip_25 rfl (Nat.le_of_ble_eq_true rfl) ?_
    refine kx_iconst (v := 0) dX6_writeTrip_26 (by decide) ?_
    refine kx_istore_n dX6_writeTrip_27 rfl (Nat.le_of_ble_eq_true rfl) ?_
    obtain ⟨b5, eb5, h⟩ := bd_s h
    refine kx_lwF [(0, .ref m), (1, .int (x1)), (2, .int (r4.2)), (3, .int ((0 : Int32)))] ⟨rfl, rfl, rfl, rfl, trivial⟩ (mL_writeTrip_28 hd (a0 := (r4.1, (0 : Int32))) eb5 ?_)
    refine kx_aload_n dX6_writeTrip_65 rfl rfl ?_
    refine kx_bipush (v := 32) dX6_writeTrip_66 (by decide) ?_
    obtain ⟨r6, er6, h⟩ := bd_s h
    refine kx_callV dX6_writeTrip_68 lk_X6_489 (mM_write hd er6) rfl kN_rc rfl (Nat.le_of_ble_eq_true rfl) (Nat.le_of_ble_eq_true rfl) (Nat.le_of_ble_eq_true rfl) (Nat.le_of_ble_eq_true rfl) (Nat.le_of_ble_eq_true rfl) (fun _ _ _ h => h.elim) (fun w_ σ_ hq => ?_)
    obtain ⟨rfl, rfl⟩ := hq
    refine kx_aload_n dX6_writeTrip_71 rfl rfl ?_
    refine kx_aload_n dX6_writeTrip_72 rfl rfl ?_
    refine kx_iload_n dX6_writeTrip_73 rfl rfl ?_
    refine kx_iconst (v := 0) dX6_writeTrip_74 (by decide) ?_
    obtain ⟨r7, er7, h⟩ := bd_s h
    refine kx_callV dX6_writeTrip_75 lk_X6_471 (mM_ofTrip hd er7) rfl kN_rc rfl (Nat.le_of_ble_eq_true rfl) (Nat.le_of_ble_eq_true rfl) (Nat.le_of_ble_eq_true rfl) (Nat.le_of_ble_eq_true rfl) (Nat.le_of_ble_eq_true rfl) (fun _ _ _ h => h.elim) (fun w_ σ_ hq => ?_)
    obtain ⟨rfl, rfl⟩ := hq
    obtain ⟨r8, er8, h⟩ := bd_s h
    refine kx_callV dX6_writeTrip_78 lk_X6_492 (mM_writeNumber hd er8) rfl kN_rc rfl (Nat.le_of_ble_eq_true rfl) (Nat.le_of_ble_eq_true rfl) (Nat.le_of_ble_eq_true rfl) (Nat.le_of_ble_eq_true rfl) (Nat.le_of_ble_eq_true rfl) (fun _ _ _ h => h.elim) (fun w_ σ_ hq => ?_)
    obtain ⟨rfl, rfl⟩ := hq
    refine kx_aload_n dX6_writeTrip_81 rfl rfl ?_
    refine kx_bipush (v := 32) dX6_writeTrip_82 (by decide) ?_
    obtain ⟨r9, er9, h⟩ := bd_s h
    refine kx_callV dX6_writeTrip_84 lk_X6_489 (mM_write hd er9) rfl kN_rc rfl (Nat.le_of_ble_eq_true rfl) (Nat.le_of_ble_eq_true rfl) (Nat.le_of_ble_eq_true rfl) (Nat.le_of_ble_eq_true rfl) (Nat.le_of_ble_eq_true rfl) (fun _ _ _ h => h.elim) (fun w_ σ_ hq => ?_)
    obtain ⟨rfl, rfl⟩ := hq
    refine kx_aload_n dX6_writeTrip_87 rfl rfl ?_
    refine kx_aload_n dX6_writeTrip_88 rfl rfl ?_
    refine kx_iload_n dX6_writeTrip_89 rfl rfl ?_
    refine kx_iconst (v := 2) dX6_writeTrip_90 (by decide) ?_
    obtain ⟨r10, er10, h⟩ := bd_s h
    refine kx_callV dX6_writeTrip_91 lk_X6_471 (mM_ofTrip hd er10) rfl kN_rc rfl (Nat.le_of_ble_eq_true rfl) (Nat.le_of_ble_eq_true rfl) (Nat.le_of_ble_eq_true rfl) (Nat.le_of_ble_eq_true rfl) (Nat.le_of_ble_eq_true rfl) (fun _ _ _ h => h.elim) (fun w_ σ_ hq => ?_)
    obtain ⟨rfl, rfl⟩ := hq
    obtain ⟨r11, er11, h⟩ := bd_s h
    refine kx_callV dX6_writeTrip_94 lk_X6_492 (mM_writeNumber hd er11) rfl kN_rc rfl (Nat.le_of_ble_eq_true rfl) (Nat.le_of_ble_eq_true rfl) (Nat.le_of_ble_eq_true rfl) (Nat.le_of_ble_eq_true rfl) (Nat.le_of_ble_eq_true rfl) (fun _ _ _ h => h.elim) (fun w_ σ_ hq => ?_)
    obtain ⟨rfl, rfl⟩ := hq
    refine kx_iconst (v := 0) dX6_writeTrip_97 (by decide) ?_
    refine kx_istore_n dX6_writeTrip_98 rfl (Nat.le_of_ble_eq_true rfl) ?_
    obtain ⟨b12, eb12, h⟩ := bd_s h
    refine kx_lwF [(0, .ref m), (1, .int (x1)), (3, .int ((0 : Int32)))] ⟨rfl, rfl, rfl, trivial⟩ (mL_writeTrip_99 hd (a0 := (r11, (0 : Int32))) eb12 ?_)
    refine kx_aload_n dX6_writeTrip_133 rfl rfl ?_
    refine kx_bipush (v := 10) dX6_writeTrip_134 (by decide) ?_
    obtain ⟨r13, er13, h⟩ := bd_s h
    refine kx_callV dX6_writeTrip_136 lk_X6_489 (mM_write hd er13) rfl kN_rc rfl (Nat.le_of_ble_eq_true rfl) (Nat.le_of_ble_eq_true rfl) (Nat.le_of_ble_eq_true rfl) (Nat.le_of_ble_eq_true rfl) (Nat.le_of_ble_eq_true rfl) (fun _ _ _ h => h.elim) (fun w_ σ_ hq => ?_)
    obtain ⟨rfl, rfl⟩ := hq
    refine kx_aload_n dX6_writeTrip_139 rfl rfl ?_
    refine kx_getf dX6_writeTrip_140 fl_X6_486_X6 kN_m rfl ?_
    exact kx_iret dX6_writeTrip_143 rfl (hQ _ _ (rtI (Option.some.inj h)))
  · have h := if_t c h
    refine kx_iconst (v := 0) dX6_writeTrip_12 (by decide) ?_
    exact kx_iret dX6_writeTrip_13 rfl (hQ _ _ (rtI (Option.some.inj h)))
set_option maxHeartbeats 4000000 in
theorem mM_outputByte {G : KG} {τ : KHp} {m : Nat} {ad : Nat → Nat} {s : TS} {x1 : Int32} {z : TS × Int32} (hd : Md m ad) (h : P_outputByte s x1 = some z) : kx_c G yX6_outputByte (ws_ yX6_outputByte cX6_outputByte 2 (Option.some Jvm.ClassFile.FieldType.int)) 3 0 0 [.ref m, .int (x1)] (MP τ m ad s) (fun rv σ' => rv = some (.int z.2) ∧ σ' = MP τ m ad z.1) kx_n := by
  refine kx_mk3 (ini := false) rfl (Nat.le_of_ble_eq_true rfl) (fun h => by cases h) (fun Q X hQ hX => ?_)
  unfold P_outputByte at h
  refine kx_aload_n dX6_outputByte_0 rfl rfl ?_
  refine kx_iload_n dX6_outputByte_1 rfl rfl ?_
  refine kx_i2l dX6_outputByte_2 rfl ?_
  refine kx_lconst (v := 0) dX6_outputByte_3 (by decide) ?_
  refine kx_aload_n dX6_outputByte_4 rfl rfl ?_
  refine kx_getf dX6_outputByte_5 fl_X6_486_X6 kN_m rfl ?_
  refine kx_iconst (v := 1) dX6_outputByte_8 (by decide) ?_
  refine kx_isub dX6_outputByte_9 ?_
  refine kx_i2l dX6_outputByte_10 rfl ?_
  obtain ⟨r1, er1, h⟩ := bd_s h
  refine kx_callS dX6_outputByte_11 lk_X6_66 (mM_in hd er1) rfl rfl (Nat.le_of_ble_eq_true rfl) (Nat.le_of_ble_eq_true rfl) (Nat.le_of_ble_eq_true rfl) (Nat.le_of_ble_eq_true rfl) (Nat.le_of_ble_eq_true rfl) (fun _ _ _ h => h.elim) (fun w_ σ_ hq => ?_)
  obtain ⟨rfl, rfl⟩ := hq
  obtain ⟨r2, er2, h⟩ := bd_s h
  refine kx_callV dX6_outputByte_14 lk_X6_77 (mM_passes hd er2) rfl kN_rc rfl (Nat.le_of_ble_eq_true rfl) (Nat.le_of_ble_eq_true rfl) (Nat.le_of_ble_eq_true rfl) (Nat.le_of_ble_eq_true rfl) (Nat.le_of_ble_eq_true rfl) (fun _ _ _ h => h.elim) (fun w_ σ_ hq => ?_)
  obtain ⟨rfl, rfl⟩ := hq
  obtain ⟨r3, er3, h⟩ := bd_s h
  refine kN_j (MP τ m ad r3.1) 30 [.int (r3.2)] ?_ (fun jr3 => ?_)
  · skip
    exact kx_iret dX6_outputByte_30 rfl (hQ _ _ (rtI (Option.some.inj h)))
  · have h := er3
    refine kx_if_eq (tgt := 29) dX6_outputByte_17 (by decide) (fun c => ?_) (fun c => ?_)
    · have h := if_t c h
      refine kx_iconst (v := 0) dX6_outputByte_29 (by decide) ?_
      exact jnI h jr3
    · have h := if_f c h
      refine kx_aload_n dX6_outputByte_20 rfl rfl ?_
      refine kx_getf dX6_outputByte_21 fl_X6_63_X6 kN_m rfl ?_
      refine kx_iload_n dX6_outputByte_24 rfl rfl ?_
      refine kN_bld hd dX6_outputByte_25 h (fun v4 ev4 h => ?_)
      refine kx_goto (tgt := 30) dX6_outputByte_26 (by decide) ?_
      exact jnI h jr3
set_option maxHeartbeats 4000000 in
theorem mM_append {G : KG} {τ : KHp} {m : Nat} {ad : Nat → Nat} {s : TS} {x1 : Int32} {x2 : Int32} {x3 : Int32} {x4 : Int32} {x5 : Int32} {z : TS × Int32} (hd : Md m ad) (h : P_append s x1 x2 x3 x4 x5 = some z) : kx_c G yX6_append (ws_ yX6_append cX6_append 6 (Option.some Jvm.ClassFile.FieldType.int)) 3 0 0 [.ref m, .int (x1), .int (x2), .int (x3), .int (x4), .int (x5)] (MP τ m ad s) (fun rv σ' => rv = some (.int z.2) ∧ σ' = MP τ m ad z.1) kx_n := by
  refine kx_mk3 (ini := false) rfl (Nat.le_of_ble_eq_true rfl) (fun h => by cases h) (fun Q X hQ hX => ?_)
  unfold P_append at h
  refine kx_aload_n dX6_append_0 rfl rfl ?_
  refine kx_aload_n dX6_append_1 rfl rfl ?_
  refine kx_getf dX6_append_2 fl_X6_74_X6 kN_m rfl ?_
  refine kx_bipush (v := 20) dX6_append_5 (by decide) ?_
  refine kx_iadd dX6_append_7 ?_
  refine kx_sipush (v := 1000) dX6_append_8 (by decide) ?_
  obtain ⟨r1, er1, h⟩ := bd_s h
  refine kN_j (MP τ m ad r1.1) 19 [.int (r1.2), .ref m] ?_ (fun jr1 => ?_)
  · skip
    obtain ⟨r2, er2, h⟩ := bd_s h
    refine kx_callV dX6_append_19 lk_X6_77 (mM_passes hd er2) rfl kN_rc rfl (Nat.le_of_ble_eq_true rfl) (Nat.le_of_ble_eq_true rfl) (Nat.le_of_ble_eq_true rfl) (Nat.le_of_ble_eq_true rfl) (Nat.le_of_ble_eq_true rfl) (fun _ _ _ h => h.elim) (fun w_ σ_ hq => ?_)
    obtain ⟨rfl, rfl⟩ := hq
    refine kx_if_ne (tgt := 27) dX6_append_22 (by decide) (fun c => ?_) (fun c => ?_)
    · have h := if_f c h
      refine kx_aload_n dX6_append_27 rfl rfl ?_
      refine kx_iload_n dX6_append_28 rfl rfl ?_
      obtain ⟨r3, er3, h⟩ := bd_s h
      refine kx_callV dX6_append_29 lk_X6_81 (mM_appendFour hd er3) rfl kN_rc rfl (Nat.le_of_ble_eq_true rfl) (Nat.le_of_ble_eq_true rfl) (Nat.le_of_ble_eq_true rfl) (Nat.le_of_ble_eq_true rfl) (Nat.le_of_ble_eq_true rfl) (fun _ _ _ h => h.elim) (fun w_ σ_ hq => ?_)
      obtain ⟨rfl, rfl⟩ := hq
      refine kx_aload_n dX6_append_32 rfl rfl ?_
      refine kx_iload_n dX6_append_33 rfl rfl ?_
      obtain ⟨r4, er4, h⟩ := bd_s h
      refine kx_callV dX6_append_34 lk_X6_81 (mM_appendFour hd er4) rfl kN_rc rfl (Nat.le_of_ble_eq_true rfl) (Nat.le_of_ble_eq_true rfl) (Nat.le_of_ble_eq_true rfl) (Nat.le_of_ble_eq_true rfl) (Nat.le_of_ble_eq_true rfl) (fun _ _ _ h => h.elim) (fun w_ σ_ hq => ?_)
      obtain ⟨rfl, rfl⟩ := hq
      refine kx_aload_n dX6_append_37 rfl rfl ?_
      refine kx_iload_n dX6_append_38 rfl rfl ?_
      obtain ⟨r5, er5, h⟩ := bd_s h
      refine kx_callV dX6_append_39 lk_X6_81 (mM_appendFour hd er5) rfl kN_rc rfl (Nat.le_of_ble_eq_true rfl) (Nat.le_of_ble_eq_true rfl) (Nat.le_of_ble_eq_true rfl) (Nat.le_of_ble_eq_true rfl) (Nat.le_of_ble_eq_true rfl) (fun _ _ _ h => h.elim) (fun w_ σ_ hq => ?_)
      obtain ⟨rfl, rfl⟩ := hq
      refine kx_aload_n dX6_append_42 rfl rfl ?_
      refine kx_iload dX6_append_43 rfl ?_
      obtain ⟨r6, er6, h⟩ := bd_s h
      refine kx_callV dX6_append_45 lk_X6_81 (mM_appendFour hd er6) rfl kN_rc rfl (Nat.le_of_ble_eq_true rfl) (Nat.le_of_ble_eq_true rfl) (Nat.le_of_ble_eq_true rfl) (Nat.le_of_ble_eq_true rfl) (Nat.le_of_ble_eq_true rfl) (fun _ _ _ h => h.elim) (fun w_ σ_ hq => ?_)
      obtain ⟨rfl, rfl⟩ := hq
      refine kx_aload_n dX6_append_48 rfl rfl ?_
      refine kx_iload dX6_append_49 rfl ?_
      obtain ⟨r7, er7, h⟩ := bd_s h
      refine kx_callV dX6_append_51 lk_X6_81 (mM_appendFour hd er7) rfl kN_rc rfl (Nat.le_of_ble_eq_true rfl) (Nat.le_of_ble_eq_true rfl) (Nat.le_of_ble_eq_true rfl) (Nat.le_of_ble_eq_true rfl) (Nat.le_of_ble_eq_true rfl) (fun _ _ _ h => h.elim) (fun w_ σ_ hq => ?_)
      obtain ⟨rfl, rfl⟩ := hq
      refine kx_aload_n dX6_append_54 rfl rfl ?_
      refine kx_getf dX6_append_55 fl_X6_74_X6 kN_m rfl ?_
      exact kx_iret dX6_append_58 rfl (hQ _ _ (rtI (Option.some.inj h)))
    · have h := if_t c h
      refine kx_iconst (v := 0) dX6_append_25 (by decide) ?_
      exact kx_iret dX6_append_26 rfl (hQ _ _ (rtI (Option.some.inj h)))
  · have h := er1
    refine kx_icmp_gt (tgt := 18) dX6_append_11 (by decide) (fun c => ?_) (fun c => ?_)
    · have h := if_t c h
      refine kx_iconst (v := 0) dX6_append_18 (by decide) ?_
      exact jnI h jr1
    · have h := if_f c h
      refine kx_iconst (v := 1) dX6_append_14 (by decide) ?_
      refine kx_goto (tgt := 19) dX6_append_15 (by decide) ?_
      exact jnI h jr1
set_option maxHeartbeats 4000000 in
theorem mM_word {G : KG} {τ : KHp} {m : Nat} {ad : Nat → Nat} {s : TS} {x1 : Nat} {z : TS} (hd : Md m ad) (h : P_word s x1 = some z) : kx_c G yX6_word (ws_ yX6_word cX6_word 2 (Option.none : Option Jvm.ClassFile.FieldType)) 7 0 0 [.ref m, .ref (kx_K G (x1))] (MP τ m ad s) (fun rv σ' => rv = none ∧ σ' = MP τ m ad z) kx_n := by
  refine kx_mk3 (ini := false) rfl (Nat.le_of_ble_eq_true rfl) (fun h => by cases h) (fun Q X hQ hX => ?_)
  unfold P_word at h
  refine kx_aload_n dX6_word_0 rfl rfl ?_
  refine kx_aload_n dX6_word_1 rfl rfl ?_
  obtain ⟨r1, er1, h⟩ := bd_s h
  refine kx_callV dX6_word_2 lk_X6_208 (mM_isText hd er1) rfl kN_rc rfl (Nat.le_of_ble_eq_true rfl) (Nat.le_of_ble_eq_true rfl) (Nat.le_of_ble_eq_true rfl) (Nat.le_of_ble_eq_true rfl) (Nat.le_of_ble_eq_true rfl) (fun _ _ _ h => h.elim) (fun w_ σ_ hq => ?_)
  obtain ⟨rfl, rfl⟩ := hq
  refine kx_if_ne (tgt := 13) dX6_word_5 (by decide) (fun c => ?_) (fun c => ?_)
  · have h := if_f c h
    refine kx_aload_n dX6_word_13 rfl rfl ?_
    obtain ⟨r2, er2, h⟩ := bd_s h
    refine kx_callV dX6_word_14 lk_X6_214 (mM_goOn hd er2) rfl kN_rc rfl (Nat.le_of_ble_eq_true rfl) (Nat.le_of_ble_eq_true rfl) (Nat.le_of_ble_eq_true rfl) (Nat.le_of_ble_eq_true rfl) (Nat.le_of_ble_eq_true rfl) (fun _ _ _ h => h.elim) (fun w_ σ_ hq => ?_)
    obtain ⟨rfl, rfl⟩ := hq
    exact kx_vret dX6_word_17 rfl (hQ _ _ (rtV (Option.some.inj h)))
  · have h := if_t c h
    refine kx_aload_n dX6_word_8 rfl rfl ?_
    refine kx_iconst (v := 1) dX6_word_9 (by decide) ?_
    obtain ⟨r3, er3, h⟩ := bd_s h
    refine kx_callV dX6_word_10 lk_X6_211 (mM_errs hd er3) rfl kN_rc rfl (Nat.le_of_ble_eq_true rfl) (Nat.le_of_ble_eq_true rfl) (Nat.le_of_ble_eq_true rfl) (Nat.le_of_ble_eq_true rfl) (Nat.le_of_ble_eq_true rfl) (fun _ _ _ h => h.elim) (fun w_ σ_ hq => ?_)
    obtain ⟨rfl, rfl⟩ := hq
    refine kx_aload_n dX6_word_13 rfl rfl ?_
    obtain ⟨r4, er4, h⟩ := bd_s h
    refine kx_callV dX6_word_14 lk_X6_214 (mM_goOn hd er4) rfl kN_rc rfl (Nat.le_of_ble_eq_true rfl) (Nat.le_of_ble_eq_true rfl) (Nat.le_of_ble_eq_true rfl) (Nat.le_of_ble_eq_true rfl) (Nat.le_of_ble_eq_true rfl) (fun _ _ _ h => h.elim) (fun w_ σ_ hq => ?_)
    obtain ⟨rfl, rfl⟩ := hq
    exact kx_vret dX6_word_17 rfl (hQ _ _ (rtV (Option.some.inj h)))
set_option maxHeartbeats 4000000 in
theorem mM_numberBehind {G : KG} {τ : KHp} {m : Nat} {ad : Nat → Nat} {s : TS} {x1 : Nat} {x2 : Int32} {x3 : Int32} {z : TS × Int32} (hd : Md m ad) (h : P_numberBehind s x1 x2 x3 = some z) : kx_c G yX6_numberBehind (ws_ yX6_numberBehind cX6_numberBehind 4 (Option.some Jvm.ClassFile.FieldType.int)) 8 0 0 [.ref m, .ref (kx_K G (x1)), .int (x2), .int (x3)] (MP τ m ad s) (fun rv σ' => rv = some (.int z.2) ∧ σ' = MP τ m ad z.1) kx_n := by
  refine kx_mk3 (ini := false) rfl (Nat.le_of_ble_eq_true rfl) (fun h => by cases h) (fun Q X hQ hX => ?_)
  unfold P_numberBehind at h
  refine kx_aload_n dX6_numberBehind_0 rfl rfl ?_
  refine kx_aload_n dX6_numberBehind_1 rfl rfl ?_
  obtain ⟨r1, er1, h⟩ := bd_s h
  refine kx_callV dX6_numberBehind_2 lk_X6_217 (mM_word hd er1) rfl kN_rc rfl (Nat.le_of_ble_eq_true rfl) (Nat.le_of_ble_eq_true rfl) (Nat.le_of_ble_eq_true rfl) (Nat.le_of_ble_eq_true rfl) (Nat.le_of_ble_eq_true rfl) (fun _ _ _ h => h.elim) (fun w_ σ_ hq => ?_)
  obtain ⟨rfl, rfl⟩ := hq
  refine kx_aload_n dX6_numberBehind_5 rfl rfl ?_
  refine kx_iload_n dX6_numberBehind_6 rfl rfl ?_
  refine kx_iload_n dX6_numberBehind_7 rfl rfl ?_
  obtain ⟨r2, er2, h⟩ := bd_s h
  refine kx_callV dX6_numberBehind_8 lk_X6_221 (mM_number hd er2) rfl kN_rc rfl (Nat.le_of_ble_eq_true rfl) (Nat.le_of_ble_eq_true rfl) (Nat.le_of_ble_eq_true rfl) (Nat.le_of_ble_eq_true rfl) (Nat.le_of_ble_eq_true rfl) (fun _ _ _ h => h.elim) (fun w_ σ_ hq => ?_)
  obtain ⟨rfl, rfl⟩ := hq
  exact kx_iret dX6_numberBehind_11 rfl (hQ _ _ (rtI (Option.some.inj h)))
set_option maxHeartbeats 4000000 in
theorem mM_checkName {G : KG} {τ : KHp} {m : Nat} {ad : Nat → Nat} {s : TS}  {z : TS} (hd : Md m ad) (h : P_checkName s  = some z) : kx_c G yX6_checkName (ws_ yX6_checkName cX6_checkName 1 (Option.none : Option Jvm.ClassFile.FieldType)) 8 0 0 [.ref m] (MP τ m ad s) (fun rv σ' => rv = none ∧ σ' = MP τ m ad z) kx_n := by
  refine kx_mk3 (ini := false) rfl (Nat.le_of_ble_eq_true rfl) (fun h => by cases h) (fun Q X hQ hX => ?_)
  unfold P_checkName at h
  refine kx_aload_n dX6_checkName_0 rfl rfl ?_
  obtain ⟨r1, er1, h⟩ := bd_s h
  refine kx_callV dX6_checkName_1 lk_X6_88 (mM_good hd er1) rfl kN_rc rfl (Nat.le_of_ble_eq_true rfl) (Nat.le_of_ble_eq_true rfl) (Nat.le_of_ble_eq_true rfl) (Nat.le_of_ble_eq_true rfl) (Nat.le_of_ble_eq_true rfl) (fun _ _ _ h => h.elim) (fun w_ σ_ hq => ?_)
  obtain ⟨rfl, rfl⟩ := hq
  refine kx_if_eq (tgt := 41) dX6_checkName_4 (by decide) (fun c => ?_) (fun c => ?_)
  · have h := if_t c h
    exact kx_vret dX6_checkName_41 rfl (hQ _ _ (rtV (Option.some.inj h)))
  · have h := if_f c h
    refine kx_aload_n dX6_checkName_7 rfl rfl ?_
    refine kx_getf dX6_checkName_8 fl_X6_105_X6 kN_m rfl ?_
    refine kx_iconst (v := 1) dX6_checkName_11 (by decide) ?_
    refine kx_icmp_ne (tgt := 36) dX6_checkName_12 (by decide) (fun c => ?_) (fun c => ?_)
    · have h := if_f c h
      refine kx_aload_n dX6_checkName_36 rfl rfl ?_
      refine kx_iconst (v := 1) dX6_checkName_37 (by decide) ?_
      obtain ⟨r2, er2, h⟩ := bd_s h
      refine kx_callV dX6_checkName_38 lk_X6_211 (mM_errs hd er2) rfl kN_rc rfl (Nat.le_of_ble_eq_true rfl) (Nat.le_of_ble_eq_true rfl) (Nat.le_of_ble_eq_true rfl) (Nat.le_of_ble_eq_true rfl) (Nat.le_of_ble_eq_true rfl) (fun _ _ _ h => h.elim) (fun w_ σ_ hq => ?_)
      obtain ⟨rfl, rfl⟩ := hq
      exact kx_vret dX6_checkName_41 rfl (hQ _ _ (rtV (Option.some.inj h)))
    · have h := if_t c h
      refine kx_aload_n dX6_checkName_15 rfl rfl ?_
      refine kx_getf dX6_checkName_16 fl_X6_98_X6 kN_m rfl ?_
      refine kx_aload_n dX6_checkName_19 rfl rfl ?_
      refine kx_getf dX6_checkName_20 fl_X6_92_X6 kN_m rfl ?_
      refine kx_isub dX6_checkName_23 ?_
      refine kx_bipush (v := 6) dX6_checkName_24 (by decide) ?_
      refine kx_icmp_gt (tgt := 36) dX6_checkName_26 (by decide) (fun c => ?_) (fun c => ?_)
      · have h := if_t c h
        refine kx_aload_n dX6_checkName_36 rfl rfl ?_
        refine kx_iconst (v := 1) dX6_checkName_37 (by decide) ?_
        obtain ⟨r3, er3, h⟩ := bd_s h
        refine kx_callV dX6_checkName_38 lk_X6_211 (mM_errs hd er3) rfl kN_rc rfl (Nat.le_of_ble_eq_true rfl) (Nat.le_of_ble_eq_true rfl) (Nat.le_of_ble_eq_true rfl) (Nat.le_of_ble_eq_true rfl) (Nat.le_of_ble_eq_true rfl) (fun _ _ _ h => h.elim) (fun w_ σ_ hq => ?_)
        obtain ⟨rfl, rfl⟩ := hq
        exact kx_vret dX6_checkName_41 rfl (hQ _ _ (rtV (Option.some.inj h)))
      · have h := if_f c h
        refine kx_aload_n dX6_checkName_29 rfl rfl ?_
        obtain ⟨r4, er4, h⟩ := bd_s h
        refine kx_callV dX6_checkName_30 lk_X6_243 (mM_isKeyword hd er4) rfl kN_rc rfl (Nat.le_of_ble_eq_true rfl) (Nat.le_of_ble_eq_true rfl) (Nat.le_of_ble_eq_true rfl) (Nat.le_of_ble_eq_true rfl) (Nat.le_of_ble_eq_true rfl) (fun _ _ _ h => h.elim) (fun w_ σ_ hq => ?_)
        obtain ⟨rfl, rfl⟩ := hq
        refine kx_if_eq (tgt := 41) dX6_checkName_33 (by decide) (fun c => ?_) (fun c => ?_)
        · have h := if_t c h
          exact kx_vret dX6_checkName_41 rfl (hQ _ _ (rtV (Option.some.inj h)))
        · have h := if_f c h
          refine kx_aload_n dX6_checkName_36 rfl rfl ?_
          refine kx_iconst (v := 1) dX6_checkName_37 (by decide) ?_
          obtain ⟨r5, er5, h⟩ := bd_s h
          refine kx_callV dX6_checkName_38 lk_X6_211 (mM_errs hd er5) rfl kN_rc rfl (Nat.le_of_ble_eq_true rfl) (Nat.le_of_ble_eq_true rfl) (Nat.le_of_ble_eq_true rfl) (Nat.le_of_ble_eq_true rfl) (Nat.le_of_ble_eq_true rfl) (fun _ _ _ h => h.elim) (fun w_ σ_ hq => ?_)
          obtain ⟨rfl, rfl⟩ := hq
          exact kx_vret dX6_checkName_41 rfl (hQ _ _ (rtV (Option.some.inj h)))
set_option maxHeartbeats 4000000 in
theorem mM_branchNamed {G : KG} {τ : KHp} {m : Nat} {ad : Nat → Nat} {s : TS}  {z : TS × Int32} (hd : Md m ad) (h : P_branchNamed s  = some z) : kx_c G yX6_branchNamed (ws_ yX6_branchNamed cX6_branchNamed 1 (Option.some Jvm.ClassFile.FieldType.int)) 3 0 0 [.ref m] (MP τ m ad s) (fun rv σ' => rv = some (.int z.2) ∧ σ' = MP τ m ad z.1) kx_n := by
  refine kx_mk3 (ini := false) rfl (Nat.le_of_ble_eq_true rfl) (fun h => by cases h) (fun Q X hQ hX => ?_)
  unfold P_branchNamed at h
  refine kx_aload_n dX6_branchNamed_0 rfl rfl ?_
  refine kx_bipush (v := 21) dX6_branchNamed_1 (by decide) ?_
  refine kx_bipush (v := 80) dX6_branchNamed_3 (by decide) ?_
  refine kx_aload_n dX6_branchNamed_5 rfl rfl ?_
  refine kx_getf dX6_branchNamed_6 fl_X6_24_X6 kN_m rfl ?_
  refine kx_iconst (v := 3) dX6_branchNamed_9 (by decide) ?_
  refine kN_ald hd dX6_branchNamed_10 h (fun v1 ev1 h => ?_)
  obtain ⟨r2, er2, h⟩ := bd_s h
  refine kx_callV dX6_branchNamed_11 lk_X6_227 (mM_thingNamed hd er2) rfl kN_rc rfl (Nat.le_of_ble_eq_true rfl) (Nat.le_of_ble_eq_true rfl) (Nat.le_of_ble_eq_true rfl) (Nat.le_of_ble_eq_true rfl) (Nat.le_of_ble_eq_true rfl) (fun _ _ _ h => h.elim) (fun w_ σ_ hq => ?_)
  obtain ⟨rfl, rfl⟩ := hq
  exact kx_iret dX6_branchNamed_14 rfl (hQ _ _ (rtI (Option.some.inj h)))
set_option maxHeartbeats 4000000 in
theorem mM_reference {G : KG} {τ : KHp} {m : Nat} {ad : Nat → Nat} {s : TS} {x1 : Int32} {z : TS × Int32} (hd : Md m ad) (h : P_reference s x1 = some z) : kx_c G yX6_reference (ws_ yX6_reference cX6_reference 3 (Option.some Jvm.ClassFile.FieldType.int)) 9 0 0 [.ref m, .int (x1)] (MP τ m ad s) (fun rv σ' => rv = some (.int z.2) ∧ σ' = MP τ m ad z.1) kx_n := by
  refine kx_mk3 (ini := false) rfl (Nat.le_of_ble_eq_true rfl) (fun h => by cases h) (fun Q X hQ hX => ?_)
  unfold P_reference at h
  refine kx_aload_n dX6_reference_0 rfl rfl ?_
  obtain ⟨r1, er1, h⟩ := bd_s h
  refine kx_callV dX6_reference_1 lk_X6_246 (mM_checkName hd er1) rfl kN_rc rfl (Nat.le_of_ble_eq_true rfl) (Nat.le_of_ble_eq_true rfl) (Nat.le_of_ble_eq_true rfl) (Nat.le_of_ble_eq_true rfl) (Nat.le_of_ble_eq_true rfl) (fun _ _ _ h => h.elim) (fun w_ σ_ hq => ?_)
  obtain ⟨rfl, rfl⟩ := hq
  refine kx_aload_n dX6_reference_4 rfl rfl ?_
  obtain ⟨r2, er2, h⟩ := bd_s h
  refine kx_callV dX6_reference_5 lk_X6_88 (mM_good hd er2) rfl kN_rc rfl (Nat.le_of_ble_eq_true rfl) (Nat.le_of_ble_eq_true rfl) (Nat.le_of_ble_eq_true rfl) (Nat.le_of_ble_eq_true rfl) (Nat.le_of_ble_eq_true rfl) (fun _ _ _ h => h.elim) (fun w_ σ_ hq => ?_)
  obtain ⟨rfl, rfl⟩ := hq
  obtain ⟨r3, er3, h⟩ := bd_s h
  refine kN_j (MP τ m ad r3.1) 30 [.int (r3.2)] ?_ (fun jr3 => ?_)
  · skip
    refine kx_istore_n dX6_reference_30 rfl (Nat.le_of_ble_eq_true rfl) ?_
    refine kx_aload_n dX6_reference_31 rfl rfl ?_
    obtain ⟨r6, er6, h⟩ := bd_s h
    refine kx_callV dX6_reference_32 lk_X6_88 (mM_good hd er6) rfl kN_rc rfl (Nat.le_of_ble_eq_true rfl) (Nat.le_of_ble_eq_true rfl) (Nat.le_of_ble_eq_true rfl) (Nat.le_of_ble_eq_true rfl) (Nat.le_of_ble_eq_true rfl) (fun _ _ _ h => h.elim) (fun w_ σ_ hq => ?_)
    obtain ⟨rfl, rfl⟩ := hq
    obtain ⟨r7, er7, h⟩ := bd_s h
    refine kN_j (MP τ m ad r7) 48 [] ?_ (fun jr7 => ?_)
    · skip
      refine kx_aload_n dX6_reference_48 rfl rfl ?_
      obtain ⟨r9, er9, h⟩ := bd_s h
      refine kx_callV dX6_reference_49 lk_X6_214 (mM_goOn hd er9) rfl kN_rc rfl (Nat.le_of_ble_eq_true rfl) (Nat.le_of_ble_eq_true rfl) (Nat.le_of_ble_eq_true rfl) (Nat.le_of_ble_eq_true rfl) (Nat.le_of_ble_eq_true rfl) (fun _ _ _ h => h.elim) (fun w_ σ_ hq => ?_)
      obtain ⟨rfl, rfl⟩ := hq
      refine kx_aload_n dX6_reference_52 rfl rfl ?_
      obtain ⟨r10, er10, h⟩ := bd_s h
      refine kx_callV dX6_reference_53 lk_X6_88 (mM_good hd er10) rfl kN_rc rfl (Nat.le_of_ble_eq_true rfl) (Nat.le_of_ble_eq_true rfl) (Nat.le_of_ble_eq_true rfl) (Nat.le_of_ble_eq_true rfl) (Nat.le_of_ble_eq_true rfl) (fun _ _ _ h => h.elim) (fun w_ σ_ hq => ?_)
      obtain ⟨rfl, rfl⟩ := hq
      obtain ⟨r11, er11, h⟩ := bd_s h
      refine kN_j (MP τ m ad r11.1) 64 [.int (r11.2)] ?_ (fun jr11 => ?_)
      · skip
        exact kx_iret dX6_reference_64 rfl (hQ _ _ (rtI (Option.some.inj h)))
      · have h := er11
        refine kx_if_eq (tgt := 63) dX6_reference_56 (by decide) (fun c => ?_) (fun c => ?_)
        · have h := if_t c h
          refine kx_iconst (v := 0) dX6_reference_63 (by decide) ?_
          exact jnI h jr11
        · have h := if_f c h
          refine kx_iload_n dX6_reference_59 rfl rfl ?_
          refine kx_goto (tgt := 64) dX6_reference_60 (by decide) ?_
          exact jnI h jr11
    · have h := er7
      refine kx_if_eq (tgt := 48) dX6_reference_35 (by decide) (fun c => ?_) (fun c => ?_)
      · have h := if_t c h
        exact jnS h jr7
      · have h := if_f c h
        refine kx_iload_n dX6_reference_38 rfl rfl ?_
        refine kx_iconst (v := -1) dX6_reference_39 (by decide) ?_
        refine kx_icmp_ne (tgt := 48) dX6_reference_40 (by decide) (fun c => ?_) (fun c => ?_)
        · have h := if_f c h
          exact jnS h jr7
        · have h := if_t c h
          refine kx_aload_n dX6_reference_43 rfl rfl ?_
          refine kx_iconst (v := 3) dX6_reference_44 (by decide) ?_
          obtain ⟨r8, er8, h⟩ := bd_s h
          refine kx_callV dX6_reference_45 lk_X6_211 (mM_errs hd er8) rfl kN_rc rfl (Nat.le_of_ble_eq_true rfl) (Nat.le_of_ble_eq_true rfl) (Nat.le_of_ble_eq_true rfl) (Nat.le_of_ble_eq_true rfl) (Nat.le_of_ble_eq_true rfl) (fun _ _ _ h => h.elim) (fun w_ σ_ hq => ?_)
          obtain ⟨rfl, rfl⟩ := hq
          exact jnS h jr7
  · have h := er3
    refine kx_if_ne (tgt := 15) dX6_reference_8 (by decide) (fun c => ?_) (fun c => ?_)
    · have h := if_f c h
      refine kx_iload_n dX6_reference_15 rfl rfl ?_
      refine kx_if_ne (tgt := 26) dX6_reference_16 (by decide) (fun c => ?_) (fun c => ?_)
      · have h := if_f c h
        refine kx_aload_n dX6_reference_26 rfl rfl ?_
        obtain ⟨r4, er4, h⟩ := bd_s h
        refine kx_callV dX6_reference_27 lk_X6_234 (mM_loadNamed hd er4) rfl kN_rc rfl (Nat.le_of_ble_eq_true rfl) (Nat.le_of_ble_eq_true rfl) (Nat.le_of_ble_eq_true rfl) (Nat.le_of_ble_eq_true rfl) (Nat.le_of_ble_eq_true rfl) (fun _ _ _ h => h.elim) (fun w_ σ_ hq => ?_)
        obtain ⟨rfl, rfl⟩ := hq
        exact jnI h jr3
      · have h := if_t c h
        refine kx_aload_n dX6_reference_19 rfl rfl ?_
        obtain ⟨r5, er5, h⟩ := bd_s h
        refine kx_callV dX6_reference_20 lk_X6_231 (mM_branchNamed hd er5) rfl kN_rc rfl (Nat.le_of_ble_eq_true rfl) (Nat.le_of_ble_eq_true rfl) (Nat.le_of_ble_eq_true rfl) (Nat.le_of_ble_eq_true rfl) (Nat.le_of_ble_eq_true rfl) (fun _ _ _ h => h.elim) (fun w_ σ_ hq => ?_)
        obtain ⟨rfl, rfl⟩ := hq
        refine kx_goto (tgt := 30) dX6_reference_23 (by decide) ?_
        exact jnI h jr3
    · have h := if_t c h
      refine kx_iconst (v := 0) dX6_reference_11 (by decide) ?_
      refine kx_goto (tgt := 30) dX6_reference_12 (by decide) ?_
      exact jnI h jr3
set_option maxHeartbeats 4000000 in
theorem mL_parseTests_5 {G : KG} {τ : KHp} {m : Nat} {ad : Nat → Nat} {Q : KQ} {X : KX} {y1 : Int32} {a0 : TS} {z : TS} (hd : Md m ad) (h : loopN (fun w : TS => B_parseTests_5 y1 w) 9000 a0 = some z) (kk : kx G (yX6_parseTests.cls, cX6_parseTests, 2, (Option.none : Option Jvm.ClassFile.FieldType), false, []) (8, 0, 0, Q, X) 0 0 (MP τ m ad z) 22 (kF [(0, .ref m)]) []) : kx G (yX6_parseTests.cls, cX6_parseTests, 2, (Option.none : Option Jvm.ClassFile.FieldType), false, []) (8, 0, 0, Q, X) 0 0 (MP τ m ad a0) 5 (kF [(0, .ref m), (1, .int (y1))]) [] := by
  refine loopK_0_0 (B := B_parseTests_5 y1) (fun (a : TS) => kx G (yX6_parseTests.cls, cX6_parseTests, 2, (Option.none : Option Jvm.ClassFile.FieldType), false, []) (8, 0, 0, Q, X) 0 0 (MP τ m ad a) 5 (kF [(0, .ref m), (1, .int (y1))]) []) (fun (b : TS) => kx G (yX6_parseTests.cls, cX6_parseTests, 2, (Option.none : Option Jvm.ClassFile.FieldType), false, []) (8, 0, 0, Q, X) 0 0 (MP τ m ad b) 22 (kF [(0, .ref m)]) []) (fun a r h kI kE => ?_) _ _ _ h kk
  · unfold B_parseTests_5 at h
    refine kx_aload_n dX6_parseTests_5 rfl rfl ?_
    refine kx_ldcS dX6_parseTests_6 ks_ArcRecorderModel_192 ?_
    obtain ⟨r5001, er5001, h⟩ := bd_s h
    refine kx_callV dX6_parseTests_8 lk_X6_284 (mM_takes hd er5001) rfl kN_rc rfl (Nat.le_of_ble_eq_true rfl) (Nat.le_of_ble_eq_true rfl) (Nat.le_of_ble_eq_true rfl) (Nat.le_of_ble_eq_true rfl) (Nat.le_of_ble_eq_true rfl) (fun _ _ _ h => h.elim) (fun w_ σ_ hq => ?_)
    obtain ⟨rfl, rfl⟩ := hq
    refine kx_if_eq (tgt := 22) dX6_parseTests_11 (by decide) (fun c => ?_) (fun c => ?_)
    · have h := if_t c h
      exact kx_lwF [(0, .ref m)] ⟨rfl, trivial⟩ (kE (r5001.1) (Option.some.inj h).symm)
    · have h := if_f c h
      refine kx_aload_n dX6_parseTests_14 rfl rfl ?_
      refine kx_iload_n dX6_parseTests_15 rfl rfl ?_
      obtain ⟨r5002, er5002, h⟩ := bd_s h
      refine kx_callV dX6_parseTests_16 lk_X6_281 (mM_parseTest hd er5002) rfl kN_rc rfl (Nat.le_of_ble_eq_true rfl) (Nat.le_of_ble_eq_true rfl) (Nat.le_of_ble_eq_true rfl) (Nat.le_of_ble_eq_true rfl) (Nat.le_of_ble_eq_true rfl) (fun _ _ _ h => h.elim) (fun w_ σ_ hq => ?_)
      obtain ⟨rfl, rfl⟩ := hq
      refine kx_goto (tgt := 5) dX6_parseTests_19 (by decide) ?_
      exact kx_lwF [(0, .ref m), (1, .int (y1))] ⟨rfl, rfl, trivial⟩ (kI (r5002) (Option.some.inj h).symm)
set_option maxHeartbeats 4000000 in
theorem mM_parseTests {G : KG} {τ : KHp} {m : Nat} {ad : Nat → Nat} {s : TS} {x1 : Int32} {z : TS} (hd : Md m ad) (h : P_parseTests s x1 = some z) : kx_c G yX6_parseTests (ws_ yX6_parseTests cX6_parseTests 2 (Option.none : Option Jvm.ClassFile.FieldType)) 8 0 0 [.ref m, .int (x1)] (MP τ m ad s) (fun rv σ' => rv = none ∧ σ' = MP τ m ad z) kx_n := by
  refine kx_mk3 (ini := false) rfl (Nat.le_of_ble_eq_true rfl) (fun h => by cases h) (fun Q X hQ hX => ?_)
  unfold P_parseTests at h
  refine kx_aload_n dX6_parseTests_0 rfl rfl ?_
  refine kx_iload_n dX6_parseTests_1 rfl rfl ?_
  obtain ⟨r1, er1, h⟩ := bd_s h
  refine kx_callV dX6_parseTests_2 lk_X6_281 (mM_parseTest hd er1) rfl kN_rc rfl (Nat.le_of_ble_eq_true rfl) (Nat.le_of_ble_eq_true rfl) (Nat.le_of_ble_eq_true rfl) (Nat.le_of_ble_eq_true rfl) (Nat.le_of_ble_eq_true rfl) (fun _ _ _ h => h.elim) (fun w_ σ_ hq => ?_)
  obtain ⟨rfl, rfl⟩ := hq
  obtain ⟨b2, eb2, h⟩ := bd_s h
  refine kx_lwF [(0, .ref m), (1, .int (x1))] ⟨rfl, rfl, trivial⟩ (mL_parseTests_5 hd (a0 := (r1)) eb2 ?_)
  refine kx_aload_n dX6_parseTests_22 rfl rfl ?_
  obtain ⟨r3, er3, h⟩ := bd_s h
  refine kx_callV dX6_parseTests_23 lk_X6_263 (mM_semicolon hd er3) rfl kN_rc rfl (Nat.le_of_ble_eq_true rfl) (Nat.le_of_ble_eq_true rfl) (Nat.le_of_ble_eq_true rfl) (Nat.le_of_ble_eq_true rfl) (Nat.le_of_ble_eq_true rfl) (fun _ _ _ h => h.elim) (fun w_ σ_ hq => ?_)
  obtain ⟨rfl, rfl⟩ := hq
  exact kx_vret dX6_parseTests_26 rfl (hQ _ _ (rtV (Option.some.inj h)))
set_option maxHeartbeats 4000000 in
theorem mM_parsePlan {G : KG} {τ : KHp} {m : Nat} {ad : Nat → Nat} {s : TS}  {z : TS} (hd : Md m ad) (h : P_parsePlan s  = some z) : kx_c G yX6_parsePlan (ws_ yX6_parsePlan cX6_parsePlan 4 (Option.none : Option Jvm.ClassFile.FieldType)) 10 0 0 [.ref m] (MP τ m ad s) (fun rv σ' => rv = none ∧ σ' = MP τ m ad z) kx_n := by
  refine kx_mk3 (ini := false) rfl (Nat.le_of_ble_eq_true rfl) (fun h => by cases h) (fun Q X hQ hX => ?_)
  unfold P_parsePlan at h
  refine kx_aload_n dX6_parsePlan_0 rfl rfl ?_
  refine kx_getf dX6_parsePlan_1 fl_X6_24_X6 kN_m rfl ?_
  refine kx_bipush (v := 7) dX6_parsePlan_4 (by decide) ?_
  refine kN_ald hd dX6_parsePlan_6 h (fun v1 ev1 h => ?_)
  refine kx_bipush (v := 20) dX6_parsePlan_7 (by decide) ?_
  obtain ⟨r2, er2, h⟩ := bd_s h
  refine kN_j (MP τ m ad r2) 17 [] ?_ (fun jr2 => ?_)
  · skip
    refine kx_aload_n dX6_parsePlan_17 rfl rfl ?_
    obtain ⟨r4, er4, h⟩ := bd_s h
    refine kx_callV dX6_parsePlan_18 lk_X6_214 (mM_goOn hd er4) rfl kN_rc rfl (Nat.le_of_ble_eq_true rfl) (Nat.le_of_ble_eq_true rfl) (Nat.le_of_ble_eq_true rfl) (Nat.le_of_ble_eq_true rfl) (Nat.le_of_ble_eq_true rfl) (fun _ _ _ h => h.elim) (fun w_ σ_ hq => ?_)
    obtain ⟨rfl, rfl⟩ := hq
    refine kx_aload_n dX6_parsePlan_21 rfl rfl ?_
    refine kx_iconst (v := 1) dX6_parsePlan_22 (by decide) ?_
    refine kx_sipush (v := 9999) dX6_parsePlan_23 (by decide) ?_
    obtain ⟨r5, er5, h⟩ := bd_s h
    refine kx_callV dX6_parsePlan_26 lk_X6_221 (mM_number hd er5) rfl kN_rc rfl (Nat.le_of_ble_eq_true rfl) (Nat.le_of_ble_eq_true rfl) (Nat.le_of_ble_eq_true rfl) (Nat.le_of_ble_eq_true rfl) (Nat.le_of_ble_eq_true rfl) (fun _ _ _ h => h.elim) (fun w_ σ_ hq => ?_)
    obtain ⟨rfl, rfl⟩ := hq
    refine kx_istore_n dX6_parsePlan_29 rfl (Nat.le_of_ble_eq_true rfl) ?_
    refine kx_aload_n dX6_parsePlan_30 rfl rfl ?_
    refine kx_ldcS dX6_parsePlan_31 ks_ArcRecorderModel_198 ?_
    obtain ⟨r6, er6, h⟩ := bd_s h
    refine kx_callV dX6_parsePlan_33 lk_X6_208 (mM_isText hd er6) rfl kN_rc rfl (Nat.le_of_ble_eq_true rfl) (Nat.le_of_ble_eq_true rfl) (Nat.le_of_ble_eq_true rfl) (Nat.le_of_ble_eq_true rfl) (Nat.le_of_ble_eq_true rfl) (fun _ _ _ h => h.elim) (fun w_ σ_ hq => ?_)
    obtain ⟨rfl, rfl⟩ := hq
    refine kx_istore_n dX6_parsePlan_36 rfl (Nat.le_of_ble_eq_true rfl) ?_
    refine kx_iload_n dX6_parsePlan_37 rfl rfl ?_
    obtain ⟨r7, er7, h⟩ := bd_s h
    refine kN_j (MP τ m ad r7) 55 [] ?_ (fun jr7 => ?_)
    · skip
      refine kx_aload_n dX6_parsePlan_55 rfl rfl ?_
      obtain ⟨r10, er10, h⟩ := bd_s h
      refine kx_callV dX6_parsePlan_56 lk_X6_214 (mM_goOn hd er10) rfl kN_rc rfl (Nat.le_of_ble_eq_true rfl) (Nat.le_of_ble_eq_true rfl) (Nat.le_of_ble_eq_true rfl) (Nat.le_of_ble_eq_true rfl) (Nat.le_of_ble_eq_true rfl) (fun _ _ _ h => h.elim) (fun w_ σ_ hq => ?_)
      obtain ⟨rfl, rfl⟩ := hq
      refine kx_aload_n dX6_parsePlan_59 rfl rfl ?_
      refine kx_iconst (v := 1) dX6_parsePlan_60 (by decide) ?_
      obtain ⟨r11, er11, h⟩ := bd_s h
      refine kx_callV dX6_parsePlan_61 lk_X6_277 (mM_reference hd er11) rfl kN_rc rfl (Nat.le_of_ble_eq_true rfl) (Nat.le_of_ble_eq_true rfl) (Nat.le_of_ble_eq_true rfl) (Nat.le_of_ble_eq_true rfl) (Nat.le_of_ble_eq_true rfl) (fun _ _ _ h => h.elim) (fun w_ σ_ hq => ?_)
      obtain ⟨rfl, rfl⟩ := hq
      refine kx_istore_n dX6_parsePlan_64 rfl (Nat.le_of_ble_eq_true rfl) ?_
      refine kx_aload_n dX6_parsePlan_65 rfl rfl ?_
      obtain ⟨r12, er12, h⟩ := bd_s h
      refine kx_callV dX6_parsePlan_66 lk_X6_263 (mM_semicolon hd er12) rfl kN_rc rfl (Nat.le_of_ble_eq_true rfl) (Nat.le_of_ble_eq_true rfl) (Nat.le_of_ble_eq_true rfl) (Nat.le_of_ble_eq_true rfl) (Nat.le_of_ble_eq_true rfl) (fun _ _ _ h => h.elim) (fun w_ σ_ hq => ?_)
      obtain ⟨rfl, rfl⟩ := hq
      refine kx_aload_n dX6_parsePlan_69 rfl rfl ?_
      obtain ⟨r13, er13, h⟩ := bd_s h
      refine kx_callV dX6_parsePlan_70 lk_X6_88 (mM_good hd er13) rfl kN_rc rfl (Nat.le_of_ble_eq_true rfl) (Nat.le_of_ble_eq_true rfl) (Nat.le_of_ble_eq_true rfl) (Nat.le_of_ble_eq_true rfl) (Nat.le_of_ble_eq_true rfl) (fun _ _ _ h => h.elim) (fun w_ σ_ hq => ?_)
      obtain ⟨rfl, rfl⟩ := hq
      refine kx_if_eq (tgt := 91) dX6_parsePlan_73 (by decide) (fun c => ?_) (fun c => ?_)
      · have h := if_t c h
        exact kx_vret dX6_parsePlan_91 rfl (hQ _ _ (rtV (Option.some.inj h)))
      · have h := if_f c h
        refine kx_aload_n dX6_parsePlan_76 rfl rfl ?_
        refine kx_iload_n dX6_parsePlan_77 rfl rfl ?_
        refine kx_iload_n dX6_parsePlan_78 rfl rfl ?_
        refine kx_iload_n dX6_parsePlan_79 rfl rfl ?_
        obtain ⟨r14, er14, h⟩ := bd_s h
        refine kN_j (MP τ m ad r14.1) 88 [.int (r14.2), .int (r11.2), .int (r5.2), .ref m] ?_ (fun jr14 => ?_)
        · skip
          obtain ⟨r15, er15, h⟩ := bd_s h
          refine kx_callV dX6_parsePlan_88 lk_X6_290 (mM_layPlan hd er15) rfl kN_rc rfl (Nat.le_of_ble_eq_true rfl) (Nat.le_of_ble_eq_true rfl) (Nat.le_of_ble_eq_true rfl) (Nat.le_of_ble_eq_true rfl) (Nat.le_of_ble_eq_true rfl) (fun _ _ _ h => h.elim) (fun w_ σ_ hq => ?_)
          obtain ⟨rfl, rfl⟩ := hq
          exact kx_vret dX6_parsePlan_91 rfl (hQ _ _ (rtV (Option.some.inj h)))
        · have h := er14
          refine kx_if_eq (tgt := 87) dX6_parsePlan_80 (by decide) (fun c => ?_) (fun c => ?_)
          · have h := if_t c h
            refine kx_iconst (v := 0) dX6_parsePlan_87 (by decide) ?_
            exact jnI h jr14
          · have h := if_f c h
            refine kx_iconst (v := 1) dX6_parsePlan_83 (by decide) ?_
            refine kx_goto (tgt := 88) dX6_parsePlan_84 (by decide) ?_
            exact jnI h jr14
    · have h := er7
      refine kx_if_ne (tgt := 55) dX6_parsePlan_38 (by decide) (fun c => ?_) (fun c => ?_)
      · have h := if_f c h
        exact jnS h jr7
      · have h := if_t c h
        refine kx_aload_n dX6_parsePlan_41 rfl rfl ?_
        refine kx_ldcS dX6_parsePlan_42 ks_ArcRecorderModel_200 ?_
        obtain ⟨r8, er8, h⟩ := bd_s h
        refine kx_callV dX6_parsePlan_44 lk_X6_208 (mM_isText hd er8) rfl kN_rc rfl (Nat.le_of_ble_eq_true rfl) (Nat.le_of_ble_eq_true rfl) (Nat.le_of_ble_eq_true rfl) (Nat.le_of_ble_eq_true rfl) (Nat.le_of_ble_eq_true rfl) (fun _ _ _ h => h.elim) (fun w_ σ_ hq => ?_)
        obtain ⟨rfl, rfl⟩ := hq
        refine kx_if_ne (tgt := 55) dX6_parsePlan_47 (by decide) (fun c => ?_) (fun c => ?_)
        · have h := if_f c h
          exact jnS h jr7
        · have h := if_t c h
          refine kx_aload_n dX6_parsePlan_50 rfl rfl ?_
          refine kx_iconst (v := 1) dX6_parsePlan_51 (by decide) ?_
          obtain ⟨r9, er9, h⟩ := bd_s h
          refine kx_callV dX6_parsePlan_52 lk_X6_211 (mM_errs hd er9) rfl kN_rc rfl (Nat.le_of_ble_eq_true rfl) (Nat.le_of_ble_eq_true rfl) (Nat.le_of_ble_eq_true rfl) (Nat.le_of_ble_eq_true rfl) (Nat.le_of_ble_eq_true rfl) (fun _ _ _ h => h.elim) (fun w_ σ_ hq => ?_)
          obtain ⟨rfl, rfl⟩ := hq
          exact jnS h jr7
  · have h := er2
    refine kx_icmp_ne (tgt := 17) dX6_parsePlan_9 (by decide) (fun c => ?_) (fun c => ?_)
    · have h := if_f c h
      exact jnS h jr2
    · have h := if_t c h
      refine kx_aload_n dX6_parsePlan_12 rfl rfl ?_
      refine kx_iconst (v := 4) dX6_parsePlan_13 (by decide) ?_
      obtain ⟨r3, er3, h⟩ := bd_s h
      refine kx_callV dX6_parsePlan_14 lk_X6_211 (mM_errs hd er3) rfl kN_rc rfl (Nat.le_of_ble_eq_true rfl) (Nat.le_of_ble_eq_true rfl) (Nat.le_of_ble_eq_true rfl) (Nat.le_of_ble_eq_true rfl) (Nat.le_of_ble_eq_true rfl) (fun _ _ _ h => h.elim) (fun w_ σ_ hq => ?_)
      obtain ⟨rfl, rfl⟩ := hq
      exact jnS h jr2
set_option maxHeartbeats 4000000 in
theorem mM_find {G : KG} {τ : KHp} {m : Nat} {ad : Nat → Nat} {s : TS}  {z : TS × Int32} (hd : Md m ad) (h : P_find s  = some z) : kx_c G yX6_find (ws_ yX6_find cX6_find 6 (Option.some Jvm.ClassFile.FieldType.int)) 4 0 0 [.ref m] (MP τ m ad s) (fun rv σ' => rv = some (.int z.2) ∧ σ' = MP τ m ad z.1) kx_n := by
  refine kx_mk3 (ini := false) rfl (Nat.le_of_ble_eq_true rfl) (fun h => by cases h) (fun Q X hQ hX => ?_)
  unfold P_find at h
  refine kx_aload_n dX6_find_0 rfl rfl ?_
  refine kx_iconst (v := 0) dX6_find_1 (by decide) ?_
  refine kN_put dX6_find_2 fl_X6_3_X6 (Or.inl rfl) rfl h rfl (fun s1 es1 h => ?_)
  refine kx_aload_n dX6_find_5 rfl rfl ?_
  obtain ⟨r2, er2, h⟩ := bd_s h
  refine kx_callV dX6_find_6 lk_X6_324 (mM_looksAtWord hd er2) rfl kN_rc rfl (Nat.le_of_ble_eq_true rfl) (Nat.le_of_ble_eq_true rfl) (Nat.le_of_ble_eq_true rfl) (Nat.le_of_ble_eq_true rfl) (Nat.le_of_ble_eq_true rfl) (fun _ _ _ h => h.elim) (fun w_ σ_ hq => ?_)
  obtain ⟨rfl, rfl⟩ := hq
  refine kx_istore_n dX6_find_9 rfl (Nat.le_of_ble_eq_true rfl) ?_
  refine kx_aload_n dX6_find_10 rfl rfl ?_
  refine kx_iconst (v := 0) dX6_find_11 (by decide) ?_
  refine kN_put dX6_find_12 fl_X6_74_X6 (Or.inl rfl) rfl h rfl (fun s3 es3 h => ?_)
  refine kx_iload_n dX6_find_15 rfl rfl ?_
  refine kx_if_ne (tgt := 21) dX6_find_16 (by decide) (fun c => ?_) (fun c => ?_)
  · have h := if_f c h
    refine kx_aload_n dX6_find_21 rfl rfl ?_
    obtain ⟨r4, er4, h⟩ := bd_s h
    refine kx_callV dX6_find_22 lk_X6_231 (mM_branchNamed hd er4) rfl kN_rc rfl (Nat.le_of_ble_eq_true rfl) (Nat.le_of_ble_eq_true rfl) (Nat.le_of_ble_eq_true rfl) (Nat.le_of_ble_eq_true rfl) (Nat.le_of_ble_eq_true rfl) (fun _ _ _ h => h.elim) (fun w_ σ_ hq => ?_)
    obtain ⟨rfl, rfl⟩ := hq
    refine kx_istore_n dX6_find_25 rfl (Nat.le_of_ble_eq_true rfl) ?_
    refine kx_aload_n dX6_find_26 rfl rfl ?_
    obtain ⟨r5, er5, h⟩ := bd_s h
    refine kx_callV dX6_find_27 lk_X6_234 (mM_loadNamed hd er5) rfl kN_rc rfl (Nat.le_of_ble_eq_true rfl) (Nat.le_of_ble_eq_true rfl) (Nat.le_of_ble_eq_true rfl) (Nat.le_of_ble_eq_true rfl) (Nat.le_of_ble_eq_true rfl) (fun _ _ _ h => h.elim) (fun w_ σ_ hq => ?_)
    obtain ⟨rfl, rfl⟩ := hq
    refine kx_istore_n dX6_find_30 rfl (Nat.le_of_ble_eq_true rfl) ?_
    refine kx_aload_n dX6_find_31 rfl rfl ?_
    obtain ⟨r6, er6, h⟩ := bd_s h
    refine kx_callV dX6_find_32 lk_X6_237 (mM_signatureNamed hd er6) rfl kN_rc rfl (Nat.le_of_ble_eq_true rfl) (Nat.le_of_ble_eq_true rfl) (Nat.le_of_ble_eq_true rfl) (Nat.le_of_ble_eq_true rfl) (Nat.le_of_ble_eq_true rfl) (fun _ _ _ h => h.elim) (fun w_ σ_ hq => ?_)
    obtain ⟨rfl, rfl⟩ := hq
    refine kx_istore dX6_find_35 (Nat.le_of_ble_eq_true rfl) ?_
    refine kx_aload_n dX6_find_37 rfl rfl ?_
    obtain ⟨r7, er7, h⟩ := bd_s h
    refine kx_callV dX6_find_38 lk_X6_240 (mM_nuisanceNamed hd er7) rfl kN_rc rfl (Nat.le_of_ble_eq_true rfl) (Nat.le_of_ble_eq_true rfl) (Nat.le_of_ble_eq_true rfl) (Nat.le_of_ble_eq_true rfl) (Nat.le_of_ble_eq_true rfl) (fun _ _ _ h => h.elim) (fun w_ σ_ hq => ?_)
    obtain ⟨rfl, rfl⟩ := hq
    refine kx_istore dX6_find_41 (Nat.le_of_ble_eq_true rfl) ?_
    refine kx_iload_n dX6_find_43 rfl rfl ?_
    refine kx_iconst (v := -1) dX6_find_44 (by decide) ?_
    obtain ⟨r8, er8, h⟩ := bd_s h
    refine kN_j (MP τ m ad r8.1) 95 [.int (r8.2)] ?_ (fun jr8 => ?_)
    · skip
      exact kx_iret dX6_find_95 rfl (hQ _ _ (rtI (Option.some.inj h)))
    · have h := er8
      refine kx_icmp_eq (tgt := 52) dX6_find_45 (by decide) (fun c => ?_) (fun c => ?_)
      · have h := if_t c h
        refine kx_iload_n dX6_find_52 rfl rfl ?_
        refine kx_iconst (v := -1) dX6_find_53 (by decide) ?_
        refine kx_icmp_eq (tgt := 64) dX6_find_54 (by decide) (fun c => ?_) (fun c => ?_)
        · have h := if_t c h
          refine kx_iload dX6_find_64 rfl ?_
          refine kx_iconst (v := -1) dX6_find_66 (by decide) ?_
          refine kx_icmp_eq (tgt := 79) dX6_find_67 (by decide) (fun c => ?_) (fun c => ?_)
          · have h := if_t c h
            refine kx_iload dX6_find_79 rfl ?_
            refine kx_iconst (v := -1) dX6_find_81 (by decide) ?_
            refine kx_icmp_eq (tgt := 94) dX6_find_82 (by decide) (fun c => ?_) (fun c => ?_)
            · have h := if_t c h
              refine kx_iconst (v := -1) dX6_find_94 (by decide) ?_
              exact jnI h jr8
            · have h := if_f c h
              refine kx_sipush (v := 300) dX6_find_85 (by decide) ?_
              refine kx_iload dX6_find_88 rfl ?_
              refine kx_iadd dX6_find_90 ?_
              refine kx_goto (tgt := 95) dX6_find_91 (by decide) ?_
              exact jnI h jr8
          · have h := if_f c h
            refine kx_sipush (v := 200) dX6_find_70 (by decide) ?_
            refine kx_iload dX6_find_73 rfl ?_
            refine kx_iadd dX6_find_75 ?_
            refine kx_goto (tgt := 95) dX6_find_76 (by decide) ?_
            exact jnI h jr8
        · have h := if_f c h
          refine kx_bipush (v := 100) dX6_find_57 (by decide) ?_
          refine kx_iload_n dX6_find_59 rfl rfl ?_
          refine kx_iadd dX6_find_60 ?_
          refine kx_goto (tgt := 95) dX6_find_61 (by decide) ?_
          exact jnI h jr8
      · have h := if_f c h
        refine kx_iload_n dX6_find_48 rfl rfl ?_
        refine kx_goto (tgt := 95) dX6_find_49 (by decide) ?_
        exact jnI h jr8
  · have h := if_t c h
    refine kx_iconst (v := -1) dX6_find_19 (by decide) ?_
    exact kx_iret dX6_find_20 rfl (hQ _ _ (rtI (Option.some.inj h)))
set_option maxHeartbeats 4000000 in
theorem mM_sampleNow {G : KG} {τ : KHp} {m : Nat} {ad : Nat → Nat} {s : TS} {x1 : Int32} {x2 : Int32} {z : TS × UInt32} (hd : Md m ad) (h : P_sampleNow s x1 x2 = some z) : kx_c G yX6_sampleNow (ws_ yX6_sampleNow cX6_sampleNow 3 (Option.some Jvm.ClassFile.FieldType.float)) 4 0 0 [.ref m, .int (x1), .int (x2)] (MP τ m ad s) (fun rv σ' => rv = some (.float z.2) ∧ σ' = MP τ m ad z.1) kx_n := by
  refine kx_mk3 (ini := false) rfl (Nat.le_of_ble_eq_true rfl) (fun h => by cases h) (fun Q X hQ hX => ?_)
  unfold P_sampleNow at h
  refine kx_aload_n dX6_sampleNow_0 rfl rfl ?_
  refine kx_iload_n dX6_sampleNow_1 rfl rfl ?_
  refine kx_iconst (v := 0) dX6_sampleNow_2 (by decide) ?_
  obtain ⟨r1, er1, h⟩ := bd_s h
  refine kx_callV dX6_sampleNow_3 lk_X6_342 (mM_ofLoad hd er1) rfl kN_rc rfl (Nat.le_of_ble_eq_true rfl) (Nat.le_of_ble_eq_true rfl) (Nat.le_of_ble_eq_true rfl) (Nat.le_of_ble_eq_true rfl) (Nat.le_of_ble_eq_true rfl) (fun _ _ _ h => h.elim) (fun w_ σ_ hq => ?_)
  obtain ⟨rfl, rfl⟩ := hq
  refine kx_iconst (v := 3) dX6_sampleNow_6 (by decide) ?_
  refine kx_icmp_eq (tgt := 17) dX6_sampleNow_7 (by decide) (fun c => ?_) (fun c => ?_)
  · have h := if_t c h
    refine kx_aload_n dX6_sampleNow_17 rfl rfl ?_
    refine kx_getf dX6_sampleNow_18 fl_X6_38_X6 kN_m rfl ?_
    refine kx_iload_n dX6_sampleNow_21 rfl rfl ?_
    refine kN_bld hd dX6_sampleNow_22 h (fun v2 ev2 h => ?_)
    obtain ⟨r3, er3, h⟩ := bd_s h
    refine kN_j (MP τ m ad r3.1) 48 [.float (r3.2)] ?_ (fun jr3 => ?_)
    · skip
      exact kx_fret dX6_sampleNow_48 rfl (hQ _ _ (rtF (Option.some.inj h)))
    · have h := er3
      refine kx_if_eq (tgt := 30) dX6_sampleNow_23 (by decide) (fun c => ?_) (fun c => ?_)
      · have h := if_t c h
        refine kx_aload_n dX6_sampleNow_30 rfl rfl ?_
        refine kx_iload_n dX6_sampleNow_31 rfl rfl ?_
        refine kx_iload_n dX6_sampleNow_32 rfl rfl ?_
        refine kx_aload_n dX6_sampleNow_33 rfl rfl ?_
        refine kx_getf dX6_sampleNow_34 fl_X6_42_X6 kN_m rfl ?_
        refine kx_iload_n dX6_sampleNow_37 rfl rfl ?_
        refine kN_ald hd dX6_sampleNow_38 h (fun v4 ev4 h => ?_)
        refine kx_aload_n dX6_sampleNow_39 rfl rfl ?_
        refine kx_getf dX6_sampleNow_40 fl_X6_45_X6 kN_m rfl ?_
        refine kx_iload_n dX6_sampleNow_43 rfl rfl ?_
        refine kN_fld hd dX6_sampleNow_44 h (fun v5 ev5 h => ?_)
        obtain ⟨r6, er6, h⟩ := bd_s h
        refine kx_callV dX6_sampleNow_45 lk_X6_370 (mM_arcAt hd er6) rfl kN_rc rfl (Nat.le_of_ble_eq_true rfl) (Nat.le_of_ble_eq_true rfl) (Nat.le_of_ble_eq_true rfl) (Nat.le_of_ble_eq_true rfl) (Nat.le_of_ble_eq_true rfl) (fun _ _ _ h => h.elim) (fun w_ σ_ hq => ?_)
        obtain ⟨rfl, rfl⟩ := hq
        exact jnF h jr3
      · have h := if_f c h
        refine kx_fconst0 dX6_sampleNow_26 ?_
        refine kx_goto (tgt := 48) dX6_sampleNow_27 (by decide) ?_
        exact jnF h jr3
  · have h := if_f c h
    refine kx_aload_n dX6_sampleNow_10 rfl rfl ?_
    refine kx_iload_n dX6_sampleNow_11 rfl rfl ?_
    refine kx_iload_n dX6_sampleNow_12 rfl rfl ?_
    obtain ⟨r7, er7, h⟩ := bd_s h
    refine kx_callV dX6_sampleNow_13 lk_X6_374 (mM_plainAt hd er7) rfl kN_rc rfl (Nat.le_of_ble_eq_true rfl) (Nat.le_of_ble_eq_true rfl) (Nat.le_of_ble_eq_true rfl) (Nat.le_of_ble_eq_true rfl) (Nat.le_of_ble_eq_true rfl) (fun _ _ _ h => h.elim) (fun w_ σ_ hq => ?_)
    obtain ⟨rfl, rfl⟩ := hq
    exact kx_fret dX6_sampleNow_16 rfl (hQ _ _ (rtF (Option.some.inj h)))
set_option maxHeartbeats 4000000 in
theorem mL_judge_2 {G : KG} {τ : KHp} {m : Nat} {ad : Nat → Nat} {Q : KQ} {X : KX} {y1 : Int32} {a0 : TS × Int32} {z : TS} (hd : Md m ad) (h : loopN (fun w : TS × Int32 => B_judge_2 y1 w.1 w.2) 9000 a0 = some z) (kk : kx G (yX6_judge.cls, cX6_judge, 5, (Option.none : Option Jvm.ClassFile.FieldType), false, []) (3, 0, 0, Q, X) 0 0 (MP τ m ad z) 26 (kF [(0, .ref m), (1, .int (y1))]) []) : kx G (yX6_judge.cls, cX6_judge, 5, (Option.none : Option Jvm.ClassFile.FieldType), false, []) (3, 0, 0, Q, X) 0 0 (MP τ m ad a0.1) 2 (kF [(0, .ref m), (1, .int (y1)), (2, .int (a0.2))]) [] := by
  refine loopK_1_0 (B := B_judge_2 y1) (fun (a : TS) (a2 : Int32) => kx G (yX6_judge.cls, cX6_judge, 5, (Option.none : Option Jvm.ClassFile.FieldType), false, []) (3, 0, 0, Q, X) 0 0 (MP τ m ad a) 2 (kF [(0, .ref m), (1, .int (y1)), (2, .int (a2))]) []) (fun (b : TS) => kx G (yX6_judge.cls, cX6_judge, 5, (Option.none : Option Jvm.ClassFile.FieldType), false, []) (3, 0, 0, Q, X) 0 0 (MP τ m ad b) 26 (kF [(0, .ref m), (1, .int (y1))]) []) (fun a a2 r h kI kE => ?_) _ _ _ h kk
  · unfold B_judge_2 at h
    refine kx_iload_n dX6_judge_2 rfl rfl ?_
    refine kx_bipush (v := 6) dX6_judge_3 (by decide) ?_
    refine kx_icmp_ge (tgt := 26) dX6_judge_5 (by decide) (fun c => ?_) (fun c => ?_)
    · have h := if_t c h
      exact kx_lwF [(0, .ref m), (1, .int (y1))] ⟨rfl, rfl, trivial⟩ (kE (a) (Option.some.inj h).symm)
    · have h := if_f c h
      refine kx_aload_n dX6_judge_8 rfl rfl ?_
      refine kx_getf dX6_judge_9 fl_X6_48_X6 kN_m rfl ?_
      refine kx_iload_n dX6_judge_12 rfl rfl ?_
      refine kx_aload_n dX6_judge_13 rfl rfl ?_
      refine kx_iload_n dX6_judge_14 rfl rfl ?_
      refine kx_iload_n dX6_judge_15 rfl rfl ?_
      obtain ⟨r2001, er2001, h⟩ := bd_s h
      refine kx_callV dX6_judge_16 lk_X6_391 (mM_featureOf hd er2001) rfl kN_rc rfl (Nat.le_of_ble_eq_true rfl) (Nat.le_of_ble_eq_true rfl) (Nat.le_of_ble_eq_true rfl) (Nat.le_of_ble_eq_true rfl) (Nat.le_of_ble_eq_true rfl) (fun _ _ _ h => h.elim) (fun w_ σ_ hq => ?_)
      obtain ⟨rfl, rfl⟩ := hq
      refine kN_fst hd dX6_judge_19 h (fun s2002 es2002 h => ?_)
      refine kx_iinc2 (v := 1) dX6_judge_20 rfl (by decide) ?_
      refine kx_goto (tgt := 2) dX6_judge_23 (by decide) ?_
      exact kx_lwF [(0, .ref m), (1, .int (y1)), (2, .int ((a2 + (1 : Int32))))] ⟨rfl, rfl, rfl, trivial⟩ (kI (s2002) ((a2 + (1 : Int32))) (Option.some.inj h).symm)
set_option maxHeartbeats 4000000 in
theorem mM_judge {G : KG} {τ : KHp} {m : Nat} {ad : Nat → Nat} {s : TS} {x1 : Int32} {z : TS} (hd : Md m ad) (h : P_judge s x1 = some z) : kx_c G yX6_judge (ws_ yX6_judge cX6_judge 5 (Option.none : Option Jvm.ClassFile.FieldType)) 3 0 0 [.ref m, .int (x1)] (MP τ m ad s) (fun rv σ' => rv = none ∧ σ' = MP τ m ad z) kx_n := by
  refine kx_mk3 (ini := false) rfl (Nat.le_of_ble_eq_true rfl) (fun h => by cases h) (fun Q X hQ hX => ?_)
  unfold P_judge at h
  refine kx_iconst (v := 0) dX6_judge_0 (by decide) ?_
  refine kx_istore_n dX6_judge_1 rfl (Nat.le_of_ble_eq_true rfl) ?_
  obtain ⟨b1, eb1, h⟩ := bd_s h
  refine kx_lwF [(0, .ref m), (1, .int (x1)), (2, .int ((0 : Int32)))] ⟨rfl, rfl, rfl, trivial⟩ (mL_judge_2 hd (a0 := (s, (0 : Int32))) eb1 ?_)
  refine kx_aload_n dX6_judge_26 rfl rfl ?_
  refine kx_sipush (v := 475) dX6_judge_27 (by decide) ?_
  refine kx_aload_n dX6_judge_30 rfl rfl ?_
  refine kx_getf dX6_judge_31 fl_X6_17_X6 kN_m rfl ?_
  refine kx_iconst (v := 5) dX6_judge_34 (by decide) ?_
  refine kN_ald hd dX6_judge_35 h (fun v2 ev2 h => ?_)
  obtain ⟨r3, er3, h⟩ := bd_s h
  refine kx_callV dX6_judge_36 lk_X6_394 (mM_matchAll hd er3) rfl kN_rc rfl (Nat.le_of_ble_eq_true rfl) (Nat.le_of_ble_eq_true rfl) (Nat.le_of_ble_eq_true rfl) (Nat.le_of_ble_eq_true rfl) (Nat.le_of_ble_eq_true rfl) (fun _ _ _ h => h.elim) (fun w_ σ_ hq => ?_)
  obtain ⟨rfl, rfl⟩ := hq
  refine kx_istore_n dX6_judge_39 rfl (Nat.le_of_ble_eq_true rfl) ?_
  refine kx_aload_n dX6_judge_40 rfl rfl ?_
  refine kx_sipush (v := 637) dX6_judge_41 (by decide) ?_
  refine kx_aload_n dX6_judge_44 rfl rfl ?_
  refine kx_getf dX6_judge_45 fl_X6_17_X6 kN_m rfl ?_
  refine kx_bipush (v := 6) dX6_judge_48 (by decide) ?_
  refine kN_ald hd dX6_judge_50 h (fun v4 ev4 h => ?_)
  obtain ⟨r5, er5, h⟩ := bd_s h
  refine kx_callV dX6_judge_51 lk_X6_394 (mM_matchAll hd er5) rfl kN_rc rfl (Nat.le_of_ble_eq_true rfl) (Nat.le_of_ble_eq_true rfl) (Nat.le_of_ble_eq_true rfl) (Nat.le_of_ble_eq_true rfl) (Nat.le_of_ble_eq_true rfl) (fun _ _ _ h => h.elim) (fun w_ σ_ hq => ?_)
  obtain ⟨rfl, rfl⟩ := hq
  refine kx_istore_n dX6_judge_54 rfl (Nat.le_of_ble_eq_true rfl) ?_
  refine kx_aload_n dX6_judge_55 rfl rfl ?_
  refine kx_iload_n dX6_judge_56 rfl rfl ?_
  refine kx_iload_n dX6_judge_57 rfl rfl ?_
  obtain ⟨r6, er6, h⟩ := bd_s h
  refine kN_j (MP τ m ad r6.1) 66 [.int (r6.2), .int (r3.2), .ref m] ?_ (fun jr6 => ?_)
  · skip
    obtain ⟨r7, er7, h⟩ := bd_s h
    refine kx_callV dX6_judge_66 lk_X6_397 (mM_firstOf hd er7) rfl kN_rc rfl (Nat.le_of_ble_eq_true rfl) (Nat.le_of_ble_eq_true rfl) (Nat.le_of_ble_eq_true rfl) (Nat.le_of_ble_eq_true rfl) (Nat.le_of_ble_eq_true rfl) (fun _ _ _ h => h.elim) (fun w_ σ_ hq => ?_)
    obtain ⟨rfl, rfl⟩ := hq
    refine kx_istore dX6_judge_69 (Nat.le_of_ble_eq_true rfl) ?_
    refine kx_aload_n dX6_judge_71 rfl rfl ?_
    refine kx_iload_n dX6_judge_72 rfl rfl ?_
    refine kx_bipush (v := 6) dX6_judge_73 (by decide) ?_
    refine kx_iload_n dX6_judge_75 rfl rfl ?_
    obtain ⟨r8, er8, h⟩ := bd_s h
    refine kx_callV dX6_judge_76 lk_X6_270 (mM_setBranch hd er8) rfl kN_rc rfl (Nat.le_of_ble_eq_true rfl) (Nat.le_of_ble_eq_true rfl) (Nat.le_of_ble_eq_true rfl) (Nat.le_of_ble_eq_true rfl) (Nat.le_of_ble_eq_true rfl) (fun _ _ _ h => h.elim) (fun w_ σ_ hq => ?_)
    obtain ⟨rfl, rfl⟩ := hq
    refine kx_aload_n dX6_judge_79 rfl rfl ?_
    refine kx_iload_n dX6_judge_80 rfl rfl ?_
    refine kx_bipush (v := 7) dX6_judge_81 (by decide) ?_
    refine kx_iload_n dX6_judge_83 rfl rfl ?_
    obtain ⟨r9, er9, h⟩ := bd_s h
    refine kx_callV dX6_judge_84 lk_X6_270 (mM_setBranch hd er9) rfl kN_rc rfl (Nat.le_of_ble_eq_true rfl) (Nat.le_of_ble_eq_true rfl) (Nat.le_of_ble_eq_true rfl) (Nat.le_of_ble_eq_true rfl) (Nat.le_of_ble_eq_true rfl) (fun _ _ _ h => h.elim) (fun w_ σ_ hq => ?_)
    obtain ⟨rfl, rfl⟩ := hq
    refine kx_aload_n dX6_judge_87 rfl rfl ?_
    refine kx_iload_n dX6_judge_88 rfl rfl ?_
    refine kx_bipush (v := 9) dX6_judge_89 (by decide) ?_
    refine kx_iload dX6_judge_91 rfl ?_
    obtain ⟨r10, er10, h⟩ := bd_s h
    refine kx_callV dX6_judge_93 lk_X6_270 (mM_setBranch hd er10) rfl kN_rc rfl (Nat.le_of_ble_eq_true rfl) (Nat.le_of_ble_eq_true rfl) (Nat.le_of_ble_eq_true rfl) (Nat.le_of_ble_eq_true rfl) (Nat.le_of_ble_eq_true rfl) (fun _ _ _ h => h.elim) (fun w_ σ_ hq => ?_)
    obtain ⟨rfl, rfl⟩ := hq
    refine kx_aload_n dX6_judge_96 rfl rfl ?_
    refine kx_iload_n dX6_judge_97 rfl rfl ?_
    refine kx_iload dX6_judge_98 rfl ?_
    refine kx_iconst (v := -1) dX6_judge_100 (by decide) ?_
    obtain ⟨r11, er11, h⟩ := bd_s h
    refine kN_j (MP τ m ad r11.1) 119 [.int (r11.2), .int (x1), .ref m] ?_ (fun jr11 => ?_)
    · skip
      obtain ⟨r13, er13, h⟩ := bd_s h
      refine kx_callV dX6_judge_119 lk_X6_401 (mM_pushFlag hd er13) rfl kN_rc rfl (Nat.le_of_ble_eq_true rfl) (Nat.le_of_ble_eq_true rfl) (Nat.le_of_ble_eq_true rfl) (Nat.le_of_ble_eq_true rfl) (Nat.le_of_ble_eq_true rfl) (fun _ _ _ h => h.elim) (fun w_ σ_ hq => ?_)
      obtain ⟨rfl, rfl⟩ := hq
      exact kx_vret dX6_judge_122 rfl (hQ _ _ (rtV (Option.some.inj h)))
    · have h := er11
      refine kx_icmp_ne (tgt := 114) dX6_judge_101 (by decide) (fun c => ?_) (fun c => ?_)
      · have h := if_f c h
        refine kx_iconst (v := 1) dX6_judge_114 (by decide) ?_
        refine kx_goto (tgt := 119) dX6_judge_115 (by decide) ?_
        exact jnI h jr11
      · have h := if_t c h
        refine kx_aload_n dX6_judge_104 rfl rfl ?_
        refine kx_iload_n dX6_judge_105 rfl rfl ?_
        refine kx_iconst (v := 3) dX6_judge_106 (by decide) ?_
        obtain ⟨r12, er12, h⟩ := bd_s h
        refine kx_callV dX6_judge_107 lk_X6_70 (mM_ofBranch hd er12) rfl kN_rc rfl (Nat.le_of_ble_eq_true rfl) (Nat.le_of_ble_eq_true rfl) (Nat.le_of_ble_eq_true rfl) (Nat.le_of_ble_eq_true rfl) (Nat.le_of_ble_eq_true rfl) (fun _ _ _ h => h.elim) (fun w_ σ_ hq => ?_)
        obtain ⟨rfl, rfl⟩ := hq
        refine kx_iconst (v := 1) dX6_judge_110 (by decide) ?_
        refine kx_icmp_ne (tgt := 118) dX6_judge_111 (by decide) (fun c => ?_) (fun c => ?_)
        · have h := if_f c h
          refine kx_iconst (v := 0) dX6_judge_118 (by decide) ?_
          exact jnI h jr11
        · have h := if_t c h
          refine kx_iconst (v := 1) dX6_judge_114 (by decide) ?_
          refine kx_goto (tgt := 119) dX6_judge_115 (by decide) ?_
          exact jnI h jr11
  · have h := er6
    refine kx_if_eq (tgt := 65) dX6_judge_58 (by decide) (fun c => ?_) (fun c => ?_)
    · have h := if_t c h
      refine kx_iconst (v := 0) dX6_judge_65 (by decide) ?_
      exact jnI h jr6
    · have h := if_f c h
      refine kx_iconst (v := 1) dX6_judge_61 (by decide) ?_
      refine kx_goto (tgt := 66) dX6_judge_62 (by decide) ?_
      exact jnI h jr6
set_option maxHeartbeats 4000000 in
theorem mM_parseRecorder {G : KG} {τ : KHp} {m : Nat} {ad : Nat → Nat} {s : TS}  {z : TS} (hd : Md m ad) (h : P_parseRecorder s  = some z) : kx_c G yX6_parseRecorder (ws_ yX6_parseRecorder cX6_parseRecorder 1 (Option.none : Option Jvm.ClassFile.FieldType)) 9 0 0 [.ref m] (MP τ m ad s) (fun rv σ' => rv = none ∧ σ' = MP τ m ad z) kx_n := by
  refine kx_mk3 (ini := false) rfl (Nat.le_of_ble_eq_true rfl) (fun h => by cases h) (fun Q X hQ hX => ?_)
  unfold P_parseRecorder at h
  refine kx_aload_n dX6_parseRecorder_0 rfl rfl ?_
  refine kx_ldcS dX6_parseRecorder_1 ks_ArcRecorderModel_162 ?_
  obtain ⟨r1, er1, h⟩ := bd_s h
  refine kx_callV dX6_parseRecorder_3 lk_X6_217 (mM_word hd er1) rfl kN_rc rfl (Nat.le_of_ble_eq_true rfl) (Nat.le_of_ble_eq_true rfl) (Nat.le_of_ble_eq_true rfl) (Nat.le_of_ble_eq_true rfl) (Nat.le_of_ble_eq_true rfl) (fun _ _ _ h => h.elim) (fun w_ σ_ hq => ?_)
  obtain ⟨rfl, rfl⟩ := hq
  refine kx_aload_n dX6_parseRecorder_6 rfl rfl ?_
  refine kx_ldcS dX6_parseRecorder_7 ks_ArcRecorderModel_164 ?_
  obtain ⟨r2, er2, h⟩ := bd_s h
  refine kx_callV dX6_parseRecorder_9 lk_X6_217 (mM_word hd er2) rfl kN_rc rfl (Nat.le_of_ble_eq_true rfl) (Nat.le_of_ble_eq_true rfl) (Nat.le_of_ble_eq_true rfl) (Nat.le_of_ble_eq_true rfl) (Nat.le_of_ble_eq_true rfl) (fun _ _ _ h => h.elim) (fun w_ σ_ hq => ?_)
  obtain ⟨rfl, rfl⟩ := hq
  refine kx_aload_n dX6_parseRecorder_12 rfl rfl ?_
  obtain ⟨r3, er3, h⟩ := bd_s h
  refine kx_callV dX6_parseRecorder_13 lk_X6_88 (mM_good hd er3) rfl kN_rc rfl (Nat.le_of_ble_eq_true rfl) (Nat.le_of_ble_eq_true rfl) (Nat.le_of_ble_eq_true rfl) (Nat.le_of_ble_eq_true rfl) (Nat.le_of_ble_eq_true rfl) (fun _ _ _ h => h.elim) (fun w_ σ_ hq => ?_)
  obtain ⟨rfl, rfl⟩ := hq
  obtain ⟨r4, er4, h⟩ := bd_s h
  refine kN_j (MP τ m ad r4) 59 [] ?_ (fun jr4 => ?_)
  · skip
    refine kx_aload_n dX6_parseRecorder_59 rfl rfl ?_
    refine kx_getf dX6_parseRecorder_60 fl_X6_24_X6 kN_m rfl ?_
    refine kx_iconst (v := 0) dX6_parseRecorder_63 (by decide) ?_
    refine kx_aload_n dX6_parseRecorder_64 rfl rfl ?_
    refine kx_bipush (v := 8) dX6_parseRecorder_65 (by decide) ?_
    refine kx_bipush (v := 32) dX6_parseRecorder_67 (by decide) ?_
    obtain ⟨r6, er6, h⟩ := bd_s h
    refine kx_callV dX6_parseRecorder_69 lk_X6_221 (mM_number hd er6) rfl kN_rc rfl (Nat.le_of_ble_eq_true rfl) (Nat.le_of_ble_eq_true rfl) (Nat.le_of_ble_eq_true rfl) (Nat.le_of_ble_eq_true rfl) (Nat.le_of_ble_eq_true rfl) (fun _ _ _ h => h.elim) (fun w_ σ_ hq => ?_)
    obtain ⟨rfl, rfl⟩ := hq
    refine kN_ast hd dX6_parseRecorder_72 h (fun s7 es7 h => ?_)
    refine kx_aload_n dX6_parseRecorder_73 rfl rfl ?_
    refine kx_getf dX6_parseRecorder_74 fl_X6_24_X6 kN_m rfl ?_
    refine kx_iconst (v := 1) dX6_parseRecorder_77 (by decide) ?_
    refine kx_aload_n dX6_parseRecorder_78 rfl rfl ?_
    refine kx_ldcS dX6_parseRecorder_79 ks_ArcRecorderModel_166 ?_
    refine kx_iconst (v := 1) dX6_parseRecorder_81 (by decide) ?_
    refine kx_bipush (v := 64) dX6_parseRecorder_82 (by decide) ?_
    obtain ⟨r8, er8, h⟩ := bd_s h
    refine kx_callV dX6_parseRecorder_84 lk_X6_259 (mM_numberBehind hd er8) rfl kN_rc rfl (Nat.le_of_ble_eq_true rfl) (Nat.le_of_ble_eq_true rfl) (Nat.le_of_ble_eq_true rfl) (Nat.le_of_ble_eq_true rfl) (Nat.le_of_ble_eq_true rfl) (fun _ _ _ h => h.elim) (fun w_ σ_ hq => ?_)
    obtain ⟨rfl, rfl⟩ := hq
    refine kN_ast hd dX6_parseRecorder_87 h (fun s9 es9 h => ?_)
    refine kx_aload_n dX6_parseRecorder_88 rfl rfl ?_
    refine kx_getf dX6_parseRecorder_89 fl_X6_24_X6 kN_m rfl ?_
    refine kx_iconst (v := 2) dX6_parseRecorder_92 (by decide) ?_
    refine kx_aload_n dX6_parseRecorder_93 rfl rfl ?_
    refine kx_ldcS dX6_parseRecorder_94 ks_ArcRecorderModel_168 ?_
    refine kx_iconst (v := 1) dX6_parseRecorder_96 (by decide) ?_
    refine kx_aload_n dX6_parseRecorder_97 rfl rfl ?_
    refine kx_getf dX6_parseRecorder_98 fl_X6_24_X6 kN_m rfl ?_
    refine kx_iconst (v := 1) dX6_parseRecorder_101 (by decide) ?_
    refine kN_ald hd dX6_parseRecorder_102 h (fun v10 ev10 h => ?_)
    obtain ⟨r11, er11, h⟩ := bd_s h
    refine kx_callV dX6_parseRecorder_103 lk_X6_259 (mM_numberBehind hd er11) rfl kN_rc rfl (Nat.le_of_ble_eq_true rfl) (Nat.le_of_ble_eq_true rfl) (Nat.le_of_ble_eq_true rfl) (Nat.le_of_ble_eq_true rfl) (Nat.le_of_ble_eq_true rfl) (fun _ _ _ h => h.elim) (fun w_ σ_ hq => ?_)
    obtain ⟨rfl, rfl⟩ := hq
    refine kN_ast hd dX6_parseRecorder_106 h (fun s12 es12 h => ?_)
    refine kx_aload_n dX6_parseRecorder_107 rfl rfl ?_
    obtain ⟨r13, er13, h⟩ := bd_s h
    refine kx_callV dX6_parseRecorder_108 lk_X6_263 (mM_semicolon hd er13) rfl kN_rc rfl (Nat.le_of_ble_eq_true rfl) (Nat.le_of_ble_eq_true rfl) (Nat.le_of_ble_eq_true rfl) (Nat.le_of_ble_eq_true rfl) (Nat.le_of_ble_eq_true rfl) (fun _ _ _ h => h.elim) (fun w_ σ_ hq => ?_)
    obtain ⟨rfl, rfl⟩ := hq
    exact kx_vret dX6_parseRecorder_111 rfl (hQ _ _ (rtV (Option.some.inj h)))
  · have h := er4
    refine kx_if_eq (tgt := 59) dX6_parseRecorder_16 (by decide) (fun c => ?_) (fun c => ?_)
    · have h := if_t c h
      exact jnS h jr4
    · have h := if_f c h
      refine kx_aload_n dX6_parseRecorder_19 rfl rfl ?_
      refine kx_getf dX6_parseRecorder_20 fl_X6_105_X6 kN_m rfl ?_
      refine kx_iconst (v := 2) dX6_parseRecorder_23 (by decide) ?_
      refine kx_icmp_ne (tgt := 59) dX6_parseRecorder_24 (by decide) (fun c => ?_) (fun c => ?_)
      · have h := if_f c h
        exact jnS h jr4
      · have h := if_t c h
        refine kx_aload_n dX6_parseRecorder_27 rfl rfl ?_
        refine kx_getf dX6_parseRecorder_28 fl_X6_116_X6 kN_m rfl ?_
        refine kx_bipush (v := 8) dX6_parseRecorder_31 (by decide) ?_
        refine kx_icmp_eq (tgt := 59) dX6_parseRecorder_33 (by decide) (fun c => ?_) (fun c => ?_)
        · have h := if_t c h
          exact jnS h jr4
        · have h := if_f c h
          refine kx_aload_n dX6_parseRecorder_36 rfl rfl ?_
          refine kx_getf dX6_parseRecorder_37 fl_X6_116_X6 kN_m rfl ?_
          refine kx_bipush (v := 16) dX6_parseRecorder_40 (by decide) ?_
          refine kx_icmp_eq (tgt := 59) dX6_parseRecorder_42 (by decide) (fun c => ?_) (fun c => ?_)
          · have h := if_t c h
            exact jnS h jr4
          · have h := if_f c h
            refine kx_aload_n dX6_parseRecorder_45 rfl rfl ?_
            refine kx_getf dX6_parseRecorder_46 fl_X6_116_X6 kN_m rfl ?_
            refine kx_bipush (v := 32) dX6_parseRecorder_49 (by decide) ?_
            refine kx_icmp_eq (tgt := 59) dX6_parseRecorder_51 (by decide) (fun c => ?_) (fun c => ?_)
            · have h := if_t c h
              exact jnS h jr4
            · have h := if_f c h
              refine kx_aload_n dX6_parseRecorder_54 rfl rfl ?_
              refine kx_iconst (v := 2) dX6_parseRecorder_55 (by decide) ?_
              obtain ⟨r5, er5, h⟩ := bd_s h
              refine kx_callV dX6_parseRecorder_56 lk_X6_211 (mM_errs hd er5) rfl kN_rc rfl (Nat.le_of_ble_eq_true rfl) (Nat.le_of_ble_eq_true rfl) (Nat.le_of_ble_eq_true rfl) (Nat.le_of_ble_eq_true rfl) (Nat.le_of_ble_eq_true rfl) (fun _ _ _ h => h.elim) (fun w_ σ_ hq => ?_)
              obtain ⟨rfl, rfl⟩ := hq
              exact jnS h jr4
set_option maxHeartbeats 4000000 in
theorem mM_isTaken {G : KG} {τ : KHp} {m : Nat} {ad : Nat → Nat} {s : TS}  {z : TS × Int32} (hd : Md m ad) (h : P_isTaken s  = some z) : kx_c G yX6_isTaken (ws_ yX6_isTaken cX6_isTaken 1 (Option.some Jvm.ClassFile.FieldType.boolean)) 4 0 0 [.ref m] (MP τ m ad s) (fun rv σ' => rv = some (.int z.2) ∧ σ' = MP τ m ad z.1) kx_n := by
  refine kx_mk3 (ini := false) rfl (Nat.le_of_ble_eq_true rfl) (fun h => by cases h) (fun Q X hQ hX => ?_)
  unfold P_isTaken at h
  refine kx_aload_n dX6_isTaken_0 rfl rfl ?_
  obtain ⟨r1, er1, h⟩ := bd_s h
  refine kx_callV dX6_isTaken_1 lk_X6_231 (mM_branchNamed hd er1) rfl kN_rc rfl (Nat.le_of_ble_eq_true rfl) (Nat.le_of_ble_eq_true rfl) (Nat.le_of_ble_eq_true rfl) (Nat.le_of_ble_eq_true rfl) (Nat.le_of_ble_eq_true rfl) (fun _ _ _ h => h.elim) (fun w_ σ_ hq => ?_)
  obtain ⟨rfl, rfl⟩ := hq
  refine kx_iconst (v := -1) dX6_isTaken_4 (by decide) ?_
  obtain ⟨r2, er2, h⟩ := bd_s h
  refine kN_j (MP τ m ad r2.1) 37 [.int (r2.2)] ?_ (fun jr2 => ?_)
  · skip
    refine kN_zret dX6_isTaken_37 rfl h (fun v6 ev6 h => hQ _ _ (by subst ev6; exact rtI (Option.some.inj h)))
  · have h := er2
    refine kx_icmp_ne (tgt := 32) dX6_isTaken_5 (by decide) (fun c => ?_) (fun c => ?_)
    · have h := if_f c h
      refine kx_iconst (v := 1) dX6_isTaken_32 (by decide) ?_
      refine kx_goto (tgt := 37) dX6_isTaken_33 (by decide) ?_
      exact jnI h jr2
    · have h := if_t c h
      refine kx_aload_n dX6_isTaken_8 rfl rfl ?_
      obtain ⟨r3, er3, h⟩ := bd_s h
      refine kx_callV dX6_isTaken_9 lk_X6_234 (mM_loadNamed hd er3) rfl kN_rc rfl (Nat.le_of_ble_eq_true rfl) (Nat.le_of_ble_eq_true rfl) (Nat.le_of_ble_eq_true rfl) (Nat.le_of_ble_eq_true rfl) (Nat.le_of_ble_eq_true rfl) (fun _ _ _ h => h.elim) (fun w_ σ_ hq => ?_)
      obtain ⟨rfl, rfl⟩ := hq
      refine kx_iconst (v := -1) dX6_isTaken_12 (by decide) ?_
      refine kx_icmp_ne (tgt := 32) dX6_isTaken_13 (by decide) (fun c => ?_) (fun c => ?_)
      · have h := if_f c h
        refine kx_iconst (v := 1) dX6_isTaken_32 (by decide) ?_
        refine kx_goto (tgt := 37) dX6_isTaken_33 (by decide) ?_
        exact jnI h jr2
      · have h := if_t c h
        refine kx_aload_n dX6_isTaken_16 rfl rfl ?_
        obtain ⟨r4, er4, h⟩ := bd_s h
        refine kx_callV dX6_isTaken_17 lk_X6_237 (mM_signatureNamed hd er4) rfl kN_rc rfl (Nat.le_of_ble_eq_true rfl) (Nat.le_of_ble_eq_true rfl) (Nat.le_of_ble_eq_true rfl) (Nat.le_of_ble_eq_true rfl) (Nat.le_of_ble_eq_true rfl) (fun _ _ _ h => h.elim) (fun w_ σ_ hq => ?_)
        obtain ⟨rfl, rfl⟩ := hq
        refine kx_iconst (v := -1) dX6_isTaken_20 (by decide) ?_
        refine kx_icmp_ne (tgt := 32) dX6_isTaken_21 (by decide) (fun c => ?_) (fun c => ?_)
        · have h := if_f c h
          refine kx_iconst (v := 1) dX6_isTaken_32 (by decide) ?_
          refine kx_goto (tgt := 37) dX6_isTaken_33 (by decide) ?_
          exact jnI h jr2
        · have h := if_t c h
          refine kx_aload_n dX6_isTaken_24 rfl rfl ?_
          obtain ⟨r5, er5, h⟩ := bd_s h
          refine kx_callV dX6_isTaken_25 lk_X6_240 (mM_nuisanceNamed hd er5) rfl kN_rc rfl (Nat.le_of_ble_eq_true rfl) (Nat.le_of_ble_eq_true rfl) (Nat.le_of_ble_eq_true rfl) (Nat.le_of_ble_eq_true rfl) (Nat.le_of_ble_eq_true rfl) (fun _ _ _ h => h.elim) (fun w_ σ_ hq => ?_)
          obtain ⟨rfl, rfl⟩ := hq
          refine kx_iconst (v := -1) dX6_isTaken_28 (by decide) ?_
          refine kx_icmp_eq (tgt := 36) dX6_isTaken_29 (by decide) (fun c => ?_) (fun c => ?_)
          · have h := if_t c h
            refine kx_iconst (v := 0) dX6_isTaken_36 (by decide) ?_
            exact jnI h jr2
          · have h := if_f c h
            refine kx_iconst (v := 1) dX6_isTaken_32 (by decide) ?_
            refine kx_goto (tgt := 37) dX6_isTaken_33 (by decide) ?_
            exact jnI h jr2
set_option maxHeartbeats 4000000 in
theorem mL_laySamples_17 {G : KG} {τ : KHp} {m : Nat} {ad : Nat → Nat} {Q : KQ} {X : KX} {y1 : Int32} {y2 : Int32} {a0 : TS × UInt32 × Int32} {z : TS × UInt32} (hd : Md m ad) (h : loopN (fun w : TS × UInt32 × Int32 => B_laySamples_17 y1 y2 w.1 w.2.1 w.2.2) 9000 a0 = some z) (kk : kx G (yX6_laySamples.cls, cX6_laySamples, 5, (Option.none : Option Jvm.ClassFile.FieldType), false, []) (5, 0, 0, Q, X) 0 0 (MP τ m ad z.1) 66 (kF [(0, .ref m), (1, .int (y1)), (2, .int (y2)), (3, .float (z.2))]) []) : kx G (yX6_laySamples.cls, cX6_laySamples, 5, (Option.none : Option Jvm.ClassFile.FieldType), false, []) (5, 0, 0, Q, X) 0 0 (MP τ m ad a0.1) 17 (kF [(0, .ref m), (1, .int (y1)), (2, .int (y2)), (3, .float (a0.2.1)), (4, .int (a0.2.2))]) [] := by
  refine loopK_2_1 (B := B_laySamples_17 y1 y2) (fun (a : TS) (a3 : UInt32) (a4 : Int32) => kx G (yX6_laySamples.cls, cX6_laySamples, 5, (Option.none : Option Jvm.ClassFile.FieldType), false, []) (5, 0, 0, Q, X) 0 0 (MP τ m ad a) 17 (kF [(0, .ref m), (1, .int (y1)), (2, .int (y2)), (3, .float (a3)), (4, .int (a4))]) []) (fun (b : TS) (b3 : UInt32) => kx G (yX6_laySamples.cls, cX6_laySamples, 5, (Option.none : Option Jvm.ClassFile.FieldType), false, []) (5, 0, 0, Q, X) 0 0 (MP τ m ad b) 66 (kF [(0, .ref m), (1, .int (y1)), (2, .int (y2)), (3, .float (b3))]) []) (fun a a3 a4 r h kI kE => ?_) _ _ _ h kk
  · unfold B_laySamples_17 at h
    refine kx_iload dX6_laySamples_17 rfl ?_
    refine kx_aload_n dX6_laySamples_19 rfl rfl ?_
    refine kx_getf dX6_laySamples_20 fl_X6_17_X6 kN_m rfl ?_
    refine kx_iconst (v := 4) dX6_laySamples_23 (by decide) ?_
    refine kN_ald hd dX6_laySamples_24 h (fun v17001 ev17001 h => ?_)
    refine kx_icmp_ge (tgt := 66) dX6_laySamples_25 (by decide) (fun c => ?_) (fun c => ?_)
    · have h := if_t c h
      exact kx_lwF [(0, .ref m), (1, .int (y1)), (2, .int (y2)), (3, .float (a3))] ⟨rfl, rfl, rfl, rfl, trivial⟩ (kE (a) (a3) (Option.some.inj h).symm)
    · have h := if_f c h
      refine kx_aload_n dX6_laySamples_28 rfl rfl ?_
      refine kx_iload dX6_laySamples_29 rfl ?_
      refine kx_iconst (v := 1) dX6_laySamples_31 (by decide) ?_
      obtain ⟨r17002, er17002, h⟩ := bd_s h
      refine kx_callV dX6_laySamples_32 lk_X6_342 (mM_ofLoad hd er17002) rfl kN_rc rfl (Nat.le_of_ble_eq_true rfl) (Nat.le_of_ble_eq_true rfl) (Nat.le_of_ble_eq_true rfl) (Nat.le_of_ble_eq_true rfl) (Nat.le_of_ble_eq_true rfl) (fun _ _ _ h => h.elim) (fun w_ σ_ hq => ?_)
      obtain ⟨rfl, rfl⟩ := hq
      refine kx_iload_n dX6_laySamples_35 rfl rfl ?_
      refine kx_icmp_ne (tgt := 60) dX6_laySamples_36 (by decide) (fun c => ?_) (fun c => ?_)
      · have h := if_f c h
        refine kx_iinc2 (v := 1) dX6_laySamples_60 rfl (by decide) ?_
        refine kx_goto (tgt := 17) dX6_laySamples_63 (by decide) ?_
        exact kx_lwF [(0, .ref m), (1, .int (y1)), (2, .int (y2)), (3, .float (a3)), (4, .int ((a4 + (1 : Int32))))] ⟨rfl, rfl, rfl, rfl, rfl, trivial⟩ (kI (r17002.1) (a3) ((a4 + (1 : Int32))) (Option.some.inj h).symm)
      · have h := if_t c h
        refine kx_aload_n dX6_laySamples_39 rfl rfl ?_
        refine kx_iload dX6_laySamples_40 rfl ?_
        refine kx_iconst (v := 5) dX6_laySamples_42 (by decide) ?_
        obtain ⟨r17003, er17003, h⟩ := bd_s h
        refine kx_callV dX6_laySamples_43 lk_X6_342 (mM_ofLoad hd er17003) rfl kN_rc rfl (Nat.le_of_ble_eq_true rfl) (Nat.le_of_ble_eq_true rfl) (Nat.le_of_ble_eq_true rfl) (Nat.le_of_ble_eq_true rfl) (Nat.le_of_ble_eq_true rfl) (fun _ _ _ h => h.elim) (fun w_ σ_ hq => ?_)
        obtain ⟨rfl, rfl⟩ := hq
        refine kx_iconst (v := 1) dX6_laySamples_46 (by decide) ?_
        refine kx_icmp_ne (tgt := 60) dX6_laySamples_47 (by decide) (fun c => ?_) (fun c => ?_)
        · have h := if_f c h
          refine kx_iinc2 (v := 1) dX6_laySamples_60 rfl (by decide) ?_
          refine kx_goto (tgt := 17) dX6_laySamples_63 (by decide) ?_
          exact kx_lwF [(0, .ref m), (1, .int (y1)), (2, .int (y2)), (3, .float (a3)), (4, .int ((a4 + (1 : Int32))))] ⟨rfl, rfl, rfl, rfl, rfl, trivial⟩ (kI (r17003.1) (a3) ((a4 + (1 : Int32))) (Option.some.inj h).symm)
        · have h := if_t c h
          refine kx_fload_n dX6_laySamples_50 rfl rfl ?_
          refine kx_aload_n dX6_laySamples_51 rfl rfl ?_
          refine kx_iload dX6_laySamples_52 rfl ?_
          refine kx_iload_n dX6_laySamples_54 rfl rfl ?_
          obtain ⟨r17004, er17004, h⟩ := bd_s h
          refine kx_callV dX6_laySamples_55 lk_X6_378 (mM_sampleNow hd er17004) rfl kN_rc rfl (Nat.le_of_ble_eq_true rfl) (Nat.le_of_ble_eq_true rfl) (Nat.le_of_ble_eq_true rfl) (Nat.le_of_ble_eq_true rfl) (Nat.le_of_ble_eq_true rfl) (fun _ _ _ h => h.elim) (fun w_ σ_ hq => ?_)
          obtain ⟨rfl, rfl⟩ := hq
          refine kN_fadd dX6_laySamples_58 h (fun v17005 ev17005 h => ?_)
          refine kx_fstore_n dX6_laySamples_59 rfl (Nat.le_of_ble_eq_true rfl) ?_
          refine kx_iinc2 (v := 1) dX6_laySamples_60 rfl (by decide) ?_
          refine kx_goto (tgt := 17) dX6_laySamples_63 (by decide) ?_
          exact kx_lwF [(0, .ref m), (1, .int (y1)), (2, .int (y2)), (3, .float (v17005)), (4, .int ((a4 + (1 : Int32))))] ⟨rfl, rfl, rfl, rfl, rfl, trivial⟩ (kI (r17004.1) (v17005) ((a4 + (1 : Int32))) (Option.some.inj h).symm)
set_option maxHeartbeats 4000000 in
theorem mL_laySamples_2 {G : KG} {τ : KHp} {m : Nat} {ad : Nat → Nat} {Q : KQ} {X : KX} {y1 : Int32} {a0 : TS × Int32} {z : TS} (hd : Md m ad) (h : loopN (fun w : TS × Int32 => B_laySamples_2 y1 w.1 w.2) 9000 a0 = some z) (kk : kx G (yX6_laySamples.cls, cX6_laySamples, 5, (Option.none : Option Jvm.ClassFile.FieldType), false, []) (5, 0, 0, Q, X) 0 0 (MP τ m ad z) 84 (kF []) []) : kx G (yX6_laySamples.cls, cX6_laySamples, 5, (Option.none : Option Jvm.ClassFile.FieldType), false, []) (5, 0, 0, Q, X) 0 0 (MP τ m ad a0.1) 2 (kF [(0, .ref m), (1, .int (y1)), (2, .int (a0.2))]) [] := by
  refine loopK_1_0 (B := B_laySamples_2 y1) (fun (a : TS) (a2 : Int32) => kx G (yX6_laySamples.cls, cX6_laySamples, 5, (Option.none : Option Jvm.ClassFile.FieldType), false, []) (5, 0, 0, Q, X) 0 0 (MP τ m ad a) 2 (kF [(0, .ref m), (1, .int (y1)), (2, .int (a2))]) []) (fun (b : TS) => kx G (yX6_laySamples.cls, cX6_laySamples, 5, (Option.none : Option Jvm.ClassFile.FieldType), false, []) (5, 0, 0, Q, X) 0 0 (MP τ m ad b) 84 (kF []) []) (fun a a2 r h kI kE => ?_) _ _ _ h kk
  · unfold B_laySamples_2 at h
    refine kx_iload_n dX6_laySamples_2 rfl rfl ?_
    refine kx_aload_n dX6_laySamples_3 rfl rfl ?_
    refine kx_getf dX6_laySamples_4 fl_X6_17_X6 kN_m rfl ?_
    refine kx_iconst (v := 0) dX6_laySamples_7 (by decide) ?_
    refine kN_ald hd dX6_laySamples_8 h (fun v2001 ev2001 h => ?_)
    refine kx_icmp_ge (tgt := 84) dX6_laySamples_9 (by decide) (fun c => ?_) (fun c => ?_)
    · have h := if_t c h
      exact kx_lwF [] trivial (kE (a) (Option.some.inj h).symm)
    · have h := if_f c h
      refine kx_fconst0 dX6_laySamples_12 ?_
      refine kx_fstore_n dX6_laySamples_13 rfl (Nat.le_of_ble_eq_true rfl) ?_
      refine kx_iconst (v := 0) dX6_laySamples_14 (by decide) ?_
      refine kx_istore dX6_laySamples_15 (Nat.le_of_ble_eq_true rfl) ?_
      obtain ⟨b2002, eb2002, h⟩ := bd_s h
      refine kx_lwF [(0, .ref m), (1, .int (y1)), (2, .int (a2)), (3, .float (FP.fconst0)), (4, .int ((0 : Int32)))] ⟨rfl, rfl, rfl, rfl, rfl, trivial⟩ (mL_laySamples_17 hd (a0 := (a, FP.fconst0, (0 : Int32))) eb2002 ?_)
      refine kx_aload_n dX6_laySamples_66 rfl rfl ?_
      refine kx_getf dX6_laySamples_67 fl_X6_27_X6 kN_m rfl ?_
      refine kx_bipush (v := 38) dX6_laySamples_70 (by decide) ?_
      refine kx_iload_n dX6_laySamples_72 rfl rfl ?_
      refine kx_imul dX6_laySamples_73 ?_
      refine kx_iload_n dX6_laySamples_74 rfl rfl ?_
      refine kx_iadd dX6_laySamples_75 ?_
      refine kx_fload_n dX6_laySamples_76 rfl rfl ?_
      refine kN_fst hd dX6_laySamples_77 h (fun s2003 es2003 h => ?_)
      refine kx_iinc2 (v := 1) dX6_laySamples_78 rfl (by decide) ?_
      refine kx_goto (tgt := 2) dX6_laySamples_81 (by decide) ?_
      exact kx_lwF [(0, .ref m), (1, .int (y1)), (2, .int ((a2 + (1 : Int32))))] ⟨rfl, rfl, rfl, trivial⟩ (kI (s2003) ((a2 + (1 : Int32))) (Option.some.inj h).symm)
set_option maxHeartbeats 4000000 in
theorem mM_laySamples {G : KG} {τ : KHp} {m : Nat} {ad : Nat → Nat} {s : TS} {x1 : Int32} {z : TS} (hd : Md m ad) (h : P_laySamples s x1 = some z) : kx_c G yX6_laySamples (ws_ yX6_laySamples cX6_laySamples 5 (Option.none : Option Jvm.ClassFile.FieldType)) 5 0 0 [.ref m, .int (x1)] (MP τ m ad s) (fun rv σ' => rv = none ∧ σ' = MP τ m ad z) kx_n := by
  refine kx_mk3 (ini := false) rfl (Nat.le_of_ble_eq_true rfl) (fun h => by cases h) (fun Q X hQ hX => ?_)
  unfold P_laySamples at h
  refine kx_iconst (v := 0) dX6_laySamples_0 (by decide) ?_
  refine kx_istore_n dX6_laySamples_1 rfl (Nat.le_of_ble_eq_true rfl) ?_
  obtain ⟨b1, eb1, h⟩ := bd_s h
  refine kx_lwF [(0, .ref m), (1, .int (x1)), (2, .int ((0 : Int32)))] ⟨rfl, rfl, rfl, trivial⟩ (mL_laySamples_2 hd (a0 := (s, (0 : Int32))) eb1 ?_)
  exact kx_vret dX6_laySamples_84 rfl (hQ _ _ (rtV (Option.some.inj h)))
set_option maxHeartbeats 4000000 in
theorem mM_learn {G : KG} {τ : KHp} {m : Nat} {ad : Nat → Nat} {s : TS} {x1 : Int32} {z : TS × Int32} (hd : Md m ad) (h : P_learn s x1 = some z) : kx_c G yX6_learn (ws_ yX6_learn cX6_learn 6 (Option.some Jvm.ClassFile.FieldType.int)) 8 0 0 [.ref m, .int (x1)] (MP τ m ad s) (fun rv σ' => rv = some (.int z.2) ∧ σ' = MP τ m ad z.1) kx_n := by
  refine kx_mk3 (ini := false) rfl (Nat.le_of_ble_eq_true rfl) (fun h => by cases h) (fun Q X hQ hX => ?_)
  unfold P_learn at h
  refine kx_aload_n dX6_learn_0 rfl rfl ?_
  obtain ⟨r1, er1, h⟩ := bd_s h
  refine kx_callV dX6_learn_1 lk_X6_324 (mM_looksAtWord hd er1) rfl kN_rc rfl (Nat.le_of_ble_eq_true rfl) (Nat.le_of_ble_eq_true rfl) (Nat.le_of_ble_eq_true rfl) (Nat.le_of_ble_eq_true rfl) (Nat.le_of_ble_eq_true rfl) (fun _ _ _ h => h.elim) (fun w_ σ_ hq => ?_)
  obtain ⟨rfl, rfl⟩ := hq
  obtain ⟨r2, er2, h⟩ := bd_s h
  refine kN_j (MP τ m ad r2.1) 35 [.int (r2.2)] ?_ (fun jr2 => ?_)
  · skip
    refine kx_istore_n dX6_learn_35 rfl (Nat.le_of_ble_eq_true rfl) ?_
    refine kx_aload_n dX6_learn_36 rfl rfl ?_
    refine kx_aload_n dX6_learn_37 rfl rfl ?_
    refine kx_iload_n dX6_learn_38 rfl rfl ?_
    obtain ⟨r5, er5, h⟩ := bd_s h
    refine kx_callV dX6_learn_39 lk_X6_329 (mM_isBranch hd er5) rfl kN_rc rfl (Nat.le_of_ble_eq_true rfl) (Nat.le_of_ble_eq_true rfl) (Nat.le_of_ble_eq_true rfl) (Nat.le_of_ble_eq_true rfl) (Nat.le_of_ble_eq_true rfl) (fun _ _ _ h => h.elim) (fun w_ σ_ hq => ?_)
    obtain ⟨rfl, rfl⟩ := hq
    refine kx_iload_n dX6_learn_42 rfl rfl ?_
    refine kx_aload_n dX6_learn_43 rfl rfl ?_
    refine kx_getf dX6_learn_44 fl_X6_17_X6 kN_m rfl ?_
    refine kx_bipush (v := 6) dX6_learn_47 (by decide) ?_
    refine kN_ald hd dX6_learn_49 h (fun v6 ev6 h => ?_)
    refine kx_bipush (v := 8) dX6_learn_50 (by decide) ?_
    obtain ⟨r7, er7, h⟩ := bd_s h
    refine kN_j (MP τ m ad r7.1) 60 [.int (r7.2), .int (r2.2), .int (r5.2), .ref m] ?_ (fun jr7 => ?_)
    · skip
      refine kx_aload_n dX6_learn_60 rfl rfl ?_
      refine kx_iload_n dX6_learn_61 rfl rfl ?_
      obtain ⟨r8, er8, h⟩ := bd_s h
      refine kx_callV dX6_learn_62 lk_X6_329 (mM_isBranch hd er8) rfl kN_rc rfl (Nat.le_of_ble_eq_true rfl) (Nat.le_of_ble_eq_true rfl) (Nat.le_of_ble_eq_true rfl) (Nat.le_of_ble_eq_true rfl) (Nat.le_of_ble_eq_true rfl) (fun _ _ _ h => h.elim) (fun w_ σ_ hq => ?_)
      obtain ⟨rfl, rfl⟩ := hq
      obtain ⟨r9, er9, h⟩ := bd_s h
      refine kN_j (MP τ m ad r9.1) 81 [.int (r9.2), .int (r7.2), .int (r2.2), .int (r5.2), .ref m] ?_ (fun jr9 => ?_)
      · skip
        obtain ⟨r11, er11, h⟩ := bd_s h
        refine kx_callV dX6_learn_81 lk_X6_7 (mM_passes4 hd er11) rfl kN_rc rfl (Nat.le_of_ble_eq_true rfl) (Nat.le_of_ble_eq_true rfl) (Nat.le_of_ble_eq_true rfl) (Nat.le_of_ble_eq_true rfl) (Nat.le_of_ble_eq_true rfl) (fun _ _ _ h => h.elim) (fun w_ σ_ hq => ?_)
        obtain ⟨rfl, rfl⟩ := hq
        refine kx_if_ne (tgt := 89) dX6_learn_84 (by decide) (fun c => ?_) (fun c => ?_)
        · have h := if_f c h
          refine kx_aload_n dX6_learn_89 rfl rfl ?_
          obtain ⟨r12, er12, h⟩ := bd_s h
          refine kx_callV dX6_learn_90 lk_X6_321 (mM_remember hd er12) rfl kN_rc rfl (Nat.le_of_ble_eq_true rfl) (Nat.le_of_ble_eq_true rfl) (Nat.le_of_ble_eq_true rfl) (Nat.le_of_ble_eq_true rfl) (Nat.le_of_ble_eq_true rfl) (fun _ _ _ h => h.elim) (fun w_ σ_ hq => ?_)
          obtain ⟨rfl, rfl⟩ := hq
          refine kx_aload_n dX6_learn_93 rfl rfl ?_
          refine kx_iconst (v := 0) dX6_learn_94 (by decide) ?_
          refine kN_put dX6_learn_95 fl_X6_74_X6 (Or.inl rfl) rfl h rfl (fun s13 es13 h => ?_)
          refine kx_aload_n dX6_learn_98 rfl rfl ?_
          refine kx_getf dX6_learn_99 fl_X6_17_X6 kN_m rfl ?_
          refine kx_bipush (v := 6) dX6_learn_102 (by decide) ?_
          refine kN_ald hd dX6_learn_104 h (fun v14 ev14 h => ?_)
          refine kx_istore_n dX6_learn_105 rfl (Nat.le_of_ble_eq_true rfl) ?_
          refine kx_sipush (v := 637) dX6_learn_106 (by decide) ?_
          refine kx_bipush (v := 27) dX6_learn_109 (by decide) ?_
          refine kx_iload_n dX6_learn_111 rfl rfl ?_
          refine kx_imul dX6_learn_112 ?_
          refine kx_iadd dX6_learn_113 ?_
          refine kx_istore dX6_learn_114 (Nat.le_of_ble_eq_true rfl) ?_
          refine kx_aload_n dX6_learn_116 rfl rfl ?_
          refine kx_iload dX6_learn_117 rfl ?_
          refine kx_iconst (v := 3) dX6_learn_119 (by decide) ?_
          refine kx_iadd dX6_learn_120 ?_
          obtain ⟨r15, er15, h⟩ := bd_s h
          refine kx_callV dX6_learn_121 lk_X6_252 (mM_keepName hd er15) rfl kN_rc rfl (Nat.le_of_ble_eq_true rfl) (Nat.le_of_ble_eq_true rfl) (Nat.le_of_ble_eq_true rfl) (Nat.le_of_ble_eq_true rfl) (Nat.le_of_ble_eq_true rfl) (fun _ _ _ h => h.elim) (fun w_ σ_ hq => ?_)
          obtain ⟨rfl, rfl⟩ := hq
          refine kx_aload_n dX6_learn_124 rfl rfl ?_
          refine kx_iload_n dX6_learn_125 rfl rfl ?_
          refine kx_iconst (v := 2) dX6_learn_126 (by decide) ?_
          obtain ⟨r16, er16, h⟩ := bd_s h
          refine kx_callV dX6_learn_127 lk_X6_391 (mM_featureOf hd er16) rfl kN_rc rfl (Nat.le_of_ble_eq_true rfl) (Nat.le_of_ble_eq_true rfl) (Nat.le_of_ble_eq_true rfl) (Nat.le_of_ble_eq_true rfl) (Nat.le_of_ble_eq_true rfl) (fun _ _ _ h => h.elim) (fun w_ σ_ hq => ?_)
          obtain ⟨rfl, rfl⟩ := hq
          refine kx_f2i dX6_learn_130 ?_
          refine kx_istore dX6_learn_131 (Nat.le_of_ble_eq_true rfl) ?_
          refine kx_aload_n dX6_learn_133 rfl rfl ?_
          refine kx_iload dX6_learn_134 rfl ?_
          refine kx_iconst (v := 0) dX6_learn_136 (by decide) ?_
          refine kx_iconst (v := 0) dX6_learn_137 (by decide) ?_
          refine kx_bipush (v := 60) dX6_learn_138 (by decide) ?_
          refine kx_aload_n dX6_learn_140 rfl rfl ?_
          refine kx_iload_n dX6_learn_141 rfl rfl ?_
          refine kx_iconst (v := 0) dX6_learn_142 (by decide) ?_
          obtain ⟨r17, er17, h⟩ := bd_s h
          refine kx_callV dX6_learn_143 lk_X6_391 (mM_featureOf hd er17) rfl kN_rc rfl (Nat.le_of_ble_eq_true rfl) (Nat.le_of_ble_eq_true rfl) (Nat.le_of_ble_eq_true rfl) (Nat.le_of_ble_eq_true rfl) (Nat.le_of_ble_eq_true rfl) (fun _ _ _ h => h.elim) (fun w_ σ_ hq => ?_)
          obtain ⟨rfl, rfl⟩ := hq
          refine kx_f2i dX6_learn_146 ?_
          refine kx_iconst (v := 2) dX6_learn_147 (by decide) ?_
          refine kx_iadd dX6_learn_148 ?_
          obtain ⟨r18, er18, h⟩ := bd_s h
          refine kx_callV dX6_learn_149 lk_X6_462 (mM_layTest hd er18) rfl kN_rc rfl (Nat.le_of_ble_eq_true rfl) (Nat.le_of_ble_eq_true rfl) (Nat.le_of_ble_eq_true rfl) (Nat.le_of_ble_eq_true rfl) (Nat.le_of_ble_eq_true rfl) (fun _ _ _ h => h.elim) (fun w_ σ_ hq => ?_)
          obtain ⟨rfl, rfl⟩ := hq
          refine kx_aload_n dX6_learn_152 rfl rfl ?_
          refine kx_iload dX6_learn_153 rfl ?_
          refine kx_iconst (v := 1) dX6_learn_155 (by decide) ?_
          refine kx_iconst (v := 2) dX6_learn_156 (by decide) ?_
          refine kx_bipush (v := 62) dX6_learn_157 (by decide) ?_
          refine kx_iload dX6_learn_159 rfl ?_
          refine kx_iconst (v := 1) dX6_learn_161 (by decide) ?_
          refine kx_isub dX6_learn_162 ?_
          obtain ⟨r19, er19, h⟩ := bd_s h
          refine kx_callV dX6_learn_163 lk_X6_462 (mM_layTest hd er19) rfl kN_rc rfl (Nat.le_of_ble_eq_true rfl) (Nat.le_of_ble_eq_true rfl) (Nat.le_of_ble_eq_true rfl) (Nat.le_of_ble_eq_true rfl) (Nat.le_of_ble_eq_true rfl) (fun _ _ _ h => h.elim) (fun w_ σ_ hq => ?_)
          obtain ⟨rfl, rfl⟩ := hq
          refine kx_aload_n dX6_learn_166 rfl rfl ?_
          refine kx_iload dX6_learn_167 rfl ?_
          refine kx_iconst (v := 2) dX6_learn_169 (by decide) ?_
          refine kx_iconst (v := 2) dX6_learn_170 (by decide) ?_
          refine kx_bipush (v := 60) dX6_learn_171 (by decide) ?_
          refine kx_iload dX6_learn_173 rfl ?_
          refine kx_iconst (v := 1) dX6_learn_175 (by decide) ?_
          refine kx_iadd dX6_learn_176 ?_
          obtain ⟨r20, er20, h⟩ := bd_s h
          refine kx_callV dX6_learn_177 lk_X6_462 (mM_layTest hd er20) rfl kN_rc rfl (Nat.le_of_ble_eq_true rfl) (Nat.le_of_ble_eq_true rfl) (Nat.le_of_ble_eq_true rfl) (Nat.le_of_ble_eq_true rfl) (Nat.le_of_ble_eq_true rfl) (fun _ _ _ h => h.elim) (fun w_ σ_ hq => ?_)
          obtain ⟨rfl, rfl⟩ := hq
          refine kx_aload_n dX6_learn_180 rfl rfl ?_
          refine kx_iload dX6_learn_181 rfl ?_
          refine kx_iconst (v := 3) dX6_learn_183 (by decide) ?_
          refine kx_iconst (v := 3) dX6_learn_184 (by decide) ?_
          refine kx_bipush (v := 60) dX6_learn_185 (by decide) ?_
          refine kx_aload_n dX6_learn_187 rfl rfl ?_
          refine kx_iload_n dX6_learn_188 rfl rfl ?_
          refine kx_iconst (v := 3) dX6_learn_189 (by decide) ?_
          obtain ⟨r21, er21, h⟩ := bd_s h
          refine kx_callV dX6_learn_190 lk_X6_391 (mM_featureOf hd er21) rfl kN_rc rfl (Nat.le_of_ble_eq_true rfl) (Nat.le_of_ble_eq_true rfl) (Nat.le_of_ble_eq_true rfl) (Nat.le_of_ble_eq_true rfl) (Nat.le_of_ble_eq_true rfl) (fun _ _ _ h => h.elim) (fun w_ σ_ hq => ?_)
          obtain ⟨rfl, rfl⟩ := hq
          refine kx_f2i dX6_learn_193 ?_
          refine kx_iconst (v := 2) dX6_learn_194 (by decide) ?_
          refine kx_iadd dX6_learn_195 ?_
          obtain ⟨r22, er22, h⟩ := bd_s h
          refine kx_callV dX6_learn_196 lk_X6_462 (mM_layTest hd er22) rfl kN_rc rfl (Nat.le_of_ble_eq_true rfl) (Nat.le_of_ble_eq_true rfl) (Nat.le_of_ble_eq_true rfl) (Nat.le_of_ble_eq_true rfl) (Nat.le_of_ble_eq_true rfl) (fun _ _ _ h => h.elim) (fun w_ σ_ hq => ?_)
          obtain ⟨rfl, rfl⟩ := hq
          refine kx_aload_n dX6_learn_199 rfl rfl ?_
          refine kx_getf dX6_learn_200 fl_X6_17_X6 kN_m rfl ?_
          refine kx_iload dX6_learn_203 rfl ?_
          refine kx_iconst (v := 1) dX6_learn_205 (by decide) ?_
          refine kx_iadd dX6_learn_206 ?_
          refine kx_iconst (v := 4) dX6_learn_207 (by decide) ?_
          refine kN_ast hd dX6_learn_208 h (fun s23 es23 h => ?_)
          refine kx_aload_n dX6_learn_209 rfl rfl ?_
          refine kx_getf dX6_learn_210 fl_X6_17_X6 kN_m rfl ?_
          refine kx_iload dX6_learn_213 rfl ?_
          refine kx_iconst (v := 2) dX6_learn_215 (by decide) ?_
          refine kx_iadd dX6_learn_216 ?_
          refine kx_iconst (v := 0) dX6_learn_217 (by decide) ?_
          refine kN_ast hd dX6_learn_218 h (fun s24 es24 h => ?_)
          refine kx_aload_n dX6_learn_219 rfl rfl ?_
          refine kx_getf dX6_learn_220 fl_X6_17_X6 kN_m rfl ?_
          refine kx_bipush (v := 6) dX6_learn_223 (by decide) ?_
          refine kx_dup2_11 dX6_learn_225 rfl rfl ?_
          refine kN_ald hd dX6_learn_226 h (fun v25 ev25 h => ?_)
          refine kx_iconst (v := 1) dX6_learn_227 (by decide) ?_
          refine kx_iadd dX6_learn_228 ?_
          refine kN_ast hd dX6_learn_229 h (fun s26 es26 h => ?_)
          refine kx_iload_n dX6_learn_230 rfl rfl ?_
          exact kx_iret dX6_learn_231 rfl (hQ _ _ (rtI (Option.some.inj h)))
        · have h := if_t c h
          refine kx_iconst (v := 0) dX6_learn_87 (by decide) ?_
          exact kx_iret dX6_learn_88 rfl (hQ _ _ (rtI (Option.some.inj h)))
      · have h := er9
        refine kx_if_eq (tgt := 76) dX6_learn_65 (by decide) (fun c => ?_) (fun c => ?_)
        · have h := if_t c h
          refine kx_iconst (v := 1) dX6_learn_76 (by decide) ?_
          refine kx_goto (tgt := 81) dX6_learn_77 (by decide) ?_
          exact jnI h jr9
        · have h := if_f c h
          refine kx_aload_n dX6_learn_68 rfl rfl ?_
          refine kx_iload_n dX6_learn_69 rfl rfl ?_
          obtain ⟨r10, er10, h⟩ := bd_s h
          refine kx_callV dX6_learn_70 lk_X6_443 (mM_hasHad hd er10) rfl kN_rc rfl (Nat.le_of_ble_eq_true rfl) (Nat.le_of_ble_eq_true rfl) (Nat.le_of_ble_eq_true rfl) (Nat.le_of_ble_eq_true rfl) (Nat.le_of_ble_eq_true rfl) (fun _ _ _ h => h.elim) (fun w_ σ_ hq => ?_)
          obtain ⟨rfl, rfl⟩ := hq
          refine kx_if_eq (tgt := 80) dX6_learn_73 (by decide) (fun c => ?_) (fun c => ?_)
          · have h := if_t c h
            refine kx_iconst (v := 0) dX6_learn_80 (by decide) ?_
            exact jnI h jr9
          · have h := if_f c h
            refine kx_iconst (v := 1) dX6_learn_76 (by decide) ?_
            refine kx_goto (tgt := 81) dX6_learn_77 (by decide) ?_
            exact jnI h jr9
    · have h := er7
      refine kx_icmp_ge (tgt := 59) dX6_learn_52 (by decide) (fun c => ?_) (fun c => ?_)
      · have h := if_t c h
        refine kx_iconst (v := 0) dX6_learn_59 (by decide) ?_
        exact jnI h jr7
      · have h := if_f c h
        refine kx_iconst (v := 1) dX6_learn_55 (by decide) ?_
        refine kx_goto (tgt := 60) dX6_learn_56 (by decide) ?_
        exact jnI h jr7
  · have h := er2
    refine kx_if_eq (tgt := 34) dX6_learn_4 (by decide) (fun c => ?_) (fun c => ?_)
    · have h := if_t c h
      refine kx_iconst (v := 0) dX6_learn_34 (by decide) ?_
      exact jnI h jr2
    · have h := if_f c h
      refine kx_aload_n dX6_learn_7 rfl rfl ?_
      refine kx_getf dX6_learn_8 fl_X6_98_X6 kN_m rfl ?_
      refine kx_bipush (v := 6) dX6_learn_11 (by decide) ?_
      refine kx_icmp_gt (tgt := 34) dX6_learn_13 (by decide) (fun c => ?_) (fun c => ?_)
      · have h := if_t c h
        refine kx_iconst (v := 0) dX6_learn_34 (by decide) ?_
        exact jnI h jr2
      · have h := if_f c h
        refine kx_aload_n dX6_learn_16 rfl rfl ?_
        obtain ⟨r3, er3, h⟩ := bd_s h
        refine kx_callV dX6_learn_17 lk_X6_243 (mM_isKeyword hd er3) rfl kN_rc rfl (Nat.le_of_ble_eq_true rfl) (Nat.le_of_ble_eq_true rfl) (Nat.le_of_ble_eq_true rfl) (Nat.le_of_ble_eq_true rfl) (Nat.le_of_ble_eq_true rfl) (fun _ _ _ h => h.elim) (fun w_ σ_ hq => ?_)
        obtain ⟨rfl, rfl⟩ := hq
        refine kx_if_ne (tgt := 34) dX6_learn_20 (by decide) (fun c => ?_) (fun c => ?_)
        · have h := if_f c h
          refine kx_iconst (v := 0) dX6_learn_34 (by decide) ?_
          exact jnI h jr2
        · have h := if_t c h
          refine kx_aload_n dX6_learn_23 rfl rfl ?_
          obtain ⟨r4, er4, h⟩ := bd_s h
          refine kx_callV dX6_learn_24 lk_X6_249 (mM_isTaken hd er4) rfl kN_rc rfl (Nat.le_of_ble_eq_true rfl) (Nat.le_of_ble_eq_true rfl) (Nat.le_of_ble_eq_true rfl) (Nat.le_of_ble_eq_true rfl) (Nat.le_of_ble_eq_true rfl) (fun _ _ _ h => h.elim) (fun w_ σ_ hq => ?_)
          obtain ⟨rfl, rfl⟩ := hq
          refine kx_if_ne (tgt := 34) dX6_learn_27 (by decide) (fun c => ?_) (fun c => ?_)
          · have h := if_f c h
            refine kx_iconst (v := 0) dX6_learn_34 (by decide) ?_
            exact jnI h jr2
          · have h := if_t c h
            refine kx_iconst (v := 1) dX6_learn_30 (by decide) ?_
            refine kx_goto (tgt := 35) dX6_learn_31 (by decide) ?_
            exact jnI h jr2
set_option maxHeartbeats 4000000 in
theorem mM_begins {G : KG} {τ : KHp} {m : Nat} {ad : Nat → Nat} {s : TS} {x1 : Int32} {x2 : Int32} {z : TS × Int32} (hd : Md m ad) (h : P_begins s x1 x2 = some z) : kx_c G yX6_begins (ws_ yX6_begins cX6_begins 3 (Option.some Jvm.ClassFile.FieldType.boolean)) 9 0 0 [.ref m, .int (x1), .int (x2)] (MP τ m ad s) (fun rv σ' => rv = some (.int z.2) ∧ σ' = MP τ m ad z.1) kx_n := by
  refine kx_mk3 (ini := false) rfl (Nat.le_of_ble_eq_true rfl) (fun h => by cases h) (fun Q X hQ hX => ?_)
  unfold P_begins at h
  refine kx_iload_n dX6_begins_0 rfl rfl ?_
  obtain ⟨r1, er1, h⟩ := bd_s h
  refine kN_j (MP τ m ad r1) 9 [] ?_ (fun jr1 => ?_)
  · skip
    refine kx_aload_n dX6_begins_9 rfl rfl ?_
    obtain ⟨r3, er3, h⟩ := bd_s h
    refine kx_callV dX6_begins_10 lk_X6_214 (mM_goOn hd er3) rfl kN_rc rfl (Nat.le_of_ble_eq_true rfl) (Nat.le_of_ble_eq_true rfl) (Nat.le_of_ble_eq_true rfl) (Nat.le_of_ble_eq_true rfl) (Nat.le_of_ble_eq_true rfl) (fun _ _ _ h => h.elim) (fun w_ σ_ hq => ?_)
    obtain ⟨rfl, rfl⟩ := hq
    refine kx_aload_n dX6_begins_13 rfl rfl ?_
    obtain ⟨r4, er4, h⟩ := bd_s h
    refine kx_callV dX6_begins_14 lk_X6_246 (mM_checkName hd er4) rfl kN_rc rfl (Nat.le_of_ble_eq_true rfl) (Nat.le_of_ble_eq_true rfl) (Nat.le_of_ble_eq_true rfl) (Nat.le_of_ble_eq_true rfl) (Nat.le_of_ble_eq_true rfl) (fun _ _ _ h => h.elim) (fun w_ σ_ hq => ?_)
    obtain ⟨rfl, rfl⟩ := hq
    refine kx_aload_n dX6_begins_17 rfl rfl ?_
    obtain ⟨r5, er5, h⟩ := bd_s h
    refine kx_callV dX6_begins_18 lk_X6_88 (mM_good hd er5) rfl kN_rc rfl (Nat.le_of_ble_eq_true rfl) (Nat.le_of_ble_eq_true rfl) (Nat.le_of_ble_eq_true rfl) (Nat.le_of_ble_eq_true rfl) (Nat.le_of_ble_eq_true rfl) (fun _ _ _ h => h.elim) (fun w_ σ_ hq => ?_)
    obtain ⟨rfl, rfl⟩ := hq
    obtain ⟨r6, er6, h⟩ := bd_s h
    refine kN_j (MP τ m ad r6) 36 [] ?_ (fun jr6 => ?_)
    · skip
      refine kx_aload_n dX6_begins_36 rfl rfl ?_
      obtain ⟨r9, er9, h⟩ := bd_s h
      refine kx_callV dX6_begins_37 lk_X6_88 (mM_good hd er9) rfl kN_rc rfl (Nat.le_of_ble_eq_true rfl) (Nat.le_of_ble_eq_true rfl) (Nat.le_of_ble_eq_true rfl) (Nat.le_of_ble_eq_true rfl) (Nat.le_of_ble_eq_true rfl) (fun _ _ _ h => h.elim) (fun w_ σ_ hq => ?_)
      obtain ⟨rfl, rfl⟩ := hq
      refine kx_if_ne (tgt := 45) dX6_begins_40 (by decide) (fun c => ?_) (fun c => ?_)
      · have h := if_f c h
        refine kx_aload_n dX6_begins_45 rfl rfl ?_
        refine kx_iload_n dX6_begins_46 rfl rfl ?_
        obtain ⟨r10, er10, h⟩ := bd_s h
        refine kx_callV dX6_begins_47 lk_X6_252 (mM_keepName hd er10) rfl kN_rc rfl (Nat.le_of_ble_eq_true rfl) (Nat.le_of_ble_eq_true rfl) (Nat.le_of_ble_eq_true rfl) (Nat.le_of_ble_eq_true rfl) (Nat.le_of_ble_eq_true rfl) (fun _ _ _ h => h.elim) (fun w_ σ_ hq => ?_)
        obtain ⟨rfl, rfl⟩ := hq
        refine kx_aload_n dX6_begins_50 rfl rfl ?_
        obtain ⟨r11, er11, h⟩ := bd_s h
        refine kx_callV dX6_begins_51 lk_X6_214 (mM_goOn hd er11) rfl kN_rc rfl (Nat.le_of_ble_eq_true rfl) (Nat.le_of_ble_eq_true rfl) (Nat.le_of_ble_eq_true rfl) (Nat.le_of_ble_eq_true rfl) (Nat.le_of_ble_eq_true rfl) (fun _ _ _ h => h.elim) (fun w_ σ_ hq => ?_)
        obtain ⟨rfl, rfl⟩ := hq
        refine kx_aload_n dX6_begins_54 rfl rfl ?_
        obtain ⟨r12, er12, h⟩ := bd_s h
        refine kx_callV dX6_begins_55 lk_X6_88 (mM_good hd er12) rfl kN_rc rfl (Nat.le_of_ble_eq_true rfl) (Nat.le_of_ble_eq_true rfl) (Nat.le_of_ble_eq_true rfl) (Nat.le_of_ble_eq_true rfl) (Nat.le_of_ble_eq_true rfl) (fun _ _ _ h => h.elim) (fun w_ σ_ hq => ?_)
        obtain ⟨rfl, rfl⟩ := hq
        refine kN_zret dX6_begins_58 rfl h (fun v13 ev13 h => hQ _ _ (by subst ev13; exact rtI (Option.some.inj h)))
      · have h := if_t c h
        refine kx_iconst (v := 0) dX6_begins_43 (by decide) ?_
        exact kx_zret dX6_begins_44 rfl rfl (hQ _ _ (rtI (Option.some.inj h)))
    · have h := er6
      refine kx_if_eq (tgt := 36) dX6_begins_21 (by decide) (fun c => ?_) (fun c => ?_)
      · have h := if_t c h
        exact jnS h jr6
      · have h := if_f c h
        refine kx_aload_n dX6_begins_24 rfl rfl ?_
        obtain ⟨r7, er7, h⟩ := bd_s h
        refine kx_callV dX6_begins_25 lk_X6_249 (mM_isTaken hd er7) rfl kN_rc rfl (Nat.le_of_ble_eq_true rfl) (Nat.le_of_ble_eq_true rfl) (Nat.le_of_ble_eq_true rfl) (Nat.le_of_ble_eq_true rfl) (Nat.le_of_ble_eq_true rfl) (fun _ _ _ h => h.elim) (fun w_ σ_ hq => ?_)
        obtain ⟨rfl, rfl⟩ := hq
        refine kx_if_eq (tgt := 36) dX6_begins_28 (by decide) (fun c => ?_) (fun c => ?_)
        · have h := if_t c h
          exact jnS h jr6
        · have h := if_f c h
          refine kx_aload_n dX6_begins_31 rfl rfl ?_
          refine kx_iconst (v := 3) dX6_begins_32 (by decide) ?_
          obtain ⟨r8, er8, h⟩ := bd_s h
          refine kx_callV dX6_begins_33 lk_X6_211 (mM_errs hd er8) rfl kN_rc rfl (Nat.le_of_ble_eq_true rfl) (Nat.le_of_ble_eq_true rfl) (Nat.le_of_ble_eq_true rfl) (Nat.le_of_ble_eq_true rfl) (Nat.le_of_ble_eq_true rfl) (fun _ _ _ h => h.elim) (fun w_ σ_ hq => ?_)
          obtain ⟨rfl, rfl⟩ := hq
          exact jnS h jr6
  · have h := er1
    refine kx_if_ne (tgt := 9) dX6_begins_1 (by decide) (fun c => ?_) (fun c => ?_)
    · have h := if_f c h
      exact jnS h jr1
    · have h := if_t c h
      refine kx_aload_n dX6_begins_4 rfl rfl ?_
      refine kx_iconst (v := 4) dX6_begins_5 (by decide) ?_
      obtain ⟨r2, er2, h⟩ := bd_s h
      refine kx_callV dX6_begins_6 lk_X6_211 (mM_errs hd er2) rfl kN_rc rfl (Nat.le_of_ble_eq_true rfl) (Nat.le_of_ble_eq_true rfl) (Nat.le_of_ble_eq_true rfl) (Nat.le_of_ble_eq_true rfl) (Nat.le_of_ble_eq_true rfl) (fun _ _ _ h => h.elim) (fun w_ σ_ hq => ?_)
      obtain ⟨rfl, rfl⟩ := hq
      exact jnS h jr1
set_option maxHeartbeats 4000000 in
theorem mM_parseBranch {G : KG} {τ : KHp} {m : Nat} {ad : Nat → Nat} {s : TS}  {z : TS} (hd : Md m ad) (h : P_parseBranch s  = some z) : kx_c G yX6_parseBranch (ws_ yX6_parseBranch cX6_parseBranch 2 (Option.none : Option Jvm.ClassFile.FieldType)) 10 0 0 [.ref m] (MP τ m ad s) (fun rv σ' => rv = none ∧ σ' = MP τ m ad z) kx_n := by
  refine kx_mk3 (ini := false) rfl (Nat.le_of_ble_eq_true rfl) (fun h => by cases h) (fun Q X hQ hX => ?_)
  unfold P_parseBranch at h
  refine kx_aload_n dX6_parseBranch_0 rfl rfl ?_
  refine kx_getf dX6_parseBranch_1 fl_X6_24_X6 kN_m rfl ?_
  refine kx_iconst (v := 3) dX6_parseBranch_4 (by decide) ?_
  refine kN_ald hd dX6_parseBranch_5 h (fun v1 ev1 h => ?_)
  refine kx_istore_n dX6_parseBranch_6 rfl (Nat.le_of_ble_eq_true rfl) ?_
  refine kx_aload_n dX6_parseBranch_7 rfl rfl ?_
  refine kx_iload_n dX6_parseBranch_8 rfl rfl ?_
  refine kx_iconst (v := 4) dX6_parseBranch_9 (by decide) ?_
  obtain ⟨r2, er2, h⟩ := bd_s h
  refine kN_j (MP τ m ad r2.1) 18 [.int (r2.2), .ref m] ?_ (fun jr2 => ?_)
  · skip
    refine kx_bipush (v := 11) dX6_parseBranch_18 (by decide) ?_
    refine kx_bipush (v := 80) dX6_parseBranch_20 (by decide) ?_
    refine kx_iload_n dX6_parseBranch_22 rfl rfl ?_
    refine kx_iconst (v := 3) dX6_parseBranch_23 (by decide) ?_
    refine kx_callS dX6_parseBranch_24 lk_X6_120 mJ_min rfl rfl (Nat.le_of_ble_eq_true rfl) (Nat.le_of_ble_eq_true rfl) (Nat.le_of_ble_eq_true rfl) (Nat.le_of_ble_eq_true rfl) (Nat.le_of_ble_eq_true rfl) (fun _ _ _ h => h.elim) (fun w_ σ_ hq => ?_)
    obtain ⟨rfl, rfl⟩ := hq
    refine kx_imul dX6_parseBranch_27 ?_
    refine kx_iadd dX6_parseBranch_28 ?_
    refine kx_bipush (v := 10) dX6_parseBranch_29 (by decide) ?_
    refine kx_iadd dX6_parseBranch_31 ?_
    obtain ⟨r3, er3, h⟩ := bd_s h
    refine kx_callV dX6_parseBranch_32 lk_X6_266 (mM_begins hd er3) rfl kN_rc rfl (Nat.le_of_ble_eq_true rfl) (Nat.le_of_ble_eq_true rfl) (Nat.le_of_ble_eq_true rfl) (Nat.le_of_ble_eq_true rfl) (Nat.le_of_ble_eq_true rfl) (fun _ _ _ h => h.elim) (fun w_ σ_ hq => ?_)
    obtain ⟨rfl, rfl⟩ := hq
    refine kx_if_ne (tgt := 39) dX6_parseBranch_35 (by decide) (fun c => ?_) (fun c => ?_)
    · have h := if_f c h
      refine kx_aload_n dX6_parseBranch_39 rfl rfl ?_
      refine kx_iload_n dX6_parseBranch_40 rfl rfl ?_
      refine kx_iconst (v := 0) dX6_parseBranch_41 (by decide) ?_
      refine kx_aload_n dX6_parseBranch_42 rfl rfl ?_
      refine kx_ldcS dX6_parseBranch_43 ks_ArcRecorderModel_172 ?_
      refine kx_iconst (v := 1) dX6_parseBranch_45 (by decide) ?_
      refine kx_bipush (v := 100) dX6_parseBranch_46 (by decide) ?_
      obtain ⟨r4, er4, h⟩ := bd_s h
      refine kx_callV dX6_parseBranch_48 lk_X6_259 (mM_numberBehind hd er4) rfl kN_rc rfl (Nat.le_of_ble_eq_true rfl) (Nat.le_of_ble_eq_true rfl) (Nat.le_of_ble_eq_true rfl) (Nat.le_of_ble_eq_true rfl) (Nat.le_of_ble_eq_true rfl) (fun _ _ _ h => h.elim) (fun w_ σ_ hq => ?_)
      obtain ⟨rfl, rfl⟩ := hq
      obtain ⟨r5, er5, h⟩ := bd_s h
      refine kx_callV dX6_parseBranch_51 lk_X6_270 (mM_setBranch hd er5) rfl kN_rc rfl (Nat.le_of_ble_eq_true rfl) (Nat.le_of_ble_eq_true rfl) (Nat.le_of_ble_eq_true rfl) (Nat.le_of_ble_eq_true rfl) (Nat.le_of_ble_eq_true rfl) (fun _ _ _ h => h.elim) (fun w_ σ_ hq => ?_)
      obtain ⟨rfl, rfl⟩ := hq
      refine kx_aload_n dX6_parseBranch_54 rfl rfl ?_
      refine kx_iload_n dX6_parseBranch_55 rfl rfl ?_
      refine kx_bipush (v := 9) dX6_parseBranch_56 (by decide) ?_
      refine kx_iconst (v := -1) dX6_parseBranch_58 (by decide) ?_
      obtain ⟨r6, er6, h⟩ := bd_s h
      refine kx_callV dX6_parseBranch_59 lk_X6_270 (mM_setBranch hd er6) rfl kN_rc rfl (Nat.le_of_ble_eq_true rfl) (Nat.le_of_ble_eq_true rfl) (Nat.le_of_ble_eq_true rfl) (Nat.le_of_ble_eq_true rfl) (Nat.le_of_ble_eq_true rfl) (fun _ _ _ h => h.elim) (fun w_ σ_ hq => ?_)
      obtain ⟨rfl, rfl⟩ := hq
      refine kx_aload_n dX6_parseBranch_62 rfl rfl ?_
      obtain ⟨r7, er7, h⟩ := bd_s h
      refine kx_callV dX6_parseBranch_63 lk_X6_263 (mM_semicolon hd er7) rfl kN_rc rfl (Nat.le_of_ble_eq_true rfl) (Nat.le_of_ble_eq_true rfl) (Nat.le_of_ble_eq_true rfl) (Nat.le_of_ble_eq_true rfl) (Nat.le_of_ble_eq_true rfl) (fun _ _ _ h => h.elim) (fun w_ σ_ hq => ?_)
      obtain ⟨rfl, rfl⟩ := hq
      refine kx_aload_n dX6_parseBranch_66 rfl rfl ?_
      obtain ⟨r8, er8, h⟩ := bd_s h
      refine kx_callV dX6_parseBranch_67 lk_X6_88 (mM_good hd er8) rfl kN_rc rfl (Nat.le_of_ble_eq_true rfl) (Nat.le_of_ble_eq_true rfl) (Nat.le_of_ble_eq_true rfl) (Nat.le_of_ble_eq_true rfl) (Nat.le_of_ble_eq_true rfl) (fun _ _ _ h => h.elim) (fun w_ σ_ hq => ?_)
      obtain ⟨rfl, rfl⟩ := hq
      refine kx_if_eq (tgt := 83) dX6_parseBranch_70 (by decide) (fun c => ?_) (fun c => ?_)
      · have h := if_t c h
        exact kx_vret dX6_parseBranch_83 rfl (hQ _ _ (rtV (Option.some.inj h)))
      · have h := if_f c h
        refine kx_aload_n dX6_parseBranch_73 rfl rfl ?_
        refine kx_getf dX6_parseBranch_74 fl_X6_24_X6 kN_m rfl ?_
        refine kx_iconst (v := 3) dX6_parseBranch_77 (by decide) ?_
        refine kx_dup2_11 dX6_parseBranch_78 rfl rfl ?_
        refine kN_ald hd dX6_parseBranch_79 h (fun v9 ev9 h => ?_)
        refine kx_iconst (v := 1) dX6_parseBranch_80 (by decide) ?_
        refine kx_iadd dX6_parseBranch_81 ?_
        refine kN_ast hd dX6_parseBranch_82 h (fun s10 es10 h => ?_)
        exact kx_vret dX6_parseBranch_83 rfl (hQ _ _ (rtV (Option.some.inj h)))
    · have h := if_t c h
      exact kx_vret dX6_parseBranch_38 rfl (hQ _ _ (rtV (Option.some.inj h)))
  · have h := er2
    refine kx_icmp_ge (tgt := 17) dX6_parseBranch_10 (by decide) (fun c => ?_) (fun c => ?_)
    · have h := if_t c h
      refine kx_iconst (v := 0) dX6_parseBranch_17 (by decide) ?_
      exact jnI h jr2
    · have h := if_f c h
      refine kx_iconst (v := 1) dX6_parseBranch_13 (by decide) ?_
      refine kx_goto (tgt := 18) dX6_parseBranch_14 (by decide) ?_
      exact jnI h jr2
set_option maxHeartbeats 4000000 in
theorem mM_parseSignature {G : KG} {τ : KHp} {m : Nat} {ad : Nat → Nat} {s : TS}  {z : TS} (hd : Md m ad) (h : P_parseSignature s  = some z) : kx_c G yX6_parseSignature (ws_ yX6_parseSignature cX6_parseSignature 3 (Option.none : Option Jvm.ClassFile.FieldType)) 10 0 0 [.ref m] (MP τ m ad s) (fun rv σ' => rv = none ∧ σ' = MP τ m ad z) kx_n := by
  refine kx_mk3 (ini := false) rfl (Nat.le_of_ble_eq_true rfl) (fun h => by cases h) (fun Q X hQ hX => ?_)
  unfold P_parseSignature at h
  refine kx_aload_n dX6_parseSignature_0 rfl rfl ?_
  refine kx_getf dX6_parseSignature_1 fl_X6_24_X6 kN_m rfl ?_
  refine kx_iconst (v := 5) dX6_parseSignature_4 (by decide) ?_
  refine kN_ald hd dX6_parseSignature_5 h (fun v1 ev1 h => ?_)
  refine kx_istore_n dX6_parseSignature_6 rfl (Nat.le_of_ble_eq_true rfl) ?_
  refine kx_sipush (v := 475) dX6_parseSignature_7 (by decide) ?_
  refine kx_bipush (v := 27) dX6_parseSignature_10 (by decide) ?_
  refine kx_iload_n dX6_parseSignature_12 rfl rfl ?_
  refine kx_iconst (v := 5) dX6_parseSignature_13 (by decide) ?_
  refine kx_callS dX6_parseSignature_14 lk_X6_120 mJ_min rfl rfl (Nat.le_of_ble_eq_true rfl) (Nat.le_of_ble_eq_true rfl) (Nat.le_of_ble_eq_true rfl) (Nat.le_of_ble_eq_true rfl) (Nat.le_of_ble_eq_true rfl) (fun _ _ _ h => h.elim) (fun w_ σ_ hq => ?_)
  obtain ⟨rfl, rfl⟩ := hq
  refine kx_imul dX6_parseSignature_17 ?_
  refine kx_iadd dX6_parseSignature_18 ?_
  refine kx_istore_n dX6_parseSignature_19 rfl (Nat.le_of_ble_eq_true rfl) ?_
  refine kx_aload_n dX6_parseSignature_20 rfl rfl ?_
  refine kx_iload_n dX6_parseSignature_21 rfl rfl ?_
  refine kx_bipush (v := 6) dX6_parseSignature_22 (by decide) ?_
  obtain ⟨r2, er2, h⟩ := bd_s h
  refine kN_j (MP τ m ad r2.1) 32 [.int (r2.2), .ref m] ?_ (fun jr2 => ?_)
  · skip
    refine kx_iload_n dX6_parseSignature_32 rfl rfl ?_
    refine kx_iconst (v := 3) dX6_parseSignature_33 (by decide) ?_
    refine kx_iadd dX6_parseSignature_34 ?_
    obtain ⟨r3, er3, h⟩ := bd_s h
    refine kx_callV dX6_parseSignature_35 lk_X6_266 (mM_begins hd er3) rfl kN_rc rfl (Nat.le_of_ble_eq_true rfl) (Nat.le_of_ble_eq_true rfl) (Nat.le_of_ble_eq_true rfl) (Nat.le_of_ble_eq_true rfl) (Nat.le_of_ble_eq_true rfl) (fun _ _ _ h => h.elim) (fun w_ σ_ hq => ?_)
    obtain ⟨rfl, rfl⟩ := hq
    refine kx_if_ne (tgt := 42) dX6_parseSignature_38 (by decide) (fun c => ?_) (fun c => ?_)
    · have h := if_f c h
      refine kx_aload_n dX6_parseSignature_42 rfl rfl ?_
      refine kx_getf dX6_parseSignature_43 fl_X6_24_X6 kN_m rfl ?_
      refine kx_iload_n dX6_parseSignature_46 rfl rfl ?_
      refine kx_iconst (v := 0) dX6_parseSignature_47 (by decide) ?_
      refine kx_iadd dX6_parseSignature_48 ?_
      refine kx_aload_n dX6_parseSignature_49 rfl rfl ?_
      refine kx_ldcS dX6_parseSignature_50 ks_ArcRecorderModel_190 ?_
      obtain ⟨r4, er4, h⟩ := bd_s h
      refine kx_callV dX6_parseSignature_52 lk_X6_284 (mM_takes hd er4) rfl kN_rc rfl (Nat.le_of_ble_eq_true rfl) (Nat.le_of_ble_eq_true rfl) (Nat.le_of_ble_eq_true rfl) (Nat.le_of_ble_eq_true rfl) (Nat.le_of_ble_eq_true rfl) (fun _ _ _ h => h.elim) (fun w_ σ_ hq => ?_)
      obtain ⟨rfl, rfl⟩ := hq
      obtain ⟨r5, er5, h⟩ := bd_s h
      refine kN_j (MP τ m ad r5.1) 63 [.int (r5.2), .int ((((475 : Int32) + ((27 : Int32) * (pmin v1 (5 : Int32)))) + (0 : Int32))), .ref (ad (r3.1.2.2.2))] ?_ (fun jr5 => ?_)
      · skip
        refine kN_ast hd dX6_parseSignature_63 h (fun s6 es6 h => ?_)
        refine kx_aload_n dX6_parseSignature_64 rfl rfl ?_
        refine kx_iload_n dX6_parseSignature_65 rfl rfl ?_
        obtain ⟨r7, er7, h⟩ := bd_s h
        refine kx_callV dX6_parseSignature_66 lk_X6_287 (mM_parseTests hd er7) rfl kN_rc rfl (Nat.le_of_ble_eq_true rfl) (Nat.le_of_ble_eq_true rfl) (Nat.le_of_ble_eq_true rfl) (Nat.le_of_ble_eq_true rfl) (Nat.le_of_ble_eq_true rfl) (fun _ _ _ h => h.elim) (fun w_ σ_ hq => ?_)
        obtain ⟨rfl, rfl⟩ := hq
        refine kx_aload_n dX6_parseSignature_69 rfl rfl ?_
        obtain ⟨r8, er8, h⟩ := bd_s h
        refine kx_callV dX6_parseSignature_70 lk_X6_88 (mM_good hd er8) rfl kN_rc rfl (Nat.le_of_ble_eq_true rfl) (Nat.le_of_ble_eq_true rfl) (Nat.le_of_ble_eq_true rfl) (Nat.le_of_ble_eq_true rfl) (Nat.le_of_ble_eq_true rfl) (fun _ _ _ h => h.elim) (fun w_ σ_ hq => ?_)
        obtain ⟨rfl, rfl⟩ := hq
        refine kx_if_eq (tgt := 86) dX6_parseSignature_73 (by decide) (fun c => ?_) (fun c => ?_)
        · have h := if_t c h
          exact kx_vret dX6_parseSignature_86 rfl (hQ _ _ (rtV (Option.some.inj h)))
        · have h := if_f c h
          refine kx_aload_n dX6_parseSignature_76 rfl rfl ?_
          refine kx_getf dX6_parseSignature_77 fl_X6_24_X6 kN_m rfl ?_
          refine kx_iconst (v := 5) dX6_parseSignature_80 (by decide) ?_
          refine kx_dup2_11 dX6_parseSignature_81 rfl rfl ?_
          refine kN_ald hd dX6_parseSignature_82 h (fun v9 ev9 h => ?_)
          refine kx_iconst (v := 1) dX6_parseSignature_83 (by decide) ?_
          refine kx_iadd dX6_parseSignature_84 ?_
          refine kN_ast hd dX6_parseSignature_85 h (fun s10 es10 h => ?_)
          exact kx_vret dX6_parseSignature_86 rfl (hQ _ _ (rtV (Option.some.inj h)))
      · have h := er5
        refine kx_if_eq (tgt := 62) dX6_parseSignature_55 (by decide) (fun c => ?_) (fun c => ?_)
        · have h := if_t c h
          refine kx_iconst (v := 0) dX6_parseSignature_62 (by decide) ?_
          exact jnI h jr5
        · have h := if_f c h
          refine kx_iconst (v := 1) dX6_parseSignature_58 (by decide) ?_
          refine kx_goto (tgt := 63) dX6_parseSignature_59 (by decide) ?_
          exact jnI h jr5
    · have h := if_t c h
      exact kx_vret dX6_parseSignature_41 rfl (hQ _ _ (rtV (Option.some.inj h)))
  · have h := er2
    refine kx_icmp_ge (tgt := 31) dX6_parseSignature_24 (by decide) (fun c => ?_) (fun c => ?_)
    · have h := if_t c h
      refine kx_iconst (v := 0) dX6_parseSignature_31 (by decide) ?_
      exact jnI h jr2
    · have h := if_f c h
      refine kx_iconst (v := 1) dX6_parseSignature_27 (by decide) ?_
      refine kx_goto (tgt := 32) dX6_parseSignature_28 (by decide) ?_
      exact jnI h jr2
set_option maxHeartbeats 4000000 in
theorem mM_parseNuisance {G : KG} {τ : KHp} {m : Nat} {ad : Nat → Nat} {s : TS}  {z : TS} (hd : Md m ad) (h : P_parseNuisance s  = some z) : kx_c G yX6_parseNuisance (ws_ yX6_parseNuisance cX6_parseNuisance 3 (Option.none : Option Jvm.ClassFile.FieldType)) 10 0 0 [.ref m] (MP τ m ad s) (fun rv σ' => rv = none ∧ σ' = MP τ m ad z) kx_n := by
  refine kx_mk3 (ini := false) rfl (Nat.le_of_ble_eq_true rfl) (fun h => by cases h) (fun Q X hQ hX => ?_)
  unfold P_parseNuisance at h
  refine kx_aload_n dX6_parseNuisance_0 rfl rfl ?_
  refine kx_getf dX6_parseNuisance_1 fl_X6_24_X6 kN_m rfl ?_
  refine kx_bipush (v := 6) dX6_parseNuisance_4 (by decide) ?_
  refine kN_ald hd dX6_parseNuisance_6 h (fun v1 ev1 h => ?_)
  refine kx_istore_n dX6_parseNuisance_7 rfl (Nat.le_of_ble_eq_true rfl) ?_
  refine kx_sipush (v := 637) dX6_parseNuisance_8 (by decide) ?_
  refine kx_bipush (v := 27) dX6_parseNuisance_11 (by decide) ?_
  refine kx_iload_n dX6_parseNuisance_13 rfl rfl ?_
  refine kx_bipush (v := 7) dX6_parseNuisance_14 (by decide) ?_
  refine kx_callS dX6_parseNuisance_16 lk_X6_120 mJ_min rfl rfl (Nat.le_of_ble_eq_true rfl) (Nat.le_of_ble_eq_true rfl) (Nat.le_of_ble_eq_true rfl) (Nat.le_of_ble_eq_true rfl) (Nat.le_of_ble_eq_true rfl) (fun _ _ _ h => h.elim) (fun w_ σ_ hq => ?_)
  obtain ⟨rfl, rfl⟩ := hq
  refine kx_imul dX6_parseNuisance_19 ?_
  refine kx_iadd dX6_parseNuisance_20 ?_
  refine kx_istore_n dX6_parseNuisance_21 rfl (Nat.le_of_ble_eq_true rfl) ?_
  refine kx_aload_n dX6_parseNuisance_22 rfl rfl ?_
  refine kx_iload_n dX6_parseNuisance_23 rfl rfl ?_
  refine kx_bipush (v := 8) dX6_parseNuisance_24 (by decide) ?_
  obtain ⟨r2, er2, h⟩ := bd_s h
  refine kN_j (MP τ m ad r2.1) 34 [.int (r2.2), .ref m] ?_ (fun jr2 => ?_)
  · skip
    refine kx_iload_n dX6_parseNuisance_34 rfl rfl ?_
    refine kx_iconst (v := 3) dX6_parseNuisance_35 (by decide) ?_
    refine kx_iadd dX6_parseNuisance_36 ?_
    obtain ⟨r3, er3, h⟩ := bd_s h
    refine kx_callV dX6_parseNuisance_37 lk_X6_266 (mM_begins hd er3) rfl kN_rc rfl (Nat.le_of_ble_eq_true rfl) (Nat.le_of_ble_eq_true rfl) (Nat.le_of_ble_eq_true rfl) (Nat.le_of_ble_eq_true rfl) (Nat.le_of_ble_eq_true rfl) (fun _ _ _ h => h.elim) (fun w_ σ_ hq => ?_)
    obtain ⟨rfl, rfl⟩ := hq
    refine kx_if_ne (tgt := 44) dX6_parseNuisance_40 (by decide) (fun c => ?_) (fun c => ?_)
    · have h := if_f c h
      refine kx_aload_n dX6_parseNuisance_44 rfl rfl ?_
      refine kx_iload_n dX6_parseNuisance_45 rfl rfl ?_
      obtain ⟨r4, er4, h⟩ := bd_s h
      refine kx_callV dX6_parseNuisance_46 lk_X6_287 (mM_parseTests hd er4) rfl kN_rc rfl (Nat.le_of_ble_eq_true rfl) (Nat.le_of_ble_eq_true rfl) (Nat.le_of_ble_eq_true rfl) (Nat.le_of_ble_eq_true rfl) (Nat.le_of_ble_eq_true rfl) (fun _ _ _ h => h.elim) (fun w_ σ_ hq => ?_)
      obtain ⟨rfl, rfl⟩ := hq
      refine kx_aload_n dX6_parseNuisance_49 rfl rfl ?_
      obtain ⟨r5, er5, h⟩ := bd_s h
      refine kx_callV dX6_parseNuisance_50 lk_X6_88 (mM_good hd er5) rfl kN_rc rfl (Nat.le_of_ble_eq_true rfl) (Nat.le_of_ble_eq_true rfl) (Nat.le_of_ble_eq_true rfl) (Nat.le_of_ble_eq_true rfl) (Nat.le_of_ble_eq_true rfl) (fun _ _ _ h => h.elim) (fun w_ σ_ hq => ?_)
      obtain ⟨rfl, rfl⟩ := hq
      refine kx_if_eq (tgt := 67) dX6_parseNuisance_53 (by decide) (fun c => ?_) (fun c => ?_)
      · have h := if_t c h
        exact kx_vret dX6_parseNuisance_67 rfl (hQ _ _ (rtV (Option.some.inj h)))
      · have h := if_f c h
        refine kx_aload_n dX6_parseNuisance_56 rfl rfl ?_
        refine kx_getf dX6_parseNuisance_57 fl_X6_24_X6 kN_m rfl ?_
        refine kx_bipush (v := 6) dX6_parseNuisance_60 (by decide) ?_
        refine kx_dup2_11 dX6_parseNuisance_62 rfl rfl ?_
        refine kN_ald hd dX6_parseNuisance_63 h (fun v6 ev6 h => ?_)
        refine kx_iconst (v := 1) dX6_parseNuisance_64 (by decide) ?_
        refine kx_iadd dX6_parseNuisance_65 ?_
        refine kN_ast hd dX6_parseNuisance_66 h (fun s7 es7 h => ?_)
        exact kx_vret dX6_parseNuisance_67 rfl (hQ _ _ (rtV (Option.some.inj h)))
    · have h := if_t c h
      exact kx_vret dX6_parseNuisance_43 rfl (hQ _ _ (rtV (Option.some.inj h)))
  · have h := er2
    refine kx_icmp_ge (tgt := 33) dX6_parseNuisance_26 (by decide) (fun c => ?_) (fun c => ?_)
    · have h := if_t c h
      refine kx_iconst (v := 0) dX6_parseNuisance_33 (by decide) ?_
      exact jnI h jr2
    · have h := if_f c h
      refine kx_iconst (v := 1) dX6_parseNuisance_29 (by decide) ?_
      refine kx_goto (tgt := 34) dX6_parseNuisance_30 (by decide) ?_
      exact jnI h jr2
set_option maxHeartbeats 4000000 in
theorem mM_passBranch {G : KG} {τ : KHp} {m : Nat} {ad : Nat → Nat} {s : TS} {x1 : Int32} {z : TS × Int32} (hd : Md m ad) (h : P_passBranch s x1 = some z) : kx_c G yX6_passBranch (ws_ yX6_passBranch cX6_passBranch 2 (Option.some Jvm.ClassFile.FieldType.boolean)) 6 0 0 [.ref m, .int (x1)] (MP τ m ad s) (fun rv σ' => rv = some (.int z.2) ∧ σ' = MP τ m ad z.1) kx_n := by
  refine kx_mk3 (ini := false) rfl (Nat.le_of_ble_eq_true rfl) (fun h => by cases h) (fun Q X hQ hX => ?_)
  unfold P_passBranch at h
  refine kx_aload_n dX6_passBranch_0 rfl rfl ?_
  refine kx_iload_n dX6_passBranch_1 rfl rfl ?_
  obtain ⟨r1, er1, h⟩ := bd_s h
  refine kx_callV dX6_passBranch_2 lk_X6_408 (mM_laySamples hd er1) rfl kN_rc rfl (Nat.le_of_ble_eq_true rfl) (Nat.le_of_ble_eq_true rfl) (Nat.le_of_ble_eq_true rfl) (Nat.le_of_ble_eq_true rfl) (Nat.le_of_ble_eq_true rfl) (fun _ _ _ h => h.elim) (fun w_ σ_ hq => ?_)
  obtain ⟨rfl, rfl⟩ := hq
  refine kx_aload_n dX6_passBranch_5 rfl rfl ?_
  refine kx_iload_n dX6_passBranch_6 rfl rfl ?_
  obtain ⟨r2, er2, h⟩ := bd_s h
  refine kx_callV dX6_passBranch_7 lk_X6_411 (mM_layFeatures hd er2) rfl kN_rc rfl (Nat.le_of_ble_eq_true rfl) (Nat.le_of_ble_eq_true rfl) (Nat.le_of_ble_eq_true rfl) (Nat.le_of_ble_eq_true rfl) (Nat.le_of_ble_eq_true rfl) (fun _ _ _ h => h.elim) (fun w_ σ_ hq => ?_)
  obtain ⟨rfl, rfl⟩ := hq
  refine kx_aload_n dX6_passBranch_10 rfl rfl ?_
  refine kx_iload_n dX6_passBranch_11 rfl rfl ?_
  obtain ⟨r3, er3, h⟩ := bd_s h
  refine kx_callV dX6_passBranch_12 lk_X6_414 (mM_judge hd er3) rfl kN_rc rfl (Nat.le_of_ble_eq_true rfl) (Nat.le_of_ble_eq_true rfl) (Nat.le_of_ble_eq_true rfl) (Nat.le_of_ble_eq_true rfl) (Nat.le_of_ble_eq_true rfl) (fun _ _ _ h => h.elim) (fun w_ σ_ hq => ?_)
  obtain ⟨rfl, rfl⟩ := hq
  refine kx_aload_n dX6_passBranch_15 rfl rfl ?_
  refine kx_iload_n dX6_passBranch_16 rfl rfl ?_
  refine kx_iconst (v := 4) dX6_passBranch_17 (by decide) ?_
  refine kx_iconst (v := 1) dX6_passBranch_18 (by decide) ?_
  obtain ⟨r4, er4, h⟩ := bd_s h
  refine kx_callV dX6_passBranch_19 lk_X6_270 (mM_setBranch hd er4) rfl kN_rc rfl (Nat.le_of_ble_eq_true rfl) (Nat.le_of_ble_eq_true rfl) (Nat.le_of_ble_eq_true rfl) (Nat.le_of_ble_eq_true rfl) (Nat.le_of_ble_eq_true rfl) (fun _ _ _ h => h.elim) (fun w_ σ_ hq => ?_)
  obtain ⟨rfl, rfl⟩ := hq
  refine kx_aload_n dX6_passBranch_22 rfl rfl ?_
  refine kx_iload_n dX6_passBranch_23 rfl rfl ?_
  refine kx_iconst (v := 0) dX6_passBranch_24 (by decide) ?_
  obtain ⟨r5, er5, h⟩ := bd_s h
  refine kx_callV dX6_passBranch_25 lk_X6_391 (mM_featureOf hd er5) rfl kN_rc rfl (Nat.le_of_ble_eq_true rfl) (Nat.le_of_ble_eq_true rfl) (Nat.le_of_ble_eq_true rfl) (Nat.le_of_ble_eq_true rfl) (Nat.le_of_ble_eq_true rfl) (fun _ _ _ h => h.elim) (fun w_ σ_ hq => ?_)
  obtain ⟨rfl, rfl⟩ := hq
  refine kx_ldcwf dX6_passBranch_28 q3229 ?_
  refine kx_aload_n dX6_passBranch_31 rfl rfl ?_
  refine kx_iload_n dX6_passBranch_32 rfl rfl ?_
  refine kx_iconst (v := 0) dX6_passBranch_33 (by decide) ?_
  obtain ⟨r6, er6, h⟩ := bd_s h
  refine kx_callV dX6_passBranch_34 lk_X6_70 (mM_ofBranch hd er6) rfl kN_rc rfl (Nat.le_of_ble_eq_true rfl) (Nat.le_of_ble_eq_true rfl) (Nat.le_of_ble_eq_true rfl) (Nat.le_of_ble_eq_true rfl) (Nat.le_of_ble_eq_true rfl) (fun _ _ _ h => h.elim) (fun w_ σ_ hq => ?_)
  obtain ⟨rfl, rfl⟩ := hq
  refine kx_i2f dX6_passBranch_37 ?_
  refine kN_fmul dX6_passBranch_38 h (fun v7 ev7 h => ?_)
  refine kx_fcmp dX6_passBranch_39 ?_
  refine kx_if_le (tgt := 51) dX6_passBranch_40 (by decide) (fun c => ?_) (fun c => ?_)
  · have h := if_t c h
    refine kx_aload_n dX6_passBranch_51 rfl rfl ?_
    refine kx_iload_n dX6_passBranch_52 rfl rfl ?_
    refine kx_aload_n dX6_passBranch_53 rfl rfl ?_
    refine kx_iload_n dX6_passBranch_54 rfl rfl ?_
    obtain ⟨r8, er8, h⟩ := bd_s h
    refine kx_callV dX6_passBranch_55 lk_X6_405 (mM_windowOf hd er8) rfl kN_rc rfl (Nat.le_of_ble_eq_true rfl) (Nat.le_of_ble_eq_true rfl) (Nat.le_of_ble_eq_true rfl) (Nat.le_of_ble_eq_true rfl) (Nat.le_of_ble_eq_true rfl) (fun _ _ _ h => h.elim) (fun w_ σ_ hq => ?_)
    obtain ⟨rfl, rfl⟩ := hq
    obtain ⟨r9, er9, h⟩ := bd_s h
    refine kx_callV dX6_passBranch_58 lk_X6_422 (mM_suspectsOf hd er9) rfl kN_rc rfl (Nat.le_of_ble_eq_true rfl) (Nat.le_of_ble_eq_true rfl) (Nat.le_of_ble_eq_true rfl) (Nat.le_of_ble_eq_true rfl) (Nat.le_of_ble_eq_true rfl) (fun _ _ _ h => h.elim) (fun w_ σ_ hq => ?_)
    obtain ⟨rfl, rfl⟩ := hq
    refine kx_aload_n dX6_passBranch_61 rfl rfl ?_
    refine kx_getf dX6_passBranch_62 fl_X6_17_X6 kN_m rfl ?_
    refine kx_iconst (v := 2) dX6_passBranch_65 (by decide) ?_
    refine kN_ald hd dX6_passBranch_66 h (fun v10 ev10 h => ?_)
    refine kx_icmp_ge (tgt := 72) dX6_passBranch_67 (by decide) (fun c => ?_) (fun c => ?_)
    · have h := if_t c h
      refine kx_aload_n dX6_passBranch_72 rfl rfl ?_
      refine kx_iload_n dX6_passBranch_73 rfl rfl ?_
      refine kx_aload_n dX6_passBranch_74 rfl rfl ?_
      refine kx_iload_n dX6_passBranch_75 rfl rfl ?_
      refine kx_iconst (v := 3) dX6_passBranch_76 (by decide) ?_
      obtain ⟨r11, er11, h⟩ := bd_s h
      refine kx_callV dX6_passBranch_77 lk_X6_70 (mM_ofBranch hd er11) rfl kN_rc rfl (Nat.le_of_ble_eq_true rfl) (Nat.le_of_ble_eq_true rfl) (Nat.le_of_ble_eq_true rfl) (Nat.le_of_ble_eq_true rfl) (Nat.le_of_ble_eq_true rfl) (fun _ _ _ h => h.elim) (fun w_ σ_ hq => ?_)
      obtain ⟨rfl, rfl⟩ := hq
      obtain ⟨r12, er12, h⟩ := bd_s h
      refine kx_callV dX6_passBranch_80 lk_X6_418 (mM_trip hd er12) rfl kN_rc rfl (Nat.le_of_ble_eq_true rfl) (Nat.le_of_ble_eq_true rfl) (Nat.le_of_ble_eq_true rfl) (Nat.le_of_ble_eq_true rfl) (Nat.le_of_ble_eq_true rfl) (fun _ _ _ h => h.elim) (fun w_ σ_ hq => ?_)
      obtain ⟨rfl, rfl⟩ := hq
      refine kx_iconst (v := 1) dX6_passBranch_83 (by decide) ?_
      exact kx_zret dX6_passBranch_84 rfl rfl (hQ _ _ (rtI (Option.some.inj h)))
    · have h := if_f c h
      refine kx_iconst (v := 0) dX6_passBranch_70 (by decide) ?_
      exact kx_zret dX6_passBranch_71 rfl rfl (hQ _ _ (rtI (Option.some.inj h)))
  · have h := if_f c h
    refine kx_aload_n dX6_passBranch_43 rfl rfl ?_
    refine kx_iload_n dX6_passBranch_44 rfl rfl ?_
    refine kx_iconst (v := 2) dX6_passBranch_45 (by decide) ?_
    obtain ⟨r13, er13, h⟩ := bd_s h
    refine kx_callV dX6_passBranch_46 lk_X6_418 (mM_trip hd er13) rfl kN_rc rfl (Nat.le_of_ble_eq_true rfl) (Nat.le_of_ble_eq_true rfl) (Nat.le_of_ble_eq_true rfl) (Nat.le_of_ble_eq_true rfl) (Nat.le_of_ble_eq_true rfl) (fun _ _ _ h => h.elim) (fun w_ σ_ hq => ?_)
    obtain ⟨rfl, rfl⟩ := hq
    refine kx_iconst (v := 1) dX6_passBranch_49 (by decide) ?_
    exact kx_zret dX6_passBranch_50 rfl rfl (hQ _ _ (rtI (Option.some.inj h)))
set_option maxHeartbeats 4000000 in
theorem mM_parseLoad {G : KG} {τ : KHp} {m : Nat} {ad : Nat → Nat} {s : TS} {x1 : Int32} {z : TS} (hd : Md m ad) (h : P_parseLoad s x1 = some z) : kx_c G yX6_parseLoad (ws_ yX6_parseLoad cX6_parseLoad 4 (Option.none : Option Jvm.ClassFile.FieldType)) 10 0 0 [.ref m, .int (x1)] (MP τ m ad s) (fun rv σ' => rv = none ∧ σ' = MP τ m ad z) kx_n := by
  refine kx_mk3 (ini := false) rfl (Nat.le_of_ble_eq_true rfl) (fun h => by cases h) (fun Q X hQ hX => ?_)
  unfold P_parseLoad at h
  refine kx_aload_n dX6_parseLoad_0 rfl rfl ?_
  refine kx_getf dX6_parseLoad_1 fl_X6_24_X6 kN_m rfl ?_
  refine kx_iconst (v := 4) dX6_parseLoad_4 (by decide) ?_
  refine kN_ald hd dX6_parseLoad_5 h (fun v1 ev1 h => ?_)
  refine kx_istore_n dX6_parseLoad_6 rfl (Nat.le_of_ble_eq_true rfl) ?_
  refine kx_aload_n dX6_parseLoad_7 rfl rfl ?_
  refine kx_iload_n dX6_parseLoad_8 rfl rfl ?_
  refine kx_bipush (v := 12) dX6_parseLoad_9 (by decide) ?_
  obtain ⟨r2, er2, h⟩ := bd_s h
  refine kN_j (MP τ m ad r2.1) 19 [.int (r2.2), .ref m] ?_ (fun jr2 => ?_)
  · skip
    refine kx_sipush (v := 331) dX6_parseLoad_19 (by decide) ?_
    refine kx_bipush (v := 12) dX6_parseLoad_22 (by decide) ?_
    refine kx_iload_n dX6_parseLoad_24 rfl rfl ?_
    refine kx_bipush (v := 11) dX6_parseLoad_25 (by decide) ?_
    refine kx_callS dX6_parseLoad_27 lk_X6_120 mJ_min rfl rfl (Nat.le_of_ble_eq_true rfl) (Nat.le_of_ble_eq_true rfl) (Nat.le_of_ble_eq_true rfl) (Nat.le_of_ble_eq_true rfl) (Nat.le_of_ble_eq_true rfl) (fun _ _ _ h => h.elim) (fun w_ σ_ hq => ?_)
    obtain ⟨rfl, rfl⟩ := hq
    refine kx_imul dX6_parseLoad_30 ?_
    refine kx_iadd dX6_parseLoad_31 ?_
    refine kx_bipush (v := 6) dX6_parseLoad_32 (by decide) ?_
    refine kx_iadd dX6_parseLoad_34 ?_
    obtain ⟨r3, er3, h⟩ := bd_s h
    refine kx_callV dX6_parseLoad_35 lk_X6_266 (mM_begins hd er3) rfl kN_rc rfl (Nat.le_of_ble_eq_true rfl) (Nat.le_of_ble_eq_true rfl) (Nat.le_of_ble_eq_true rfl) (Nat.le_of_ble_eq_true rfl) (Nat.le_of_ble_eq_true rfl) (fun _ _ _ h => h.elim) (fun w_ σ_ hq => ?_)
    obtain ⟨rfl, rfl⟩ := hq
    refine kx_if_ne (tgt := 42) dX6_parseLoad_38 (by decide) (fun c => ?_) (fun c => ?_)
    · have h := if_f c h
      refine kx_aload_n dX6_parseLoad_42 rfl rfl ?_
      refine kx_ldcS dX6_parseLoad_43 ks_ArcRecorderModel_174 ?_
      obtain ⟨r4, er4, h⟩ := bd_s h
      refine kx_callV dX6_parseLoad_45 lk_X6_217 (mM_word hd er4) rfl kN_rc rfl (Nat.le_of_ble_eq_true rfl) (Nat.le_of_ble_eq_true rfl) (Nat.le_of_ble_eq_true rfl) (Nat.le_of_ble_eq_true rfl) (Nat.le_of_ble_eq_true rfl) (fun _ _ _ h => h.elim) (fun w_ σ_ hq => ?_)
      obtain ⟨rfl, rfl⟩ := hq
      refine kx_aload_n dX6_parseLoad_48 rfl rfl ?_
      refine kx_iload_n dX6_parseLoad_49 rfl rfl ?_
      refine kx_iconst (v := 0) dX6_parseLoad_50 (by decide) ?_
      refine kx_iload_n dX6_parseLoad_51 rfl rfl ?_
      obtain ⟨r5, er5, h⟩ := bd_s h
      refine kx_callV dX6_parseLoad_52 lk_X6_274 (mM_setLoad hd er5) rfl kN_rc rfl (Nat.le_of_ble_eq_true rfl) (Nat.le_of_ble_eq_true rfl) (Nat.le_of_ble_eq_true rfl) (Nat.le_of_ble_eq_true rfl) (Nat.le_of_ble_eq_true rfl) (fun _ _ _ h => h.elim) (fun w_ σ_ hq => ?_)
      obtain ⟨rfl, rfl⟩ := hq
      refine kx_aload_n dX6_parseLoad_55 rfl rfl ?_
      refine kx_iload_n dX6_parseLoad_56 rfl rfl ?_
      refine kx_iconst (v := 1) dX6_parseLoad_57 (by decide) ?_
      refine kx_aload_n dX6_parseLoad_58 rfl rfl ?_
      refine kx_iconst (v := 0) dX6_parseLoad_59 (by decide) ?_
      obtain ⟨r6, er6, h⟩ := bd_s h
      refine kx_callV dX6_parseLoad_60 lk_X6_277 (mM_reference hd er6) rfl kN_rc rfl (Nat.le_of_ble_eq_true rfl) (Nat.le_of_ble_eq_true rfl) (Nat.le_of_ble_eq_true rfl) (Nat.le_of_ble_eq_true rfl) (Nat.le_of_ble_eq_true rfl) (fun _ _ _ h => h.elim) (fun w_ σ_ hq => ?_)
      obtain ⟨rfl, rfl⟩ := hq
      obtain ⟨r7, er7, h⟩ := bd_s h
      refine kx_callV dX6_parseLoad_63 lk_X6_274 (mM_setLoad hd er7) rfl kN_rc rfl (Nat.le_of_ble_eq_true rfl) (Nat.le_of_ble_eq_true rfl) (Nat.le_of_ble_eq_true rfl) (Nat.le_of_ble_eq_true rfl) (Nat.le_of_ble_eq_true rfl) (fun _ _ _ h => h.elim) (fun w_ σ_ hq => ?_)
      obtain ⟨rfl, rfl⟩ := hq
      refine kx_aload_n dX6_parseLoad_66 rfl rfl ?_
      refine kx_iload_n dX6_parseLoad_67 rfl rfl ?_
      refine kx_iconst (v := 2) dX6_parseLoad_68 (by decide) ?_
      refine kx_aload_n dX6_parseLoad_69 rfl rfl ?_
      refine kx_ldcS dX6_parseLoad_70 ks_ArcRecorderModel_176 ?_
      refine kx_iconst (v := 1) dX6_parseLoad_72 (by decide) ?_
      refine kx_sipush (v := 500) dX6_parseLoad_73 (by decide) ?_
      obtain ⟨r8, er8, h⟩ := bd_s h
      refine kx_callV dX6_parseLoad_76 lk_X6_259 (mM_numberBehind hd er8) rfl kN_rc rfl (Nat.le_of_ble_eq_true rfl) (Nat.le_of_ble_eq_true rfl) (Nat.le_of_ble_eq_true rfl) (Nat.le_of_ble_eq_true rfl) (Nat.le_of_ble_eq_true rfl) (fun _ _ _ h => h.elim) (fun w_ σ_ hq => ?_)
      obtain ⟨rfl, rfl⟩ := hq
      obtain ⟨r9, er9, h⟩ := bd_s h
      refine kx_callV dX6_parseLoad_79 lk_X6_274 (mM_setLoad hd er9) rfl kN_rc rfl (Nat.le_of_ble_eq_true rfl) (Nat.le_of_ble_eq_true rfl) (Nat.le_of_ble_eq_true rfl) (Nat.le_of_ble_eq_true rfl) (Nat.le_of_ble_eq_true rfl) (fun _ _ _ h => h.elim) (fun w_ σ_ hq => ?_)
      obtain ⟨rfl, rfl⟩ := hq
      refine kx_aload_n dX6_parseLoad_82 rfl rfl ?_
      refine kx_getf dX6_parseLoad_83 fl_X6_24_X6 kN_m rfl ?_
      refine kx_iconst (v := 0) dX6_parseLoad_86 (by decide) ?_
      refine kN_ald hd dX6_parseLoad_87 h (fun v10 ev10 h => ?_)
      refine kx_iconst (v := 1) dX6_parseLoad_88 (by decide) ?_
      refine kx_isub dX6_parseLoad_89 ?_
      refine kx_istore_n dX6_parseLoad_90 rfl (Nat.le_of_ble_eq_true rfl) ?_
      refine kx_iload_n dX6_parseLoad_91 rfl rfl ?_
      refine kx_iconst (v := 1) dX6_parseLoad_92 (by decide) ?_
      obtain ⟨r11, er11, h⟩ := bd_s h
      refine kN_j (MP τ m ad r11) 110 [] ?_ (fun jr11 => ?_)
      · skip
        refine kx_iload_n dX6_parseLoad_110 rfl rfl ?_
        refine kx_iconst (v := 2) dX6_parseLoad_111 (by decide) ?_
        obtain ⟨r14, er14, h⟩ := bd_s h
        refine kN_j (MP τ m ad r14) 129 [] ?_ (fun jr14 => ?_)
        · skip
          refine kx_iload_n dX6_parseLoad_129 rfl rfl ?_
          refine kx_iconst (v := 3) dX6_parseLoad_130 (by decide) ?_
          obtain ⟨r17, er17, h⟩ := bd_s h
          refine kN_j (MP τ m ad r17) 148 [] ?_ (fun jr17 => ?_)
          · skip
            refine kx_iload_n dX6_parseLoad_148 rfl rfl ?_
            refine kx_iconst (v := 3) dX6_parseLoad_149 (by decide) ?_
            obtain ⟨r20, er20, h⟩ := bd_s h
            refine kN_j (MP τ m ad r20) 168 [] ?_ (fun jr20 => ?_)
            · skip
              refine kx_aload_n dX6_parseLoad_168 rfl rfl ?_
              refine kx_iload_n dX6_parseLoad_169 rfl rfl ?_
              refine kx_iconst (v := 5) dX6_parseLoad_170 (by decide) ?_
              refine kx_iconst (v := 1) dX6_parseLoad_171 (by decide) ?_
              obtain ⟨r23, er23, h⟩ := bd_s h
              refine kx_callV dX6_parseLoad_172 lk_X6_274 (mM_setLoad hd er23) rfl kN_rc rfl (Nat.le_of_ble_eq_true rfl) (Nat.le_of_ble_eq_true rfl) (Nat.le_of_ble_eq_true rfl) (Nat.le_of_ble_eq_true rfl) (Nat.le_of_ble_eq_true rfl) (fun _ _ _ h => h.elim) (fun w_ σ_ hq => ?_)
              obtain ⟨rfl, rfl⟩ := hq
              refine kx_aload_n dX6_parseLoad_175 rfl rfl ?_
              obtain ⟨r24, er24, h⟩ := bd_s h
              refine kx_callV dX6_parseLoad_176 lk_X6_263 (mM_semicolon hd er24) rfl kN_rc rfl (Nat.le_of_ble_eq_true rfl) (Nat.le_of_ble_eq_true rfl) (Nat.le_of_ble_eq_true rfl) (Nat.le_of_ble_eq_true rfl) (Nat.le_of_ble_eq_true rfl) (fun _ _ _ h => h.elim) (fun w_ σ_ hq => ?_)
              obtain ⟨rfl, rfl⟩ := hq
              refine kx_aload_n dX6_parseLoad_179 rfl rfl ?_
              obtain ⟨r25, er25, h⟩ := bd_s h
              refine kx_callV dX6_parseLoad_180 lk_X6_88 (mM_good hd er25) rfl kN_rc rfl (Nat.le_of_ble_eq_true rfl) (Nat.le_of_ble_eq_true rfl) (Nat.le_of_ble_eq_true rfl) (Nat.le_of_ble_eq_true rfl) (Nat.le_of_ble_eq_true rfl) (fun _ _ _ h => h.elim) (fun w_ σ_ hq => ?_)
              obtain ⟨rfl, rfl⟩ := hq
              refine kx_if_eq (tgt := 196) dX6_parseLoad_183 (by decide) (fun c => ?_) (fun c => ?_)
              · have h := if_t c h
                exact kx_vret dX6_parseLoad_196 rfl (hQ _ _ (rtV (Option.some.inj h)))
              · have h := if_f c h
                refine kx_aload_n dX6_parseLoad_186 rfl rfl ?_
                refine kx_getf dX6_parseLoad_187 fl_X6_24_X6 kN_m rfl ?_
                refine kx_iconst (v := 4) dX6_parseLoad_190 (by decide) ?_
                refine kx_dup2_11 dX6_parseLoad_191 rfl rfl ?_
                refine kN_ald hd dX6_parseLoad_192 h (fun v26 ev26 h => ?_)
                refine kx_iconst (v := 1) dX6_parseLoad_193 (by decide) ?_
                refine kx_iadd dX6_parseLoad_194 ?_
                refine kN_ast hd dX6_parseLoad_195 h (fun s27 es27 h => ?_)
                exact kx_vret dX6_parseLoad_196 rfl (hQ _ _ (rtV (Option.some.inj h)))
            · have h := er20
              refine kx_icmp_ne (tgt := 168) dX6_parseLoad_150 (by decide) (fun c => ?_) (fun c => ?_)
              · have h := if_f c h
                exact jnS h jr20
              · have h := if_t c h
                refine kx_aload_n dX6_parseLoad_153 rfl rfl ?_
                refine kx_iload_n dX6_parseLoad_154 rfl rfl ?_
                refine kx_iconst (v := 4) dX6_parseLoad_155 (by decide) ?_
                refine kx_aload_n dX6_parseLoad_156 rfl rfl ?_
                refine kx_ldcS dX6_parseLoad_157 ks_ArcRecorderModel_184 ?_
                refine kx_iconst (v := 0) dX6_parseLoad_159 (by decide) ?_
                refine kx_bipush (v := 100) dX6_parseLoad_160 (by decide) ?_
                obtain ⟨r21, er21, h⟩ := bd_s h
                refine kx_callV dX6_parseLoad_162 lk_X6_259 (mM_numberBehind hd er21) rfl kN_rc rfl (Nat.le_of_ble_eq_true rfl) (Nat.le_of_ble_eq_true rfl) (Nat.le_of_ble_eq_true rfl) (Nat.le_of_ble_eq_true rfl) (Nat.le_of_ble_eq_true rfl) (fun _ _ _ h => h.elim) (fun w_ σ_ hq => ?_)
                obtain ⟨rfl, rfl⟩ := hq
                obtain ⟨r22, er22, h⟩ := bd_s h
                refine kx_callV dX6_parseLoad_165 lk_X6_274 (mM_setLoad hd er22) rfl kN_rc rfl (Nat.le_of_ble_eq_true rfl) (Nat.le_of_ble_eq_true rfl) (Nat.le_of_ble_eq_true rfl) (Nat.le_of_ble_eq_true rfl) (Nat.le_of_ble_eq_true rfl) (fun _ _ _ h => h.elim) (fun w_ σ_ hq => ?_)
                obtain ⟨rfl, rfl⟩ := hq
                exact jnS h jr20
          · have h := er17
            refine kx_icmp_ne (tgt := 148) dX6_parseLoad_131 (by decide) (fun c => ?_) (fun c => ?_)
            · have h := if_f c h
              exact jnS h jr17
            · have h := if_t c h
              refine kx_aload_n dX6_parseLoad_134 rfl rfl ?_
              refine kx_iload_n dX6_parseLoad_135 rfl rfl ?_
              refine kx_iconst (v := 3) dX6_parseLoad_136 (by decide) ?_
              refine kx_aload_n dX6_parseLoad_137 rfl rfl ?_
              refine kx_ldcS dX6_parseLoad_138 ks_ArcRecorderModel_182 ?_
              refine kx_iconst (v := 0) dX6_parseLoad_140 (by decide) ?_
              refine kx_iload_n dX6_parseLoad_141 rfl rfl ?_
              obtain ⟨r18, er18, h⟩ := bd_s h
              refine kx_callV dX6_parseLoad_142 lk_X6_259 (mM_numberBehind hd er18) rfl kN_rc rfl (Nat.le_of_ble_eq_true rfl) (Nat.le_of_ble_eq_true rfl) (Nat.le_of_ble_eq_true rfl) (Nat.le_of_ble_eq_true rfl) (Nat.le_of_ble_eq_true rfl) (fun _ _ _ h => h.elim) (fun w_ σ_ hq => ?_)
              obtain ⟨rfl, rfl⟩ := hq
              obtain ⟨r19, er19, h⟩ := bd_s h
              refine kx_callV dX6_parseLoad_145 lk_X6_274 (mM_setLoad hd er19) rfl kN_rc rfl (Nat.le_of_ble_eq_true rfl) (Nat.le_of_ble_eq_true rfl) (Nat.le_of_ble_eq_true rfl) (Nat.le_of_ble_eq_true rfl) (Nat.le_of_ble_eq_true rfl) (fun _ _ _ h => h.elim) (fun w_ σ_ hq => ?_)
              obtain ⟨rfl, rfl⟩ := hq
              exact jnS h jr17
        · have h := er14
          refine kx_icmp_ne (tgt := 129) dX6_parseLoad_112 (by decide) (fun c => ?_) (fun c => ?_)
          · have h := if_f c h
            exact jnS h jr14
          · have h := if_t c h
            refine kx_aload_n dX6_parseLoad_115 rfl rfl ?_
            refine kx_iload_n dX6_parseLoad_116 rfl rfl ?_
            refine kx_iconst (v := 3) dX6_parseLoad_117 (by decide) ?_
            refine kx_aload_n dX6_parseLoad_118 rfl rfl ?_
            refine kx_ldcS dX6_parseLoad_119 ks_ArcRecorderModel_180 ?_
            refine kx_iconst (v := 0) dX6_parseLoad_121 (by decide) ?_
            refine kx_iload_n dX6_parseLoad_122 rfl rfl ?_
            obtain ⟨r15, er15, h⟩ := bd_s h
            refine kx_callV dX6_parseLoad_123 lk_X6_259 (mM_numberBehind hd er15) rfl kN_rc rfl (Nat.le_of_ble_eq_true rfl) (Nat.le_of_ble_eq_true rfl) (Nat.le_of_ble_eq_true rfl) (Nat.le_of_ble_eq_true rfl) (Nat.le_of_ble_eq_true rfl) (fun _ _ _ h => h.elim) (fun w_ σ_ hq => ?_)
            obtain ⟨rfl, rfl⟩ := hq
            obtain ⟨r16, er16, h⟩ := bd_s h
            refine kx_callV dX6_parseLoad_126 lk_X6_274 (mM_setLoad hd er16) rfl kN_rc rfl (Nat.le_of_ble_eq_true rfl) (Nat.le_of_ble_eq_true rfl) (Nat.le_of_ble_eq_true rfl) (Nat.le_of_ble_eq_true rfl) (Nat.le_of_ble_eq_true rfl) (fun _ _ _ h => h.elim) (fun w_ σ_ hq => ?_)
            obtain ⟨rfl, rfl⟩ := hq
            exact jnS h jr14
      · have h := er11
        refine kx_icmp_ne (tgt := 110) dX6_parseLoad_93 (by decide) (fun c => ?_) (fun c => ?_)
        · have h := if_f c h
          exact jnS h jr11
        · have h := if_t c h
          refine kx_aload_n dX6_parseLoad_96 rfl rfl ?_
          refine kx_iload_n dX6_parseLoad_97 rfl rfl ?_
          refine kx_iconst (v := 3) dX6_parseLoad_98 (by decide) ?_
          refine kx_aload_n dX6_parseLoad_99 rfl rfl ?_
          refine kx_ldcS dX6_parseLoad_100 ks_ArcRecorderModel_178 ?_
          refine kx_iconst (v := 0) dX6_parseLoad_102 (by decide) ?_
          refine kx_iload_n dX6_parseLoad_103 rfl rfl ?_
          obtain ⟨r12, er12, h⟩ := bd_s h
          refine kx_callV dX6_parseLoad_104 lk_X6_259 (mM_numberBehind hd er12) rfl kN_rc rfl (Nat.le_of_ble_eq_true rfl) (Nat.le_of_ble_eq_true rfl) (Nat.le_of_ble_eq_true rfl) (Nat.le_of_ble_eq_true rfl) (Nat.le_of_ble_eq_true rfl) (fun _ _ _ h => h.elim) (fun w_ σ_ hq => ?_)
          obtain ⟨rfl, rfl⟩ := hq
          obtain ⟨r13, er13, h⟩ := bd_s h
          refine kx_callV dX6_parseLoad_107 lk_X6_274 (mM_setLoad hd er13) rfl kN_rc rfl (Nat.le_of_ble_eq_true rfl) (Nat.le_of_ble_eq_true rfl) (Nat.le_of_ble_eq_true rfl) (Nat.le_of_ble_eq_true rfl) (Nat.le_of_ble_eq_true rfl) (fun _ _ _ h => h.elim) (fun w_ σ_ hq => ?_)
          obtain ⟨rfl, rfl⟩ := hq
          exact jnS h jr11
    · have h := if_t c h
      exact kx_vret dX6_parseLoad_41 rfl (hQ _ _ (rtV (Option.some.inj h)))
  · have h := er2
    refine kx_icmp_ge (tgt := 18) dX6_parseLoad_11 (by decide) (fun c => ?_) (fun c => ?_)
    · have h := if_t c h
      refine kx_iconst (v := 0) dX6_parseLoad_18 (by decide) ?_
      exact jnI h jr2
    · have h := if_f c h
      refine kx_iconst (v := 1) dX6_parseLoad_14 (by decide) ?_
      refine kx_goto (tgt := 19) dX6_parseLoad_15 (by decide) ?_
      exact jnI h jr2
set_option maxHeartbeats 4000000 in
theorem mL_pass_23 {G : KG} {τ : KHp} {m : Nat} {ad : Nat → Nat} {Q : KQ} {X : KX}  {a0 : TS × Int32 × Int32} {z : TS × Int32} (hd : Md m ad) (h : loopN (fun w : TS × Int32 × Int32 => B_pass_23  w.1 w.2.1 w.2.2) 9000 a0 = some z) (kk : kx G (yX6_pass.cls, cX6_pass, 3, (Option.some Jvm.ClassFile.FieldType.int), false, []) (7, 0, 0, Q, X) 0 0 (MP τ m ad z.1) 61 (kF [(1, .int (z.2))]) []) : kx G (yX6_pass.cls, cX6_pass, 3, (Option.some Jvm.ClassFile.FieldType.int), false, []) (7, 0, 0, Q, X) 0 0 (MP τ m ad a0.1) 23 (kF [(0, .ref m), (1, .int (a0.2.1)), (2, .int (a0.2.2))]) [] := by
  refine loopK_2_1 (B := B_pass_23 ) (fun (a : TS) (a1 : Int32) (a2 : Int32) => kx G (yX6_pass.cls, cX6_pass, 3, (Option.some Jvm.ClassFile.FieldType.int), false, []) (7, 0, 0, Q, X) 0 0 (MP τ m ad a) 23 (kF [(0, .ref m), (1, .int (a1)), (2, .int (a2))]) []) (fun (b : TS) (b1 : Int32) => kx G (yX6_pass.cls, cX6_pass, 3, (Option.some Jvm.ClassFile.FieldType.int), false, []) (7, 0, 0, Q, X) 0 0 (MP τ m ad b) 61 (kF [(1, .int (b1))]) []) (fun a a1 a2 r h kI kE => ?_) _ _ _ h kk
  · unfold B_pass_23 at h
    refine kx_iload_n dX6_pass_23 rfl rfl ?_
    refine kx_aload_n dX6_pass_24 rfl rfl ?_
    refine kx_getf dX6_pass_25 fl_X6_17_X6 kN_m rfl ?_
    refine kx_iconst (v := 3) dX6_pass_28 (by decide) ?_
    refine kN_ald hd dX6_pass_29 h (fun v23001 ev23001 h => ?_)
    refine kx_icmp_ge (tgt := 61) dX6_pass_30 (by decide) (fun c => ?_) (fun c => ?_)
    · have h := if_t c h
      exact kx_lwF [(1, .int (a1))] ⟨rfl, trivial⟩ (kE (a) (a1) (Option.some.inj h).symm)
    · have h := if_f c h
      refine kx_aload_n dX6_pass_33 rfl rfl ?_
      refine kx_iload_n dX6_pass_34 rfl rfl ?_
      obtain ⟨r23002, er23002, h⟩ := bd_s h
      refine kx_callV dX6_pass_35 lk_X6_358 (mM_isClosed hd er23002) rfl kN_rc rfl (Nat.le_of_ble_eq_true rfl) (Nat.le_of_ble_eq_true rfl) (Nat.le_of_ble_eq_true rfl) (Nat.le_of_ble_eq_true rfl) (Nat.le_of_ble_eq_true rfl) (fun _ _ _ h => h.elim) (fun w_ σ_ hq => ?_)
      obtain ⟨rfl, rfl⟩ := hq
      refine kx_if_eq (tgt := 55) dX6_pass_38 (by decide) (fun c => ?_) (fun c => ?_)
      · have h := if_t c h
        refine kx_iinc2 (v := 1) dX6_pass_55 rfl (by decide) ?_
        refine kx_goto (tgt := 23) dX6_pass_58 (by decide) ?_
        exact kx_lwF [(0, .ref m), (1, .int (a1)), (2, .int ((a2 + (1 : Int32))))] ⟨rfl, rfl, rfl, trivial⟩ (kI (r23002.1) (a1) ((a2 + (1 : Int32))) (Option.some.inj h).symm)
      · have h := if_f c h
        refine kx_aload_n dX6_pass_41 rfl rfl ?_
        refine kx_iload_n dX6_pass_42 rfl rfl ?_
        obtain ⟨r23003, er23003, h⟩ := bd_s h
        refine kx_callV dX6_pass_43 lk_X6_431 (mM_passBranch hd er23003) rfl kN_rc rfl (Nat.le_of_ble_eq_true rfl) (Nat.le_of_ble_eq_true rfl) (Nat.le_of_ble_eq_true rfl) (Nat.le_of_ble_eq_true rfl) (Nat.le_of_ble_eq_true rfl) (fun _ _ _ h => h.elim) (fun w_ σ_ hq => ?_)
        obtain ⟨rfl, rfl⟩ := hq
        refine kx_if_eq (tgt := 55) dX6_pass_46 (by decide) (fun c => ?_) (fun c => ?_)
        · have h := if_t c h
          refine kx_iinc2 (v := 1) dX6_pass_55 rfl (by decide) ?_
          refine kx_goto (tgt := 23) dX6_pass_58 (by decide) ?_
          exact kx_lwF [(0, .ref m), (1, .int (a1)), (2, .int ((a2 + (1 : Int32))))] ⟨rfl, rfl, rfl, trivial⟩ (kI (r23003.1) (a1) ((a2 + (1 : Int32))) (Option.some.inj h).symm)
        · have h := if_f c h
          refine kx_iload_n dX6_pass_49 rfl rfl ?_
          refine kx_iconst (v := 1) dX6_pass_50 (by decide) ?_
          refine kx_iload_n dX6_pass_51 rfl rfl ?_
          refine kx_ishl dX6_pass_52 ?_
          refine kx_ior dX6_pass_53 ?_
          refine kx_istore_n dX6_pass_54 rfl (Nat.le_of_ble_eq_true rfl) ?_
          refine kx_iinc2 (v := 1) dX6_pass_55 rfl (by decide) ?_
          refine kx_goto (tgt := 23) dX6_pass_58 (by decide) ?_
          exact kx_lwF [(0, .ref m), (1, .int ((a1 ||| ((1 : Int32) <<< (a2 &&& 31))))), (2, .int ((a2 + (1 : Int32))))] ⟨rfl, rfl, rfl, trivial⟩ (kI (r23003.1) ((a1 ||| ((1 : Int32) <<< (a2 &&& 31)))) ((a2 + (1 : Int32))) (Option.some.inj h).symm)
set_option maxHeartbeats 4000000 in
theorem mM_pass {G : KG} {τ : KHp} {m : Nat} {ad : Nat → Nat} {s : TS}  {z : TS × Int32} (hd : Md m ad) (h : P_pass s  = some z) : kx_c G yX6_pass (ws_ yX6_pass cX6_pass 3 (Option.some Jvm.ClassFile.FieldType.int)) 7 0 0 [.ref m] (MP τ m ad s) (fun rv σ' => rv = some (.int z.2) ∧ σ' = MP τ m ad z.1) kx_n := by
  refine kx_mk3 (ini := false) rfl (Nat.le_of_ble_eq_true rfl) (fun h => by cases h) (fun Q X hQ hX => ?_)
  unfold P_pass at h
  refine kx_aload_n dX6_pass_0 rfl rfl ?_
  refine kx_getf dX6_pass_1 fl_X6_17_X6 kN_m rfl ?_
  refine kx_bipush (v := 8) dX6_pass_4 (by decide) ?_
  refine kx_dup2_11 dX6_pass_6 rfl rfl ?_
  refine kN_ald hd dX6_pass_7 h (fun v1 ev1 h => ?_)
  refine kx_iconst (v := 1) dX6_pass_8 (by decide) ?_
  refine kx_iadd dX6_pass_9 ?_
  refine kN_ast hd dX6_pass_10 h (fun s2 es2 h => ?_)
  refine kx_aload_n dX6_pass_11 rfl rfl ?_
  obtain ⟨r3, er3, h⟩ := bd_s h
  refine kx_callV dX6_pass_12 lk_X6_425 (mM_doSwitches hd er3) rfl kN_rc rfl (Nat.le_of_ble_eq_true rfl) (Nat.le_of_ble_eq_true rfl) (Nat.le_of_ble_eq_true rfl) (Nat.le_of_ble_eq_true rfl) (Nat.le_of_ble_eq_true rfl) (fun _ _ _ h => h.elim) (fun w_ σ_ hq => ?_)
  obtain ⟨rfl, rfl⟩ := hq
  refine kx_aload_n dX6_pass_15 rfl rfl ?_
  obtain ⟨r4, er4, h⟩ := bd_s h
  refine kx_callV dX6_pass_16 lk_X6_428 (mM_drawArcs hd er4) rfl kN_rc rfl (Nat.le_of_ble_eq_true rfl) (Nat.le_of_ble_eq_true rfl) (Nat.le_of_ble_eq_true rfl) (Nat.le_of_ble_eq_true rfl) (Nat.le_of_ble_eq_true rfl) (fun _ _ _ h => h.elim) (fun w_ σ_ hq => ?_)
  obtain ⟨rfl, rfl⟩ := hq
  refine kx_iconst (v := 0) dX6_pass_19 (by decide) ?_
  refine kx_istore_n dX6_pass_20 rfl (Nat.le_of_ble_eq_true rfl) ?_
  refine kx_iconst (v := 0) dX6_pass_21 (by decide) ?_
  refine kx_istore_n dX6_pass_22 rfl (Nat.le_of_ble_eq_true rfl) ?_
  obtain ⟨b5, eb5, h⟩ := bd_s h
  refine kx_lwF [(0, .ref m), (1, .int ((0 : Int32))), (2, .int ((0 : Int32)))] ⟨rfl, rfl, rfl, trivial⟩ (mL_pass_23 hd (a0 := (r4, (0 : Int32), (0 : Int32))) eb5 ?_)
  refine kx_iload_n dX6_pass_61 rfl rfl ?_
  exact kx_iret dX6_pass_62 rfl (hQ _ _ (rtI (Option.some.inj h)))
set_option maxHeartbeats 4000000 in
theorem mL_tripAfter_2 {G : KG} {τ : KHp} {m : Nat} {ad : Nat → Nat} {Q : KQ} {X : KX} {y1 : Int32} {y2 : Int32} {a0 : TS × Int32} {z : TS × Int32} (hd : Md m ad) (h : loopN (fun w : TS × Int32 => B_tripAfter_2 y1 y2 w.1 w.2) 9000 a0 = some z) (hQ : ∀ rv σ', (rv = some (.int z.2) ∧ σ' = MP τ m ad z.1) → Q rv σ') : kx G (yX6_tripAfter.cls, cX6_tripAfter, 4, (Option.some Jvm.ClassFile.FieldType.int), false, []) (8, 0, 0, Q, X) 0 0 (MP τ m ad a0.1) 2 (kF [(0, .ref m), (1, .int (y1)), (2, .int (y2)), (3, .int (a0.2))]) [] := by
  refine loopK_1_T (B := B_tripAfter_2 y1 y2) (fun (a : TS) (a3 : Int32) => kx G (yX6_tripAfter.cls, cX6_tripAfter, 4, (Option.some Jvm.ClassFile.FieldType.int), false, []) (8, 0, 0, Q, X) 0 0 (MP τ m ad a) 2 (kF [(0, .ref m), (1, .int (y1)), (2, .int (y2)), (3, .int (a3))]) []) (fun b => b = z) (fun a a3 r h kI kE => ?_) _ _ _ h rfl
  · unfold B_tripAfter_2 at h
    refine kx_iload_n dX6_tripAfter_2 rfl rfl ?_
    refine kx_iload_n dX6_tripAfter_3 rfl rfl ?_
    refine kx_icmp_gt (tgt := 27) dX6_tripAfter_4 (by decide) (fun c => ?_) (fun c => ?_)
    · have h := if_t c h
      refine kx_iconst (v := -1) dX6_tripAfter_27 (by decide) ?_
      exact kx_iret dX6_tripAfter_28 rfl (hQ _ _ (rtI (kE _ (Option.some.inj h).symm)))
    · have h := if_f c h
      refine kx_aload_n dX6_tripAfter_7 rfl rfl ?_
      obtain ⟨r2001, er2001, h⟩ := bd_s h
      refine kx_callV dX6_tripAfter_8 lk_X6_437 (mM_pass hd er2001) rfl kN_rc rfl (Nat.le_of_ble_eq_true rfl) (Nat.le_of_ble_eq_true rfl) (Nat.le_of_ble_eq_true rfl) (Nat.le_of_ble_eq_true rfl) (Nat.le_of_ble_eq_true rfl) (fun _ _ _ h => h.elim) (fun w_ σ_ hq => ?_)
      obtain ⟨rfl, rfl⟩ := hq
      refine kx_iload_n dX6_tripAfter_11 rfl rfl ?_
      refine kx_ishr dX6_tripAfter_12 ?_
      refine kx_iconst (v := 1) dX6_tripAfter_13 (by decide) ?_
      refine kx_iand dX6_tripAfter_14 ?_
      refine kx_iconst (v := 1) dX6_tripAfter_15 (by decide) ?_
      refine kx_icmp_ne (tgt := 21) dX6_tripAfter_16 (by decide) (fun c => ?_) (fun c => ?_)
      · have h := if_f c h
        refine kx_iinc2 (v := 1) dX6_tripAfter_21 rfl (by decide) ?_
        refine kx_goto (tgt := 2) dX6_tripAfter_24 (by decide) ?_
        exact kx_lwF [(0, .ref m), (1, .int (y1)), (2, .int (y2)), (3, .int ((a3 + (1 : Int32))))] ⟨rfl, rfl, rfl, rfl, trivial⟩ (kI (r2001.1) ((a3 + (1 : Int32))) (Option.some.inj h).symm)
      · have h := if_t c h
        refine kx_iload_n dX6_tripAfter_19 rfl rfl ?_
        exact kx_iret dX6_tripAfter_20 rfl (hQ _ _ (rtI (kE _ (Option.some.inj h).symm)))
set_option maxHeartbeats 4000000 in
theorem mM_tripAfter {G : KG} {τ : KHp} {m : Nat} {ad : Nat → Nat} {s : TS} {x1 : Int32} {x2 : Int32} {z : TS × Int32} (hd : Md m ad) (h : P_tripAfter s x1 x2 = some z) : kx_c G yX6_tripAfter (ws_ yX6_tripAfter cX6_tripAfter 4 (Option.some Jvm.ClassFile.FieldType.int)) 8 0 0 [.ref m, .int (x1), .int (x2)] (MP τ m ad s) (fun rv σ' => rv = some (.int z.2) ∧ σ' = MP τ m ad z.1) kx_n := by
  refine kx_mk3 (ini := false) rfl (Nat.le_of_ble_eq_true rfl) (fun h => by cases h) (fun Q X hQ hX => ?_)
  unfold P_tripAfter at h
  refine kx_iconst (v := 1) dX6_tripAfter_0 (by decide) ?_
  refine kx_istore_n dX6_tripAfter_1 rfl (Nat.le_of_ble_eq_true rfl) ?_
  exact kx_lwF [(0, .ref m), (1, .int (x1)), (2, .int (x2)), (3, .int ((1 : Int32)))] ⟨rfl, rfl, rfl, rfl, trivial⟩ (mL_tripAfter_2 hd (a0 := (s, (1 : Int32))) h hQ)
set_option maxHeartbeats 4000000 in
theorem mL_tripping_26 {G : KG} {τ : KHp} {m : Nat} {ad : Nat → Nat} {Q : KQ} {X : KX} {y1 : Int32} {a0 : TS × Int32 × Int32} {z : TS × Int32} (hd : Md m ad) (h : loopN (fun w : TS × Int32 × Int32 => B_tripping_26 y1 w.1 w.2.1 w.2.2) 9000 a0 = some z) (kk : kx G (yX6_tripping.cls, cX6_tripping, 4, (Option.some Jvm.ClassFile.FieldType.int), false, []) (8, 0, 0, Q, X) 0 0 (MP τ m ad z.1) 44 (kF [(0, .ref m), (2, .int (z.2))]) []) : kx G (yX6_tripping.cls, cX6_tripping, 4, (Option.some Jvm.ClassFile.FieldType.int), false, []) (8, 0, 0, Q, X) 0 0 (MP τ m ad a0.1) 26 (kF [(0, .ref m), (1, .int (y1)), (2, .int (a0.2.1)), (3, .int (a0.2.2))]) [] := by
  refine loopK_2_1 (B := B_tripping_26 y1) (fun (a : TS) (a2 : Int32) (a3 : Int32) => kx G (yX6_tripping.cls, cX6_tripping, 4, (Option.some Jvm.ClassFile.FieldType.int), false, []) (8, 0, 0, Q, X) 0 0 (MP τ m ad a) 26 (kF [(0, .ref m), (1, .int (y1)), (2, .int (a2)), (3, .int (a3))]) []) (fun (b : TS) (b2 : Int32) => kx G (yX6_tripping.cls, cX6_tripping, 4, (Option.some Jvm.ClassFile.FieldType.int), false, []) (8, 0, 0, Q, X) 0 0 (MP τ m ad b) 44 (kF [(0, .ref m), (2, .int (b2))]) []) (fun a a2 a3 r h kI kE => ?_) _ _ _ h kk
  · unfold B_tripping_26 at h
    refine kx_iload_n dX6_tripping_26 rfl rfl ?_
    refine kx_iload_n dX6_tripping_27 rfl rfl ?_
    refine kx_icmp_ge (tgt := 44) dX6_tripping_28 (by decide) (fun c => ?_) (fun c => ?_)
    · have h := if_t c h
      exact kx_lwF [(0, .ref m), (2, .int (a2))] ⟨rfl, rfl, trivial⟩ (kE (a) (a2) (Option.some.inj h).symm)
    · have h := if_f c h
      refine kx_iload_n dX6_tripping_31 rfl rfl ?_
      refine kx_aload_n dX6_tripping_32 rfl rfl ?_
      obtain ⟨r26001, er26001, h⟩ := bd_s h
      refine kx_callV dX6_tripping_33 lk_X6_437 (mM_pass hd er26001) rfl kN_rc rfl (Nat.le_of_ble_eq_true rfl) (Nat.le_of_ble_eq_true rfl) (Nat.le_of_ble_eq_true rfl) (Nat.le_of_ble_eq_true rfl) (Nat.le_of_ble_eq_true rfl) (fun _ _ _ h => h.elim) (fun w_ σ_ hq => ?_)
      obtain ⟨rfl, rfl⟩ := hq
      refine kx_ior dX6_tripping_36 ?_
      refine kx_istore_n dX6_tripping_37 rfl (Nat.le_of_ble_eq_true rfl) ?_
      refine kx_iinc2 (v := 1) dX6_tripping_38 rfl (by decide) ?_
      refine kx_goto (tgt := 26) dX6_tripping_41 (by decide) ?_
      exact kx_lwF [(0, .ref m), (1, .int (y1)), (2, .int ((a2 ||| r26001.2))), (3, .int ((a3 + (1 : Int32))))] ⟨rfl, rfl, rfl, rfl, trivial⟩ (kI (r26001.1) ((a2 ||| r26001.2)) ((a3 + (1 : Int32))) (Option.some.inj h).symm)
set_option maxHeartbeats 4000000 in
theorem mM_tripping {G : KG} {τ : KHp} {m : Nat} {ad : Nat → Nat} {s : TS} {x1 : Int32} {z : TS × Int32} (hd : Md m ad) (h : P_tripping s x1 = some z) : kx_c G yX6_tripping (ws_ yX6_tripping cX6_tripping 4 (Option.some Jvm.ClassFile.FieldType.int)) 8 0 0 [.ref m, .int (x1)] (MP τ m ad s) (fun rv σ' => rv = some (.int z.2) ∧ σ' = MP τ m ad z.1) kx_n := by
  refine kx_mk3 (ini := false) rfl (Nat.le_of_ble_eq_true rfl) (fun h => by cases h) (fun Q X hQ hX => ?_)
  unfold P_tripping at h
  refine kx_aload_n dX6_tripping_0 rfl rfl ?_
  refine kx_iload_n dX6_tripping_1 rfl rfl ?_
  refine kx_i2l dX6_tripping_2 rfl ?_
  refine kx_lconst (v := 1) dX6_tripping_3 (by decide) ?_
  refine kx_ldc2 dX6_tripping_4 q3141 ?_
  obtain ⟨r1, er1, h⟩ := bd_s h
  refine kx_callS dX6_tripping_7 lk_X6_66 (mM_in hd er1) rfl rfl (Nat.le_of_ble_eq_true rfl) (Nat.le_of_ble_eq_true rfl) (Nat.le_of_ble_eq_true rfl) (Nat.le_of_ble_eq_true rfl) (Nat.le_of_ble_eq_true rfl) (fun _ _ _ h => h.elim) (fun w_ σ_ hq => ?_)
  obtain ⟨rfl, rfl⟩ := hq
  obtain ⟨r2, er2, h⟩ := bd_s h
  refine kx_callV dX6_tripping_10 lk_X6_77 (mM_passes hd er2) rfl kN_rc rfl (Nat.le_of_ble_eq_true rfl) (Nat.le_of_ble_eq_true rfl) (Nat.le_of_ble_eq_true rfl) (Nat.le_of_ble_eq_true rfl) (Nat.le_of_ble_eq_true rfl) (fun _ _ _ h => h.elim) (fun w_ σ_ hq => ?_)
  obtain ⟨rfl, rfl⟩ := hq
  refine kx_if_ne (tgt := 18) dX6_tripping_13 (by decide) (fun c => ?_) (fun c => ?_)
  · have h := if_f c h
    refine kx_aload_n dX6_tripping_18 rfl rfl ?_
    obtain ⟨r3, er3, h⟩ := bd_s h
    refine kx_callV dX6_tripping_19 lk_X6_474 (mM_beginThought hd er3) rfl kN_rc rfl (Nat.le_of_ble_eq_true rfl) (Nat.le_of_ble_eq_true rfl) (Nat.le_of_ble_eq_true rfl) (Nat.le_of_ble_eq_true rfl) (Nat.le_of_ble_eq_true rfl) (fun _ _ _ h => h.elim) (fun w_ σ_ hq => ?_)
    obtain ⟨rfl, rfl⟩ := hq
    refine kx_iconst (v := 0) dX6_tripping_22 (by decide) ?_
    refine kx_istore_n dX6_tripping_23 rfl (Nat.le_of_ble_eq_true rfl) ?_
    refine kx_iconst (v := 0) dX6_tripping_24 (by decide) ?_
    refine kx_istore_n dX6_tripping_25 rfl (Nat.le_of_ble_eq_true rfl) ?_
    obtain ⟨b4, eb4, h⟩ := bd_s h
    refine kx_lwF [(0, .ref m), (1, .int (x1)), (2, .int ((0 : Int32))), (3, .int ((0 : Int32)))] ⟨rfl, rfl, rfl, rfl, trivial⟩ (mL_tripping_26 hd (a0 := (r3, (0 : Int32), (0 : Int32))) eb4 ?_)
    refine kx_aload_n dX6_tripping_44 rfl rfl ?_
    obtain ⟨r5, er5, h⟩ := bd_s h
    refine kx_callV dX6_tripping_45 lk_X6_480 (mM_endThought hd er5) rfl kN_rc rfl (Nat.le_of_ble_eq_true rfl) (Nat.le_of_ble_eq_true rfl) (Nat.le_of_ble_eq_true rfl) (Nat.le_of_ble_eq_true rfl) (Nat.le_of_ble_eq_true rfl) (fun _ _ _ h => h.elim) (fun w_ σ_ hq => ?_)
    obtain ⟨rfl, rfl⟩ := hq
    refine kx_iload_n dX6_tripping_48 rfl rfl ?_
    exact kx_iret dX6_tripping_49 rfl (hQ _ _ (rtI (Option.some.inj h)))
  · have h := if_t c h
    refine kx_iconst (v := 0) dX6_tripping_16 (by decide) ?_
    exact kx_iret dX6_tripping_17 rfl (hQ _ _ (rtI (Option.some.inj h)))
set_option maxHeartbeats 4000000 in
theorem mL_featureAfter_55 {G : KG} {τ : KHp} {m : Nat} {ad : Nat → Nat} {Q : KQ} {X : KX} {y1 : Int32} {y2 : Int32} {y3 : Int32} {y4 : Int32} {a0 : TS × Int32 × Int32} {z : TS} (hd : Md m ad) (h : loopN (fun w : TS × Int32 × Int32 => B_featureAfter_55 y1 y2 y3 y4 w.1 w.2.1 w.2.2) 9000 a0 = some z) (kk : kx G (yX6_featureAfter.cls, cX6_featureAfter, 9, (Option.some Jvm.ClassFile.FieldType.float), false, []) (8, 0, 0, Q, X) 0 0 (MP τ m ad z) 76 (kF [(0, .ref m), (1, .int (y1)), (2, .int (y2)), (3, .int (y3)), (4, .int (y4))]) []) : kx G (yX6_featureAfter.cls, cX6_featureAfter, 9, (Option.some Jvm.ClassFile.FieldType.float), false, []) (8, 0, 0, Q, X) 0 0 (MP τ m ad a0.1) 55 (kF [(0, .ref m), (1, .int (y1)), (2, .int (y2)), (3, .int (y3)), (4, .int (y4)), (7, .int (a0.2.1)), (8, .int (a0.2.2))]) [] := by
  refine loopK_2_0 (B := B_featureAfter_55 y1 y2 y3 y4) (fun (a : TS) (a7 : Int32) (a8 : Int32) => kx G (yX6_featureAfter.cls, cX6_featureAfter, 9, (Option.some Jvm.ClassFile.FieldType.float), false, []) (8, 0, 0, Q, X) 0 0 (MP τ m ad a) 55 (kF [(0, .ref m), (1, .int (y1)), (2, .int (y2)), (3, .int (y3)), (4, .int (y4)), (7, .int (a7)), (8, .int (a8))]) []) (fun (b : TS) => kx G (yX6_featureAfter.cls, cX6_featureAfter, 9, (Option.some Jvm.ClassFile.FieldType.float), false, []) (8, 0, 0, Q, X) 0 0 (MP τ m ad b) 76 (kF [(0, .ref m), (1, .int (y1)), (2, .int (y2)), (3, .int (y3)), (4, .int (y4))]) []) (fun a a7 a8 r h kI kE => ?_) _ _ _ h kk
  · unfold B_featureAfter_55 at h
    refine kx_iload dX6_featureAfter_55 rfl ?_
    refine kx_iload_n dX6_featureAfter_57 rfl rfl ?_
    refine kx_icmp_ge (tgt := 76) dX6_featureAfter_58 (by decide) (fun c => ?_) (fun c => ?_)
    · have h := if_t c h
      exact kx_lwF [(0, .ref m), (1, .int (y1)), (2, .int (y2)), (3, .int (y3)), (4, .int (y4))] ⟨rfl, rfl, rfl, rfl, rfl, trivial⟩ (kE (a) (Option.some.inj h).symm)
    · have h := if_f c h
      refine kx_iload dX6_featureAfter_61 rfl ?_
      refine kx_aload_n dX6_featureAfter_63 rfl rfl ?_
      obtain ⟨r55001, er55001, h⟩ := bd_s h
      refine kx_callV dX6_featureAfter_64 lk_X6_437 (mM_pass hd er55001) rfl kN_rc rfl (Nat.le_of_ble_eq_true rfl) (Nat.le_of_ble_eq_true rfl) (Nat.le_of_ble_eq_true rfl) (Nat.le_of_ble_eq_true rfl) (Nat.le_of_ble_eq_true rfl) (fun _ _ _ h => h.elim) (fun w_ σ_ hq => ?_)
      obtain ⟨rfl, rfl⟩ := hq
      refine kx_ior dX6_featureAfter_67 ?_
      refine kx_istore dX6_featureAfter_68 (Nat.le_of_ble_eq_true rfl) ?_
      refine kx_iinc2 (v := 1) dX6_featureAfter_70 rfl (by decide) ?_
      refine kx_goto (tgt := 55) dX6_featureAfter_73 (by decide) ?_
      exact kx_lwF [(0, .ref m), (1, .int (y1)), (2, .int (y2)), (3, .int (y3)), (4, .int (y4)), (7, .int ((a7 ||| r55001.2))), (8, .int ((a8 + (1 : Int32))))] ⟨rfl, rfl, rfl, rfl, rfl, rfl, rfl, trivial⟩ (kI (r55001.1) ((a7 ||| r55001.2)) ((a8 + (1 : Int32))) (Option.some.inj h).symm)
set_option maxHeartbeats 4000000 in
theorem mM_featureAfter {G : KG} {τ : KHp} {m : Nat} {ad : Nat → Nat} {s : TS} {x1 : Int32} {x2 : Int32} {x3 : Int32} {z : TS × UInt32} (hd : Md m ad) (h : P_featureAfter s x1 x2 x3 = some z) : kx_c G yX6_featureAfter (ws_ yX6_featureAfter cX6_featureAfter 9 (Option.some Jvm.ClassFile.FieldType.float)) 8 0 0 [.ref m, .int (x1), .int (x2), .int (x3)] (MP τ m ad s) (fun rv σ' => rv = some (.float z.2) ∧ σ' = MP τ m ad z.1) kx_n := by
  refine kx_mk3 (ini := false) rfl (Nat.le_of_ble_eq_true rfl) (fun h => by cases h) (fun Q X hQ hX => ?_)
  unfold P_featureAfter at h
  refine kx_aload_n dX6_featureAfter_0 rfl rfl ?_
  refine kx_iload_n dX6_featureAfter_1 rfl rfl ?_
  obtain ⟨r1, er1, h⟩ := bd_s h
  refine kx_callV dX6_featureAfter_2 lk_X6_329 (mM_isBranch hd er1) rfl kN_rc rfl (Nat.le_of_ble_eq_true rfl) (Nat.le_of_ble_eq_true rfl) (Nat.le_of_ble_eq_true rfl) (Nat.le_of_ble_eq_true rfl) (Nat.le_of_ble_eq_true rfl) (fun _ _ _ h => h.elim) (fun w_ σ_ hq => ?_)
  obtain ⟨rfl, rfl⟩ := hq
  obtain ⟨r2, er2, h⟩ := bd_s h
  refine kN_j (MP τ m ad r2.1) 32 [.int (r2.2)] ?_ (fun jr2 => ?_)
  · skip
    refine kx_istore dX6_featureAfter_32 (Nat.le_of_ble_eq_true rfl) ?_
    refine kx_fconst0 dX6_featureAfter_34 ?_
    refine kx_fstore dX6_featureAfter_35 (Nat.le_of_ble_eq_true rfl) ?_
    refine kx_iconst (v := 0) dX6_featureAfter_37 (by decide) ?_
    refine kx_istore dX6_featureAfter_38 (Nat.le_of_ble_eq_true rfl) ?_
    refine kx_iload dX6_featureAfter_40 rfl ?_
    refine kx_if_eq (tgt := 95) dX6_featureAfter_42 (by decide) (fun c => ?_) (fun c => ?_)
    · have h := if_t c h
      refine kx_aload_n dX6_featureAfter_95 rfl rfl ?_
      refine kx_aload_n dX6_featureAfter_96 rfl rfl ?_
      refine kx_iload_n dX6_featureAfter_97 rfl rfl ?_
      obtain ⟨r5, er5, h⟩ := bd_s h
      refine kx_callV dX6_featureAfter_98 lk_X6_329 (mM_isBranch hd er5) rfl kN_rc rfl (Nat.le_of_ble_eq_true rfl) (Nat.le_of_ble_eq_true rfl) (Nat.le_of_ble_eq_true rfl) (Nat.le_of_ble_eq_true rfl) (Nat.le_of_ble_eq_true rfl) (fun _ _ _ h => h.elim) (fun w_ σ_ hq => ?_)
      obtain ⟨rfl, rfl⟩ := hq
      refine kx_iload_n dX6_featureAfter_101 rfl rfl ?_
      obtain ⟨r6, er6, h⟩ := bd_s h
      refine kx_callS dX6_featureAfter_102 lk_X6_448 (mM_isFeature hd er6) rfl rfl (Nat.le_of_ble_eq_true rfl) (Nat.le_of_ble_eq_true rfl) (Nat.le_of_ble_eq_true rfl) (Nat.le_of_ble_eq_true rfl) (Nat.le_of_ble_eq_true rfl) (fun _ _ _ h => h.elim) (fun w_ σ_ hq => ?_)
      obtain ⟨rfl, rfl⟩ := hq
      obtain ⟨r7, er7, h⟩ := bd_s h
      refine kN_j (MP τ m ad r7.1) 125 [.int (r7.2), .int (r5.2), .ref m] ?_ (fun jr7 => ?_)
      · skip
        refine kx_iload dX6_featureAfter_125 rfl ?_
        obtain ⟨r9, er9, h⟩ := bd_s h
        refine kN_j (MP τ m ad r9.1) 140 [.int (r9.2), .int (r7.2), .int (r5.2), .ref m] ?_ (fun jr9 => ?_)
        · skip
          obtain ⟨r10, er10, h⟩ := bd_s h
          refine kx_callV dX6_featureAfter_140 lk_X6_347 (mM_passes3 hd er10) rfl kN_rc rfl (Nat.le_of_ble_eq_true rfl) (Nat.le_of_ble_eq_true rfl) (Nat.le_of_ble_eq_true rfl) (Nat.le_of_ble_eq_true rfl) (Nat.le_of_ble_eq_true rfl) (fun _ _ _ h => h.elim) (fun w_ σ_ hq => ?_)
          obtain ⟨rfl, rfl⟩ := hq
          obtain ⟨r11, er11, h⟩ := bd_s h
          refine kN_j (MP τ m ad r11.1) 152 [.float (r11.2)] ?_ (fun jr11 => ?_)
          · skip
            exact kx_fret dX6_featureAfter_152 rfl (hQ _ _ (rtF (Option.some.inj h)))
          · have h := er11
            refine kx_if_eq (tgt := 151) dX6_featureAfter_143 (by decide) (fun c => ?_) (fun c => ?_)
            · have h := if_t c h
              refine kx_fconst0 dX6_featureAfter_151 ?_
              exact jnF h jr11
            · have h := if_f c h
              refine kx_fload dX6_featureAfter_146 rfl ?_
              refine kx_goto (tgt := 152) dX6_featureAfter_148 (by decide) ?_
              exact jnF h jr11
        · have h := er9
          refine kx_if_eq (tgt := 135) dX6_featureAfter_127 (by decide) (fun c => ?_) (fun c => ?_)
          · have h := if_t c h
            refine kx_iconst (v := 1) dX6_featureAfter_135 (by decide) ?_
            refine kx_goto (tgt := 140) dX6_featureAfter_136 (by decide) ?_
            exact jnI h jr9
          · have h := if_f c h
            refine kx_iload dX6_featureAfter_130 rfl ?_
            refine kx_if_eq (tgt := 139) dX6_featureAfter_132 (by decide) (fun c => ?_) (fun c => ?_)
            · have h := if_t c h
              refine kx_iconst (v := 0) dX6_featureAfter_139 (by decide) ?_
              exact jnI h jr9
            · have h := if_f c h
              refine kx_iconst (v := 1) dX6_featureAfter_135 (by decide) ?_
              refine kx_goto (tgt := 140) dX6_featureAfter_136 (by decide) ?_
              exact jnI h jr9
      · have h := er7
        refine kx_if_eq (tgt := 124) dX6_featureAfter_105 (by decide) (fun c => ?_) (fun c => ?_)
        · have h := if_t c h
          refine kx_iconst (v := 0) dX6_featureAfter_124 (by decide) ?_
          exact jnI h jr7
        · have h := if_f c h
          refine kx_iload_n dX6_featureAfter_108 rfl rfl ?_
          refine kx_i2l dX6_featureAfter_109 rfl ?_
          refine kx_lconst (v := 1) dX6_featureAfter_110 (by decide) ?_
          refine kx_ldc2 dX6_featureAfter_111 q3141 ?_
          obtain ⟨r8, er8, h⟩ := bd_s h
          refine kx_callS dX6_featureAfter_114 lk_X6_66 (mM_in hd er8) rfl rfl (Nat.le_of_ble_eq_true rfl) (Nat.le_of_ble_eq_true rfl) (Nat.le_of_ble_eq_true rfl) (Nat.le_of_ble_eq_true rfl) (Nat.le_of_ble_eq_true rfl) (fun _ _ _ h => h.elim) (fun w_ σ_ hq => ?_)
          obtain ⟨rfl, rfl⟩ := hq
          refine kx_if_eq (tgt := 124) dX6_featureAfter_117 (by decide) (fun c => ?_) (fun c => ?_)
          · have h := if_t c h
            refine kx_iconst (v := 0) dX6_featureAfter_124 (by decide) ?_
            exact jnI h jr7
          · have h := if_f c h
            refine kx_iconst (v := 1) dX6_featureAfter_120 (by decide) ?_
            refine kx_goto (tgt := 125) dX6_featureAfter_121 (by decide) ?_
            exact jnI h jr7
    · have h := if_f c h
      refine kx_aload_n dX6_featureAfter_45 rfl rfl ?_
      obtain ⟨r12, er12, h⟩ := bd_s h
      refine kx_callV dX6_featureAfter_46 lk_X6_474 (mM_beginThought hd er12) rfl kN_rc rfl (Nat.le_of_ble_eq_true rfl) (Nat.le_of_ble_eq_true rfl) (Nat.le_of_ble_eq_true rfl) (Nat.le_of_ble_eq_true rfl) (Nat.le_of_ble_eq_true rfl) (fun _ _ _ h => h.elim) (fun w_ σ_ hq => ?_)
      obtain ⟨rfl, rfl⟩ := hq
      refine kx_iconst (v := 0) dX6_featureAfter_49 (by decide) ?_
      refine kx_istore dX6_featureAfter_50 (Nat.le_of_ble_eq_true rfl) ?_
      refine kx_iconst (v := 0) dX6_featureAfter_52 (by decide) ?_
      refine kx_istore dX6_featureAfter_53 (Nat.le_of_ble_eq_true rfl) ?_
      obtain ⟨b13, eb13, h⟩ := bd_s h
      refine kx_lwF [(0, .ref m), (1, .int (x1)), (2, .int (x2)), (3, .int (x3)), (4, .int (r2.2)), (7, .int ((0 : Int32))), (8, .int ((0 : Int32)))] ⟨rfl, rfl, rfl, rfl, rfl, rfl, rfl, trivial⟩ (mL_featureAfter_55 hd (a0 := (r12, (0 : Int32), (0 : Int32))) eb13 ?_)
      refine kx_aload_n dX6_featureAfter_76 rfl rfl ?_
      refine kx_iload_n dX6_featureAfter_77 rfl rfl ?_
      obtain ⟨r14, er14, h⟩ := bd_s h
      refine kx_callV dX6_featureAfter_78 lk_X6_443 (mM_hasHad hd er14) rfl kN_rc rfl (Nat.le_of_ble_eq_true rfl) (Nat.le_of_ble_eq_true rfl) (Nat.le_of_ble_eq_true rfl) (Nat.le_of_ble_eq_true rfl) (Nat.le_of_ble_eq_true rfl) (fun _ _ _ h => h.elim) (fun w_ σ_ hq => ?_)
      obtain ⟨rfl, rfl⟩ := hq
      refine kx_istore dX6_featureAfter_81 (Nat.le_of_ble_eq_true rfl) ?_
      refine kx_aload_n dX6_featureAfter_83 rfl rfl ?_
      refine kx_iload_n dX6_featureAfter_84 rfl rfl ?_
      refine kx_iload_n dX6_featureAfter_85 rfl rfl ?_
      obtain ⟨r15, er15, h⟩ := bd_s h
      refine kx_callV dX6_featureAfter_86 lk_X6_391 (mM_featureOf hd er15) rfl kN_rc rfl (Nat.le_of_ble_eq_true rfl) (Nat.le_of_ble_eq_true rfl) (Nat.le_of_ble_eq_true rfl) (Nat.le_of_ble_eq_true rfl) (Nat.le_of_ble_eq_true rfl) (fun _ _ _ h => h.elim) (fun w_ σ_ hq => ?_)
      obtain ⟨rfl, rfl⟩ := hq
      refine kx_fstore dX6_featureAfter_89 (Nat.le_of_ble_eq_true rfl) ?_
      refine kx_aload_n dX6_featureAfter_91 rfl rfl ?_
      obtain ⟨r16, er16, h⟩ := bd_s h
      refine kx_callV dX6_featureAfter_92 lk_X6_480 (mM_endThought hd er16) rfl kN_rc rfl (Nat.le_of_ble_eq_true rfl) (Nat.le_of_ble_eq_true rfl) (Nat.le_of_ble_eq_true rfl) (Nat.le_of_ble_eq_true rfl) (Nat.le_of_ble_eq_true rfl) (fun _ _ _ h => h.elim) (fun w_ σ_ hq => ?_)
      obtain ⟨rfl, rfl⟩ := hq
      refine kx_aload_n dX6_featureAfter_95 rfl rfl ?_
      refine kx_aload_n dX6_featureAfter_96 rfl rfl ?_
      refine kx_iload_n dX6_featureAfter_97 rfl rfl ?_
      obtain ⟨r17, er17, h⟩ := bd_s h
      refine kx_callV dX6_featureAfter_98 lk_X6_329 (mM_isBranch hd er17) rfl kN_rc rfl (Nat.le_of_ble_eq_true rfl) (Nat.le_of_ble_eq_true rfl) (Nat.le_of_ble_eq_true rfl) (Nat.le_of_ble_eq_true rfl) (Nat.le_of_ble_eq_true rfl) (fun _ _ _ h => h.elim) (fun w_ σ_ hq => ?_)
      obtain ⟨rfl, rfl⟩ := hq
      refine kx_iload_n dX6_featureAfter_101 rfl rfl ?_
      obtain ⟨r18, er18, h⟩ := bd_s h
      refine kx_callS dX6_featureAfter_102 lk_X6_448 (mM_isFeature hd er18) rfl rfl (Nat.le_of_ble_eq_true rfl) (Nat.le_of_ble_eq_true rfl) (Nat.le_of_ble_eq_true rfl) (Nat.le_of_ble_eq_true rfl) (Nat.le_of_ble_eq_true rfl) (fun _ _ _ h => h.elim) (fun w_ σ_ hq => ?_)
      obtain ⟨rfl, rfl⟩ := hq
      obtain ⟨r19, er19, h⟩ := bd_s h
      refine kN_j (MP τ m ad r19.1) 125 [.int (r19.2), .int (r17.2), .ref m] ?_ (fun jr19 => ?_)
      · skip
        refine kx_iload dX6_featureAfter_125 rfl ?_
        obtain ⟨r21, er21, h⟩ := bd_s h
        refine kN_j (MP τ m ad r21.1) 140 [.int (r21.2), .int (r19.2), .int (r17.2), .ref m] ?_ (fun jr21 => ?_)
        · skip
          obtain ⟨r22, er22, h⟩ := bd_s h
          refine kx_callV dX6_featureAfter_140 lk_X6_347 (mM_passes3 hd er22) rfl kN_rc rfl (Nat.le_of_ble_eq_true rfl) (Nat.le_of_ble_eq_true rfl) (Nat.le_of_ble_eq_true rfl) (Nat.le_of_ble_eq_true rfl) (Nat.le_of_ble_eq_true rfl) (fun _ _ _ h => h.elim) (fun w_ σ_ hq => ?_)
          obtain ⟨rfl, rfl⟩ := hq
          obtain ⟨r23, er23, h⟩ := bd_s h
          refine kN_j (MP τ m ad r23.1) 152 [.float (r23.2)] ?_ (fun jr23 => ?_)
          · skip
            exact kx_fret dX6_featureAfter_152 rfl (hQ _ _ (rtF (Option.some.inj h)))
          · have h := er23
            refine kx_if_eq (tgt := 151) dX6_featureAfter_143 (by decide) (fun c => ?_) (fun c => ?_)
            · have h := if_t c h
              refine kx_fconst0 dX6_featureAfter_151 ?_
              exact jnF h jr23
            · have h := if_f c h
              refine kx_fload dX6_featureAfter_146 rfl ?_
              refine kx_goto (tgt := 152) dX6_featureAfter_148 (by decide) ?_
              exact jnF h jr23
        · have h := er21
          refine kx_if_eq (tgt := 135) dX6_featureAfter_127 (by decide) (fun c => ?_) (fun c => ?_)
          · have h := if_t c h
            refine kx_iconst (v := 1) dX6_featureAfter_135 (by decide) ?_
            refine kx_goto (tgt := 140) dX6_featureAfter_136 (by decide) ?_
            exact jnI h jr21
          · have h := if_f c h
            refine kx_iload dX6_featureAfter_130 rfl ?_
            refine kx_if_eq (tgt := 139) dX6_featureAfter_132 (by decide) (fun c => ?_) (fun c => ?_)
            · have h := if_t c h
              refine kx_iconst (v := 0) dX6_featureAfter_139 (by decide) ?_
              exact jnI h jr21
            · have h := if_f c h
              refine kx_iconst (v := 1) dX6_featureAfter_135 (by decide) ?_
              refine kx_goto (tgt := 140) dX6_featureAfter_136 (by decide) ?_
              exact jnI h jr21
      · have h := er19
        refine kx_if_eq (tgt := 124) dX6_featureAfter_105 (by decide) (fun c => ?_) (fun c => ?_)
        · have h := if_t c h
          refine kx_iconst (v := 0) dX6_featureAfter_124 (by decide) ?_
          exact jnI h jr19
        · have h := if_f c h
          refine kx_iload_n dX6_featureAfter_108 rfl rfl ?_
          refine kx_i2l dX6_featureAfter_109 rfl ?_
          refine kx_lconst (v := 1) dX6_featureAfter_110 (by decide) ?_
          refine kx_ldc2 dX6_featureAfter_111 q3141 ?_
          obtain ⟨r20, er20, h⟩ := bd_s h
          refine kx_callS dX6_featureAfter_114 lk_X6_66 (mM_in hd er20) rfl rfl (Nat.le_of_ble_eq_true rfl) (Nat.le_of_ble_eq_true rfl) (Nat.le_of_ble_eq_true rfl) (Nat.le_of_ble_eq_true rfl) (Nat.le_of_ble_eq_true rfl) (fun _ _ _ h => h.elim) (fun w_ σ_ hq => ?_)
          obtain ⟨rfl, rfl⟩ := hq
          refine kx_if_eq (tgt := 124) dX6_featureAfter_117 (by decide) (fun c => ?_) (fun c => ?_)
          · have h := if_t c h
            refine kx_iconst (v := 0) dX6_featureAfter_124 (by decide) ?_
            exact jnI h jr19
          · have h := if_f c h
            refine kx_iconst (v := 1) dX6_featureAfter_120 (by decide) ?_
            refine kx_goto (tgt := 125) dX6_featureAfter_121 (by decide) ?_
            exact jnI h jr19
  · have h := er2
    refine kx_if_eq (tgt := 31) dX6_featureAfter_5 (by decide) (fun c => ?_) (fun c => ?_)
    · have h := if_t c h
      refine kx_iconst (v := 0) dX6_featureAfter_31 (by decide) ?_
      exact jnI h jr2
    · have h := if_f c h
      refine kx_iload_n dX6_featureAfter_8 rfl rfl ?_
      obtain ⟨r3, er3, h⟩ := bd_s h
      refine kx_callS dX6_featureAfter_9 lk_X6_448 (mM_isFeature hd er3) rfl rfl (Nat.le_of_ble_eq_true rfl) (Nat.le_of_ble_eq_true rfl) (Nat.le_of_ble_eq_true rfl) (Nat.le_of_ble_eq_true rfl) (Nat.le_of_ble_eq_true rfl) (fun _ _ _ h => h.elim) (fun w_ σ_ hq => ?_)
      obtain ⟨rfl, rfl⟩ := hq
      refine kx_if_eq (tgt := 31) dX6_featureAfter_12 (by decide) (fun c => ?_) (fun c => ?_)
      · have h := if_t c h
        refine kx_iconst (v := 0) dX6_featureAfter_31 (by decide) ?_
        exact jnI h jr2
      · have h := if_f c h
        refine kx_iload_n dX6_featureAfter_15 rfl rfl ?_
        refine kx_i2l dX6_featureAfter_16 rfl ?_
        refine kx_lconst (v := 1) dX6_featureAfter_17 (by decide) ?_
        refine kx_ldc2 dX6_featureAfter_18 q3141 ?_
        obtain ⟨r4, er4, h⟩ := bd_s h
        refine kx_callS dX6_featureAfter_21 lk_X6_66 (mM_in hd er4) rfl rfl (Nat.le_of_ble_eq_true rfl) (Nat.le_of_ble_eq_true rfl) (Nat.le_of_ble_eq_true rfl) (Nat.le_of_ble_eq_true rfl) (Nat.le_of_ble_eq_true rfl) (fun _ _ _ h => h.elim) (fun w_ σ_ hq => ?_)
        obtain ⟨rfl, rfl⟩ := hq
        refine kx_if_eq (tgt := 31) dX6_featureAfter_24 (by decide) (fun c => ?_) (fun c => ?_)
        · have h := if_t c h
          refine kx_iconst (v := 0) dX6_featureAfter_31 (by decide) ?_
          exact jnI h jr2
        · have h := if_f c h
          refine kx_iconst (v := 1) dX6_featureAfter_27 (by decide) ?_
          refine kx_goto (tgt := 32) dX6_featureAfter_28 (by decide) ?_
          exact jnI h jr2
set_option maxHeartbeats 4000000 in
theorem mL_culprit_55 {G : KG} {τ : KHp} {m : Nat} {ad : Nat → Nat} {Q : KQ} {X : KX} {y1 : Int32} {y3 : Int32} {a0 : TS × Int32 × Int32} {z : TS × Int32} (hd : Md m ad) (h : loopN (fun w : TS × Int32 × Int32 => B_culprit_55 y1 y3 w.1 w.2.1 w.2.2) 9000 a0 = some z) (kk : kx G (yX6_culprit.cls, cX6_culprit, 5, (Option.some Jvm.ClassFile.FieldType.int), false, []) (9, 0, 0, Q, X) 0 0 (MP τ m ad z.1) 136 (kF [(2, .int (z.2))]) []) : kx G (yX6_culprit.cls, cX6_culprit, 5, (Option.some Jvm.ClassFile.FieldType.int), false, []) (9, 0, 0, Q, X) 0 0 (MP τ m ad a0.1) 55 (kF [(0, .ref m), (1, .int (y1)), (2, .int (a0.2.1)), (3, .int (y3)), (4, .int (a0.2.2))]) [] := by
  refine loopK_2_1 (B := B_culprit_55 y1 y3) (fun (a : TS) (a2 : Int32) (a4 : Int32) => kx G (yX6_culprit.cls, cX6_culprit, 5, (Option.some Jvm.ClassFile.FieldType.int), false, []) (9, 0, 0, Q, X) 0 0 (MP τ m ad a) 55 (kF [(0, .ref m), (1, .int (y1)), (2, .int (a2)), (3, .int (y3)), (4, .int (a4))]) []) (fun (b : TS) (b2 : Int32) => kx G (yX6_culprit.cls, cX6_culprit, 5, (Option.some Jvm.ClassFile.FieldType.int), false, []) (9, 0, 0, Q, X) 0 0 (MP τ m ad b) 136 (kF [(2, .int (b2))]) []) (fun a a2 a4 r h kI kE => ?_) _ _ _ h kk
  · unfold B_culprit_55 at h
    refine kx_iload dX6_culprit_55 rfl ?_
    refine kx_aload_n dX6_culprit_57 rfl rfl ?_
    refine kx_getf dX6_culprit_58 fl_X6_17_X6 kN_m rfl ?_
    refine kx_iconst (v := 4) dX6_culprit_61 (by decide) ?_
    refine kN_ald hd dX6_culprit_62 h (fun v55001 ev55001 h => ?_)
    refine kx_icmp_ge (tgt := 136) dX6_culprit_63 (by decide) (fun c => ?_) (fun c => ?_)
    · have h := if_t c h
      exact kx_lwF [(2, .int (a2))] ⟨rfl, trivial⟩ (kE (a) (a2) (Option.some.inj h).symm)
    · have h := if_f c h
      refine kx_iload_n dX6_culprit_66 rfl rfl ?_
      refine kx_if_eq (tgt := 136) dX6_culprit_67 (by decide) (fun c => ?_) (fun c => ?_)
      · have h := if_t c h
        exact kx_lwF [(2, .int (a2))] ⟨rfl, trivial⟩ (kE (a) (a2) (Option.some.inj h).symm)
      · have h := if_f c h
        refine kx_iload_n dX6_culprit_70 rfl rfl ?_
        refine kx_iconst (v := -1) dX6_culprit_71 (by decide) ?_
        refine kx_icmp_ne (tgt := 136) dX6_culprit_72 (by decide) (fun c => ?_) (fun c => ?_)
        · have h := if_f c h
          exact kx_lwF [(2, .int (a2))] ⟨rfl, trivial⟩ (kE (a) (a2) (Option.some.inj h).symm)
        · have h := if_t c h
          refine kx_aload_n dX6_culprit_75 rfl rfl ?_
          refine kx_iload dX6_culprit_76 rfl ?_
          refine kx_iconst (v := 1) dX6_culprit_78 (by decide) ?_
          obtain ⟨r55002, er55002, h⟩ := bd_s h
          refine kx_callV dX6_culprit_79 lk_X6_342 (mM_ofLoad hd er55002) rfl kN_rc rfl (Nat.le_of_ble_eq_true rfl) (Nat.le_of_ble_eq_true rfl) (Nat.le_of_ble_eq_true rfl) (Nat.le_of_ble_eq_true rfl) (Nat.le_of_ble_eq_true rfl) (fun _ _ _ h => h.elim) (fun w_ σ_ hq => ?_)
          obtain ⟨rfl, rfl⟩ := hq
          refine kx_iload_n dX6_culprit_82 rfl rfl ?_
          refine kx_icmp_ne (tgt := 130) dX6_culprit_83 (by decide) (fun c => ?_) (fun c => ?_)
          · have h := if_f c h
            refine kx_iinc2 (v := 1) dX6_culprit_130 rfl (by decide) ?_
            refine kx_goto (tgt := 55) dX6_culprit_133 (by decide) ?_
            exact kx_lwF [(0, .ref m), (1, .int (y1)), (2, .int (a2)), (3, .int (y3)), (4, .int ((a4 + (1 : Int32))))] ⟨rfl, rfl, rfl, rfl, rfl, trivial⟩ (kI (r55002.1) (a2) ((a4 + (1 : Int32))) (Option.some.inj h).symm)
          · have h := if_t c h
            refine kx_aload_n dX6_culprit_86 rfl rfl ?_
            refine kx_iload dX6_culprit_87 rfl ?_
            refine kx_iconst (v := 5) dX6_culprit_89 (by decide) ?_
            obtain ⟨r55003, er55003, h⟩ := bd_s h
            refine kx_callV dX6_culprit_90 lk_X6_342 (mM_ofLoad hd er55003) rfl kN_rc rfl (Nat.le_of_ble_eq_true rfl) (Nat.le_of_ble_eq_true rfl) (Nat.le_of_ble_eq_true rfl) (Nat.le_of_ble_eq_true rfl) (Nat.le_of_ble_eq_true rfl) (fun _ _ _ h => h.elim) (fun w_ σ_ hq => ?_)
            obtain ⟨rfl, rfl⟩ := hq
            refine kx_if_ne (tgt := 99) dX6_culprit_93 (by decide) (fun c => ?_) (fun c => ?_)
            · have h := if_f c h
              refine kx_aload_n dX6_culprit_99 rfl rfl ?_
              refine kx_iload dX6_culprit_100 rfl ?_
              refine kx_iconst (v := 5) dX6_culprit_102 (by decide) ?_
              refine kx_iconst (v := 0) dX6_culprit_103 (by decide) ?_
              obtain ⟨r55004, er55004, h⟩ := bd_s h
              refine kx_callV dX6_culprit_104 lk_X6_274 (mM_setLoad hd er55004) rfl kN_rc rfl (Nat.le_of_ble_eq_true rfl) (Nat.le_of_ble_eq_true rfl) (Nat.le_of_ble_eq_true rfl) (Nat.le_of_ble_eq_true rfl) (Nat.le_of_ble_eq_true rfl) (fun _ _ _ h => h.elim) (fun w_ σ_ hq => ?_)
              obtain ⟨rfl, rfl⟩ := hq
              refine kx_aload_n dX6_culprit_107 rfl rfl ?_
              refine kx_iload_n dX6_culprit_108 rfl rfl ?_
              refine kx_sipush (v := 200) dX6_culprit_109 (by decide) ?_
              obtain ⟨r55005, er55005, h⟩ := bd_s h
              refine kx_callV dX6_culprit_112 lk_X6_477 (mM_tripAfter hd er55005) rfl kN_rc rfl (Nat.le_of_ble_eq_true rfl) (Nat.le_of_ble_eq_true rfl) (Nat.le_of_ble_eq_true rfl) (Nat.le_of_ble_eq_true rfl) (Nat.le_of_ble_eq_true rfl) (fun _ _ _ h => h.elim) (fun w_ σ_ hq => ?_)
              obtain ⟨rfl, rfl⟩ := hq
              refine kx_iconst (v := -1) dX6_culprit_115 (by decide) ?_
              obtain ⟨r55006, er55006, h⟩ := bd_s h
              refine kN_j (MP τ m ad r55006.1) 125 [.int (r55006.2)] ?_ (fun jr55006 => ?_)
              · skip
                refine kx_istore_n dX6_culprit_125 rfl (Nat.le_of_ble_eq_true rfl) ?_
                refine kx_aload_n dX6_culprit_126 rfl rfl ?_
                obtain ⟨r55007, er55007, h⟩ := bd_s h
                refine kx_callV dX6_culprit_127 lk_X6_480 (mM_endThought hd er55007) rfl kN_rc rfl (Nat.le_of_ble_eq_true rfl) (Nat.le_of_ble_eq_true rfl) (Nat.le_of_ble_eq_true rfl) (Nat.le_of_ble_eq_true rfl) (Nat.le_of_ble_eq_true rfl) (fun _ _ _ h => h.elim) (fun w_ σ_ hq => ?_)
                obtain ⟨rfl, rfl⟩ := hq
                refine kx_iinc2 (v := 1) dX6_culprit_130 rfl (by decide) ?_
                refine kx_goto (tgt := 55) dX6_culprit_133 (by decide) ?_
                exact kx_lwF [(0, .ref m), (1, .int (y1)), (2, .int (r55006.2)), (3, .int (y3)), (4, .int ((a4 + (1 : Int32))))] ⟨rfl, rfl, rfl, rfl, rfl, trivial⟩ (kI (r55007) (r55006.2) ((a4 + (1 : Int32))) (Option.some.inj h).symm)
              · have h := er55006
                refine kx_icmp_ne (tgt := 124) dX6_culprit_116 (by decide) (fun c => ?_) (fun c => ?_)
                · have h := if_f c h
                  refine kx_iconst (v := -1) dX6_culprit_124 (by decide) ?_
                  exact jnI h jr55006
                · have h := if_t c h
                  refine kx_iload dX6_culprit_119 rfl ?_
                  refine kx_goto (tgt := 125) dX6_culprit_121 (by decide) ?_
                  exact jnI h jr55006
            · have h := if_t c h
              refine kx_goto (tgt := 130) dX6_culprit_96 (by decide) ?_
              refine kx_iinc2 (v := 1) dX6_culprit_130 rfl (by decide) ?_
              refine kx_goto (tgt := 55) dX6_culprit_133 (by decide) ?_
              exact kx_lwF [(0, .ref m), (1, .int (y1)), (2, .int (a2)), (3, .int (y3)), (4, .int ((a4 + (1 : Int32))))] ⟨rfl, rfl, rfl, rfl, rfl, trivial⟩ (kI (r55003.1) (a2) ((a4 + (1 : Int32))) (Option.some.inj h).symm)
set_option maxHeartbeats 4000000 in
theorem mM_culprit {G : KG} {τ : KHp} {m : Nat} {ad : Nat → Nat} {s : TS} {x1 : Int32} {z : TS × Int32} (hd : Md m ad) (h : P_culprit s x1 = some z) : kx_c G yX6_culprit (ws_ yX6_culprit cX6_culprit 5 (Option.some Jvm.ClassFile.FieldType.int)) 9 0 0 [.ref m, .int (x1)] (MP τ m ad s) (fun rv σ' => rv = some (.int z.2) ∧ σ' = MP τ m ad z.1) kx_n := by
  refine kx_mk3 (ini := false) rfl (Nat.le_of_ble_eq_true rfl) (fun h => by cases h) (fun Q X hQ hX => ?_)
  unfold P_culprit at h
  refine kx_aload_n dX6_culprit_0 rfl rfl ?_
  refine kx_aload_n dX6_culprit_1 rfl rfl ?_
  refine kx_iload_n dX6_culprit_2 rfl rfl ?_
  obtain ⟨r1, er1, h⟩ := bd_s h
  refine kx_callV dX6_culprit_3 lk_X6_329 (mM_isBranch hd er1) rfl kN_rc rfl (Nat.le_of_ble_eq_true rfl) (Nat.le_of_ble_eq_true rfl) (Nat.le_of_ble_eq_true rfl) (Nat.le_of_ble_eq_true rfl) (Nat.le_of_ble_eq_true rfl) (fun _ _ _ h => h.elim) (fun w_ σ_ hq => ?_)
  obtain ⟨rfl, rfl⟩ := hq
  obtain ⟨r2, er2, h⟩ := bd_s h
  refine kx_callV dX6_culprit_6 lk_X6_77 (mM_passes hd er2) rfl kN_rc rfl (Nat.le_of_ble_eq_true rfl) (Nat.le_of_ble_eq_true rfl) (Nat.le_of_ble_eq_true rfl) (Nat.le_of_ble_eq_true rfl) (Nat.le_of_ble_eq_true rfl) (fun _ _ _ h => h.elim) (fun w_ σ_ hq => ?_)
  obtain ⟨rfl, rfl⟩ := hq
  refine kx_if_ne (tgt := 14) dX6_culprit_9 (by decide) (fun c => ?_) (fun c => ?_)
  · have h := if_f c h
    refine kx_aload_n dX6_culprit_14 rfl rfl ?_
    refine kx_iload_n dX6_culprit_15 rfl rfl ?_
    obtain ⟨r3, er3, h⟩ := bd_s h
    refine kx_callV dX6_culprit_16 lk_X6_358 (mM_isClosed hd er3) rfl kN_rc rfl (Nat.le_of_ble_eq_true rfl) (Nat.le_of_ble_eq_true rfl) (Nat.le_of_ble_eq_true rfl) (Nat.le_of_ble_eq_true rfl) (Nat.le_of_ble_eq_true rfl) (fun _ _ _ h => h.elim) (fun w_ σ_ hq => ?_)
    obtain ⟨rfl, rfl⟩ := hq
    refine kx_if_ne (tgt := 24) dX6_culprit_19 (by decide) (fun c => ?_) (fun c => ?_)
    · have h := if_f c h
      refine kx_aload_n dX6_culprit_24 rfl rfl ?_
      obtain ⟨r4, er4, h⟩ := bd_s h
      refine kx_callV dX6_culprit_25 lk_X6_474 (mM_beginThought hd er4) rfl kN_rc rfl (Nat.le_of_ble_eq_true rfl) (Nat.le_of_ble_eq_true rfl) (Nat.le_of_ble_eq_true rfl) (Nat.le_of_ble_eq_true rfl) (Nat.le_of_ble_eq_true rfl) (fun _ _ _ h => h.elim) (fun w_ σ_ hq => ?_)
      obtain ⟨rfl, rfl⟩ := hq
      refine kx_iconst (v := -1) dX6_culprit_28 (by decide) ?_
      refine kx_istore_n dX6_culprit_29 rfl (Nat.le_of_ble_eq_true rfl) ?_
      refine kx_aload_n dX6_culprit_30 rfl rfl ?_
      refine kx_iload_n dX6_culprit_31 rfl rfl ?_
      refine kx_sipush (v := 200) dX6_culprit_32 (by decide) ?_
      obtain ⟨r5, er5, h⟩ := bd_s h
      refine kx_callV dX6_culprit_35 lk_X6_477 (mM_tripAfter hd er5) rfl kN_rc rfl (Nat.le_of_ble_eq_true rfl) (Nat.le_of_ble_eq_true rfl) (Nat.le_of_ble_eq_true rfl) (Nat.le_of_ble_eq_true rfl) (Nat.le_of_ble_eq_true rfl) (fun _ _ _ h => h.elim) (fun w_ σ_ hq => ?_)
      obtain ⟨rfl, rfl⟩ := hq
      refine kx_iconst (v := -1) dX6_culprit_38 (by decide) ?_
      obtain ⟨r6, er6, h⟩ := bd_s h
      refine kN_j (MP τ m ad r6.1) 47 [.int (r6.2)] ?_ (fun jr6 => ?_)
      · skip
        refine kx_istore_n dX6_culprit_47 rfl (Nat.le_of_ble_eq_true rfl) ?_
        refine kx_aload_n dX6_culprit_48 rfl rfl ?_
        obtain ⟨r7, er7, h⟩ := bd_s h
        refine kx_callV dX6_culprit_49 lk_X6_480 (mM_endThought hd er7) rfl kN_rc rfl (Nat.le_of_ble_eq_true rfl) (Nat.le_of_ble_eq_true rfl) (Nat.le_of_ble_eq_true rfl) (Nat.le_of_ble_eq_true rfl) (Nat.le_of_ble_eq_true rfl) (fun _ _ _ h => h.elim) (fun w_ σ_ hq => ?_)
        obtain ⟨rfl, rfl⟩ := hq
        refine kx_iconst (v := 0) dX6_culprit_52 (by decide) ?_
        refine kx_istore dX6_culprit_53 (Nat.le_of_ble_eq_true rfl) ?_
        obtain ⟨b8, eb8, h⟩ := bd_s h
        refine kx_lwF [(0, .ref m), (1, .int (x1)), (2, .int ((-1 : Int32))), (3, .int (r6.2)), (4, .int ((0 : Int32)))] ⟨rfl, rfl, rfl, rfl, rfl, trivial⟩ (mL_culprit_55 hd (a0 := (r7, (-1 : Int32), (0 : Int32))) eb8 ?_)
        refine kx_iload_n dX6_culprit_136 rfl rfl ?_
        exact kx_iret dX6_culprit_137 rfl (hQ _ _ (rtI (Option.some.inj h)))
      · have h := er6
        refine kx_icmp_eq (tgt := 46) dX6_culprit_39 (by decide) (fun c => ?_) (fun c => ?_)
        · have h := if_t c h
          refine kx_iconst (v := 0) dX6_culprit_46 (by decide) ?_
          exact jnI h jr6
        · have h := if_f c h
          refine kx_iconst (v := 1) dX6_culprit_42 (by decide) ?_
          refine kx_goto (tgt := 47) dX6_culprit_43 (by decide) ?_
          exact jnI h jr6
    · have h := if_t c h
      refine kx_iconst (v := -1) dX6_culprit_22 (by decide) ?_
      exact kx_iret dX6_culprit_23 rfl (hQ _ _ (rtI (Option.some.inj h)))
  · have h := if_t c h
    refine kx_iconst (v := 0) dX6_culprit_12 (by decide) ?_
    exact kx_iret dX6_culprit_13 rfl (hQ _ _ (rtI (Option.some.inj h)))
set_option maxHeartbeats 4000000 in
theorem mL_hitsAhead_22 {G : KG} {τ : KHp} {m : Nat} {ad : Nat → Nat} {Q : KQ} {X : KX} {y1 : Int32} {a0 : TS × Int32 × Int32} {z : TS} (hd : Md m ad) (h : loopN (fun w : TS × Int32 × Int32 => B_hitsAhead_22 y1 w.1 w.2.1 w.2.2) 9000 a0 = some z) (kk : kx G (yX6_hitsAhead.cls, cX6_hitsAhead, 4, (Option.some Jvm.ClassFile.FieldType.int), false, []) (8, 0, 0, Q, X) 0 0 (MP τ m ad z) 41 (kF [(0, .ref m), (1, .int (y1))]) []) : kx G (yX6_hitsAhead.cls, cX6_hitsAhead, 4, (Option.some Jvm.ClassFile.FieldType.int), false, []) (8, 0, 0, Q, X) 0 0 (MP τ m ad a0.1) 22 (kF [(0, .ref m), (1, .int (y1)), (2, .int (a0.2.1)), (3, .int (a0.2.2))]) [] := by
  refine loopK_2_0 (B := B_hitsAhead_22 y1) (fun (a : TS) (a2 : Int32) (a3 : Int32) => kx G (yX6_hitsAhead.cls, cX6_hitsAhead, 4, (Option.some Jvm.ClassFile.FieldType.int), false, []) (8, 0, 0, Q, X) 0 0 (MP τ m ad a) 22 (kF [(0, .ref m), (1, .int (y1)), (2, .int (a2)), (3, .int (a3))]) []) (fun (b : TS) => kx G (yX6_hitsAhead.cls, cX6_hitsAhead, 4, (Option.some Jvm.ClassFile.FieldType.int), false, []) (8, 0, 0, Q, X) 0 0 (MP τ m ad b) 41 (kF [(0, .ref m), (1, .int (y1))]) []) (fun a a2 a3 r h kI kE => ?_) _ _ _ h kk
  · unfold B_hitsAhead_22 at h
    refine kx_iload_n dX6_hitsAhead_22 rfl rfl ?_
    refine kx_bipush (v := 100) dX6_hitsAhead_23 (by decide) ?_
    refine kx_icmp_ge (tgt := 41) dX6_hitsAhead_25 (by decide) (fun c => ?_) (fun c => ?_)
    · have h := if_t c h
      exact kx_lwF [(0, .ref m), (1, .int (y1))] ⟨rfl, rfl, trivial⟩ (kE (a) (Option.some.inj h).symm)
    · have h := if_f c h
      refine kx_iload_n dX6_hitsAhead_28 rfl rfl ?_
      refine kx_aload_n dX6_hitsAhead_29 rfl rfl ?_
      obtain ⟨r22001, er22001, h⟩ := bd_s h
      refine kx_callV dX6_hitsAhead_30 lk_X6_437 (mM_pass hd er22001) rfl kN_rc rfl (Nat.le_of_ble_eq_true rfl) (Nat.le_of_ble_eq_true rfl) (Nat.le_of_ble_eq_true rfl) (Nat.le_of_ble_eq_true rfl) (Nat.le_of_ble_eq_true rfl) (fun _ _ _ h => h.elim) (fun w_ σ_ hq => ?_)
      obtain ⟨rfl, rfl⟩ := hq
      refine kx_ior dX6_hitsAhead_33 ?_
      refine kx_istore_n dX6_hitsAhead_34 rfl (Nat.le_of_ble_eq_true rfl) ?_
      refine kx_iinc2 (v := 1) dX6_hitsAhead_35 rfl (by decide) ?_
      refine kx_goto (tgt := 22) dX6_hitsAhead_38 (by decide) ?_
      exact kx_lwF [(0, .ref m), (1, .int (y1)), (2, .int ((a2 ||| r22001.2))), (3, .int ((a3 + (1 : Int32))))] ⟨rfl, rfl, rfl, rfl, trivial⟩ (kI (r22001.1) ((a2 ||| r22001.2)) ((a3 + (1 : Int32))) (Option.some.inj h).symm)
set_option maxHeartbeats 4000000 in
theorem mM_hitsAhead {G : KG} {τ : KHp} {m : Nat} {ad : Nat → Nat} {s : TS} {x1 : Int32} {z : TS × Int32} (hd : Md m ad) (h : P_hitsAhead s x1 = some z) : kx_c G yX6_hitsAhead (ws_ yX6_hitsAhead cX6_hitsAhead 4 (Option.some Jvm.ClassFile.FieldType.int)) 8 0 0 [.ref m, .int (x1)] (MP τ m ad s) (fun rv σ' => rv = some (.int z.2) ∧ σ' = MP τ m ad z.1) kx_n := by
  refine kx_mk3 (ini := false) rfl (Nat.le_of_ble_eq_true rfl) (fun h => by cases h) (fun Q X hQ hX => ?_)
  unfold P_hitsAhead at h
  refine kx_aload_n dX6_hitsAhead_0 rfl rfl ?_
  refine kx_aload_n dX6_hitsAhead_1 rfl rfl ?_
  refine kx_iload_n dX6_hitsAhead_2 rfl rfl ?_
  obtain ⟨r1, er1, h⟩ := bd_s h
  refine kx_callV dX6_hitsAhead_3 lk_X6_456 (mM_isSignature hd er1) rfl kN_rc rfl (Nat.le_of_ble_eq_true rfl) (Nat.le_of_ble_eq_true rfl) (Nat.le_of_ble_eq_true rfl) (Nat.le_of_ble_eq_true rfl) (Nat.le_of_ble_eq_true rfl) (fun _ _ _ h => h.elim) (fun w_ σ_ hq => ?_)
  obtain ⟨rfl, rfl⟩ := hq
  obtain ⟨r2, er2, h⟩ := bd_s h
  refine kx_callV dX6_hitsAhead_6 lk_X6_77 (mM_passes hd er2) rfl kN_rc rfl (Nat.le_of_ble_eq_true rfl) (Nat.le_of_ble_eq_true rfl) (Nat.le_of_ble_eq_true rfl) (Nat.le_of_ble_eq_true rfl) (Nat.le_of_ble_eq_true rfl) (fun _ _ _ h => h.elim) (fun w_ σ_ hq => ?_)
  obtain ⟨rfl, rfl⟩ := hq
  refine kx_if_ne (tgt := 14) dX6_hitsAhead_9 (by decide) (fun c => ?_) (fun c => ?_)
  · have h := if_f c h
    refine kx_aload_n dX6_hitsAhead_14 rfl rfl ?_
    obtain ⟨r3, er3, h⟩ := bd_s h
    refine kx_callV dX6_hitsAhead_15 lk_X6_474 (mM_beginThought hd er3) rfl kN_rc rfl (Nat.le_of_ble_eq_true rfl) (Nat.le_of_ble_eq_true rfl) (Nat.le_of_ble_eq_true rfl) (Nat.le_of_ble_eq_true rfl) (Nat.le_of_ble_eq_true rfl) (fun _ _ _ h => h.elim) (fun w_ σ_ hq => ?_)
    obtain ⟨rfl, rfl⟩ := hq
    refine kx_iconst (v := 0) dX6_hitsAhead_18 (by decide) ?_
    refine kx_istore_n dX6_hitsAhead_19 rfl (Nat.le_of_ble_eq_true rfl) ?_
    refine kx_iconst (v := 0) dX6_hitsAhead_20 (by decide) ?_
    refine kx_istore_n dX6_hitsAhead_21 rfl (Nat.le_of_ble_eq_true rfl) ?_
    obtain ⟨b4, eb4, h⟩ := bd_s h
    refine kx_lwF [(0, .ref m), (1, .int (x1)), (2, .int ((0 : Int32))), (3, .int ((0 : Int32)))] ⟨rfl, rfl, rfl, rfl, trivial⟩ (mL_hitsAhead_22 hd (a0 := (r3, (0 : Int32), (0 : Int32))) eb4 ?_)
    refine kx_aload_n dX6_hitsAhead_41 rfl rfl ?_
    refine kx_getf dX6_hitsAhead_42 fl_X6_17_X6 kN_m rfl ?_
    refine kx_sipush (v := 475) dX6_hitsAhead_45 (by decide) ?_
    refine kx_bipush (v := 27) dX6_hitsAhead_48 (by decide) ?_
    refine kx_iload_n dX6_hitsAhead_50 rfl rfl ?_
    refine kx_imul dX6_hitsAhead_51 ?_
    refine kx_iadd dX6_hitsAhead_52 ?_
    refine kx_iconst (v := 2) dX6_hitsAhead_53 (by decide) ?_
    refine kx_iadd dX6_hitsAhead_54 ?_
    refine kN_ald hd dX6_hitsAhead_55 h (fun v5 ev5 h => ?_)
    refine kx_aload_n dX6_hitsAhead_56 rfl rfl ?_
    refine kx_getf dX6_hitsAhead_57 fl_X6_51_X6 kN_m rfl ?_
    refine kx_sipush (v := 475) dX6_hitsAhead_60 (by decide) ?_
    refine kx_bipush (v := 27) dX6_hitsAhead_63 (by decide) ?_
    refine kx_iload_n dX6_hitsAhead_65 rfl rfl ?_
    refine kx_imul dX6_hitsAhead_66 ?_
    refine kx_iadd dX6_hitsAhead_67 ?_
    refine kx_iconst (v := 2) dX6_hitsAhead_68 (by decide) ?_
    refine kx_iadd dX6_hitsAhead_69 ?_
    refine kN_ald hd dX6_hitsAhead_70 h (fun v6 ev6 h => ?_)
    refine kx_isub dX6_hitsAhead_71 ?_
    refine kx_istore_n dX6_hitsAhead_72 rfl (Nat.le_of_ble_eq_true rfl) ?_
    refine kx_aload_n dX6_hitsAhead_73 rfl rfl ?_
    obtain ⟨r7, er7, h⟩ := bd_s h
    refine kx_callV dX6_hitsAhead_74 lk_X6_480 (mM_endThought hd er7) rfl kN_rc rfl (Nat.le_of_ble_eq_true rfl) (Nat.le_of_ble_eq_true rfl) (Nat.le_of_ble_eq_true rfl) (Nat.le_of_ble_eq_true rfl) (Nat.le_of_ble_eq_true rfl) (fun _ _ _ h => h.elim) (fun w_ σ_ hq => ?_)
    obtain ⟨rfl, rfl⟩ := hq
    refine kx_iload_n dX6_hitsAhead_77 rfl rfl ?_
    exact kx_iret dX6_hitsAhead_78 rfl (hQ _ _ (rtI (Option.some.inj h)))
  · have h := if_t c h
    refine kx_iconst (v := 0) dX6_hitsAhead_12 (by decide) ?_
    exact kx_iret dX6_hitsAhead_13 rfl (hQ _ _ (rtI (Option.some.inj h)))
set_option maxHeartbeats 4000000 in
theorem mL_largestCount_37 {G : KG} {τ : KHp} {m : Nat} {ad : Nat → Nat} {Q : KQ} {X : KX} {y1 : Int32} {a0 : TS × Int32 × Int32} {z : TS × Int32} (hd : Md m ad) (h : loopN (fun w : TS × Int32 × Int32 => B_largestCount_37 y1 w.1 w.2.1 w.2.2) 9000 a0 = some z) (kk : kx G (yX6_largestCount.cls, cX6_largestCount, 4, (Option.some Jvm.ClassFile.FieldType.int), false, []) (9, 0, 0, Q, X) 0 0 (MP τ m ad z.1) 82 (kF [(2, .int (z.2))]) []) : kx G (yX6_largestCount.cls, cX6_largestCount, 4, (Option.some Jvm.ClassFile.FieldType.int), false, []) (9, 0, 0, Q, X) 0 0 (MP τ m ad a0.1) 37 (kF [(0, .ref m), (1, .int (y1)), (2, .int (a0.2.1)), (3, .int (a0.2.2))]) [] := by
  refine loopK_2_1 (B := B_largestCount_37 y1) (fun (a : TS) (a2 : Int32) (a3 : Int32) => kx G (yX6_largestCount.cls, cX6_largestCount, 4, (Option.some Jvm.ClassFile.FieldType.int), false, []) (9, 0, 0, Q, X) 0 0 (MP τ m ad a) 37 (kF [(0, .ref m), (1, .int (y1)), (2, .int (a2)), (3, .int (a3))]) []) (fun (b : TS) (b2 : Int32) => kx G (yX6_largestCount.cls, cX6_largestCount, 4, (Option.some Jvm.ClassFile.FieldType.int), false, []) (9, 0, 0, Q, X) 0 0 (MP τ m ad b) 82 (kF [(2, .int (b2))]) []) (fun a a2 a3 r h kI kE => ?_) _ _ _ h kk
  · unfold B_largestCount_37 at h
    refine kx_iload_n dX6_largestCount_37 rfl rfl ?_
    refine kx_iconst (v := 1) dX6_largestCount_38 (by decide) ?_
    refine kx_icmp_lt (tgt := 82) dX6_largestCount_39 (by decide) (fun c => ?_) (fun c => ?_)
    · have h := if_t c h
      exact kx_lwF [(2, .int (a2))] ⟨rfl, trivial⟩ (kE (a) (a2) (Option.some.inj h).symm)
    · have h := if_f c h
      refine kx_iload_n dX6_largestCount_42 rfl rfl ?_
      refine kx_iconst (v := -1) dX6_largestCount_43 (by decide) ?_
      refine kx_icmp_ne (tgt := 82) dX6_largestCount_44 (by decide) (fun c => ?_) (fun c => ?_)
      · have h := if_f c h
        exact kx_lwF [(2, .int (a2))] ⟨rfl, trivial⟩ (kE (a) (a2) (Option.some.inj h).symm)
      · have h := if_t c h
        refine kx_aload_n dX6_largestCount_47 rfl rfl ?_
        refine kx_getf dX6_largestCount_48 fl_X6_17_X6 kN_m rfl ?_
        refine kx_iconst (v := 2) dX6_largestCount_51 (by decide) ?_
        refine kx_iload_n dX6_largestCount_52 rfl rfl ?_
        refine kN_ast hd dX6_largestCount_53 h (fun s37001 es37001 h => ?_)
        refine kx_aload_n dX6_largestCount_54 rfl rfl ?_
        refine kx_iload_n dX6_largestCount_55 rfl rfl ?_
        refine kx_sipush (v := 200) dX6_largestCount_56 (by decide) ?_
        obtain ⟨r37002, er37002, h⟩ := bd_s h
        refine kx_callV dX6_largestCount_59 lk_X6_477 (mM_tripAfter hd er37002) rfl kN_rc rfl (Nat.le_of_ble_eq_true rfl) (Nat.le_of_ble_eq_true rfl) (Nat.le_of_ble_eq_true rfl) (Nat.le_of_ble_eq_true rfl) (Nat.le_of_ble_eq_true rfl) (fun _ _ _ h => h.elim) (fun w_ σ_ hq => ?_)
        obtain ⟨rfl, rfl⟩ := hq
        refine kx_iconst (v := -1) dX6_largestCount_62 (by decide) ?_
        obtain ⟨r37003, er37003, h⟩ := bd_s h
        refine kN_j (MP τ m ad r37003.1) 71 [.int (r37003.2)] ?_ (fun jr37003 => ?_)
        · skip
          refine kx_istore_n dX6_largestCount_71 rfl (Nat.le_of_ble_eq_true rfl) ?_
          refine kx_aload_n dX6_largestCount_72 rfl rfl ?_
          obtain ⟨r37004, er37004, h⟩ := bd_s h
          refine kx_callV dX6_largestCount_73 lk_X6_480 (mM_endThought hd er37004) rfl kN_rc rfl (Nat.le_of_ble_eq_true rfl) (Nat.le_of_ble_eq_true rfl) (Nat.le_of_ble_eq_true rfl) (Nat.le_of_ble_eq_true rfl) (Nat.le_of_ble_eq_true rfl) (fun _ _ _ h => h.elim) (fun w_ σ_ hq => ?_)
          obtain ⟨rfl, rfl⟩ := hq
          refine kx_iinc2 (v := -1) dX6_largestCount_76 rfl (by decide) ?_
          refine kx_goto (tgt := 37) dX6_largestCount_79 (by decide) ?_
          exact kx_lwF [(0, .ref m), (1, .int (y1)), (2, .int (r37003.2)), (3, .int ((a3 + (-1 : Int32))))] ⟨rfl, rfl, rfl, rfl, trivial⟩ (kI (r37004) (r37003.2) ((a3 + (-1 : Int32))) (Option.some.inj h).symm)
        · have h := er37003
          refine kx_icmp_eq (tgt := 70) dX6_largestCount_63 (by decide) (fun c => ?_) (fun c => ?_)
          · have h := if_t c h
            refine kx_iconst (v := -1) dX6_largestCount_70 (by decide) ?_
            exact jnI h jr37003
          · have h := if_f c h
            refine kx_iload_n dX6_largestCount_66 rfl rfl ?_
            refine kx_goto (tgt := 71) dX6_largestCount_67 (by decide) ?_
            exact jnI h jr37003
set_option maxHeartbeats 4000000 in
theorem mM_largestCount {G : KG} {τ : KHp} {m : Nat} {ad : Nat → Nat} {s : TS} {x1 : Int32} {z : TS × Int32} (hd : Md m ad) (h : P_largestCount s x1 = some z) : kx_c G yX6_largestCount (ws_ yX6_largestCount cX6_largestCount 4 (Option.some Jvm.ClassFile.FieldType.int)) 9 0 0 [.ref m, .int (x1)] (MP τ m ad s) (fun rv σ' => rv = some (.int z.2) ∧ σ' = MP τ m ad z.1) kx_n := by
  refine kx_mk3 (ini := false) rfl (Nat.le_of_ble_eq_true rfl) (fun h => by cases h) (fun Q X hQ hX => ?_)
  unfold P_largestCount at h
  refine kx_aload_n dX6_largestCount_0 rfl rfl ?_
  refine kx_aload_n dX6_largestCount_1 rfl rfl ?_
  refine kx_iload_n dX6_largestCount_2 rfl rfl ?_
  obtain ⟨r1, er1, h⟩ := bd_s h
  refine kx_callV dX6_largestCount_3 lk_X6_329 (mM_isBranch hd er1) rfl kN_rc rfl (Nat.le_of_ble_eq_true rfl) (Nat.le_of_ble_eq_true rfl) (Nat.le_of_ble_eq_true rfl) (Nat.le_of_ble_eq_true rfl) (Nat.le_of_ble_eq_true rfl) (fun _ _ _ h => h.elim) (fun w_ σ_ hq => ?_)
  obtain ⟨rfl, rfl⟩ := hq
  obtain ⟨r2, er2, h⟩ := bd_s h
  refine kx_callV dX6_largestCount_6 lk_X6_77 (mM_passes hd er2) rfl kN_rc rfl (Nat.le_of_ble_eq_true rfl) (Nat.le_of_ble_eq_true rfl) (Nat.le_of_ble_eq_true rfl) (Nat.le_of_ble_eq_true rfl) (Nat.le_of_ble_eq_true rfl) (fun _ _ _ h => h.elim) (fun w_ σ_ hq => ?_)
  obtain ⟨rfl, rfl⟩ := hq
  refine kx_if_ne (tgt := 14) dX6_largestCount_9 (by decide) (fun c => ?_) (fun c => ?_)
  · have h := if_f c h
    refine kx_aload_n dX6_largestCount_14 rfl rfl ?_
    refine kx_iload_n dX6_largestCount_15 rfl rfl ?_
    obtain ⟨r3, er3, h⟩ := bd_s h
    refine kx_callV dX6_largestCount_16 lk_X6_358 (mM_isClosed hd er3) rfl kN_rc rfl (Nat.le_of_ble_eq_true rfl) (Nat.le_of_ble_eq_true rfl) (Nat.le_of_ble_eq_true rfl) (Nat.le_of_ble_eq_true rfl) (Nat.le_of_ble_eq_true rfl) (fun _ _ _ h => h.elim) (fun w_ σ_ hq => ?_)
    obtain ⟨rfl, rfl⟩ := hq
    refine kx_if_ne (tgt := 24) dX6_largestCount_19 (by decide) (fun c => ?_) (fun c => ?_)
    · have h := if_f c h
      refine kx_aload_n dX6_largestCount_24 rfl rfl ?_
      obtain ⟨r4, er4, h⟩ := bd_s h
      refine kx_callV dX6_largestCount_25 lk_X6_474 (mM_beginThought hd er4) rfl kN_rc rfl (Nat.le_of_ble_eq_true rfl) (Nat.le_of_ble_eq_true rfl) (Nat.le_of_ble_eq_true rfl) (Nat.le_of_ble_eq_true rfl) (Nat.le_of_ble_eq_true rfl) (fun _ _ _ h => h.elim) (fun w_ σ_ hq => ?_)
      obtain ⟨rfl, rfl⟩ := hq
      refine kx_iconst (v := -1) dX6_largestCount_28 (by decide) ?_
      refine kx_istore_n dX6_largestCount_29 rfl (Nat.le_of_ble_eq_true rfl) ?_
      refine kx_aload_n dX6_largestCount_30 rfl rfl ?_
      refine kx_getf dX6_largestCount_31 fl_X6_17_X6 kN_m rfl ?_
      refine kx_iconst (v := 1) dX6_largestCount_34 (by decide) ?_
      refine kN_ald hd dX6_largestCount_35 h (fun v5 ev5 h => ?_)
      refine kx_istore_n dX6_largestCount_36 rfl (Nat.le_of_ble_eq_true rfl) ?_
      obtain ⟨b6, eb6, h⟩ := bd_s h
      refine kx_lwF [(0, .ref m), (1, .int (x1)), (2, .int ((-1 : Int32))), (3, .int (v5))] ⟨rfl, rfl, rfl, rfl, trivial⟩ (mL_largestCount_37 hd (a0 := (r4, (-1 : Int32), v5)) eb6 ?_)
      refine kx_iload_n dX6_largestCount_82 rfl rfl ?_
      exact kx_iret dX6_largestCount_83 rfl (hQ _ _ (rtI (Option.some.inj h)))
    · have h := if_t c h
      refine kx_iconst (v := -1) dX6_largestCount_22 (by decide) ?_
      exact kx_iret dX6_largestCount_23 rfl (hQ _ _ (rtI (Option.some.inj h)))
  · have h := if_t c h
    refine kx_iconst (v := 0) dX6_largestCount_12 (by decide) ?_
    exact kx_iret dX6_largestCount_13 rfl (hQ _ _ (rtI (Option.some.inj h)))
set_option maxHeartbeats 4000000 in
theorem mM_parseStatement {G : KG} {τ : KHp} {m : Nat} {ad : Nat → Nat} {s : TS}  {z : TS} (hd : Md m ad) (h : P_parseStatement s  = some z) : kx_c G yX6_parseStatement (ws_ yX6_parseStatement cX6_parseStatement 2 (Option.none : Option Jvm.ClassFile.FieldType)) 11 0 0 [.ref m] (MP τ m ad s) (fun rv σ' => rv = none ∧ σ' = MP τ m ad z) kx_n := by
  refine kx_mk3 (ini := false) rfl (Nat.le_of_ble_eq_true rfl) (fun h => by cases h) (fun Q X hQ hX => ?_)
  unfold P_parseStatement at h
  refine kx_aload_n dX6_parseStatement_0 rfl rfl ?_
  obtain ⟨r1, er1, h⟩ := bd_s h
  refine kx_callV dX6_parseStatement_1 lk_X6_88 (mM_good hd er1) rfl kN_rc rfl (Nat.le_of_ble_eq_true rfl) (Nat.le_of_ble_eq_true rfl) (Nat.le_of_ble_eq_true rfl) (Nat.le_of_ble_eq_true rfl) (Nat.le_of_ble_eq_true rfl) (fun _ _ _ h => h.elim) (fun w_ σ_ hq => ?_)
  obtain ⟨rfl, rfl⟩ := hq
  obtain ⟨r2, er2, h⟩ := bd_s h
  refine kN_j (MP τ m ad r2.1) 23 [.int (r2.2)] ?_ (fun jr2 => ?_)
  · skip
    refine kx_istore_n dX6_parseStatement_23 rfl (Nat.le_of_ble_eq_true rfl) ?_
    refine kx_iload_n dX6_parseStatement_24 rfl rfl ?_
    refine kx_iconst (v := -1) dX6_parseStatement_25 (by decide) ?_
    refine kx_icmp_eq (tgt := 37) dX6_parseStatement_26 (by decide) (fun c => ?_) (fun c => ?_)
    · have h := if_t c h
      refine kx_aload_n dX6_parseStatement_37 rfl rfl ?_
      refine kx_ldcS dX6_parseStatement_38 ks_ArcRecorderModel_170 ?_
      obtain ⟨r4, er4, h⟩ := bd_s h
      refine kx_callV dX6_parseStatement_40 lk_X6_208 (mM_isText hd er4) rfl kN_rc rfl (Nat.le_of_ble_eq_true rfl) (Nat.le_of_ble_eq_true rfl) (Nat.le_of_ble_eq_true rfl) (Nat.le_of_ble_eq_true rfl) (Nat.le_of_ble_eq_true rfl) (fun _ _ _ h => h.elim) (fun w_ σ_ hq => ?_)
      obtain ⟨rfl, rfl⟩ := hq
      refine kx_if_eq (tgt := 53) dX6_parseStatement_43 (by decide) (fun c => ?_) (fun c => ?_)
      · have h := if_t c h
        refine kx_aload_n dX6_parseStatement_53 rfl rfl ?_
        refine kx_ldcS dX6_parseStatement_54 ks_ArcRecorderModel_186 ?_
        obtain ⟨r5, er5, h⟩ := bd_s h
        refine kx_callV dX6_parseStatement_56 lk_X6_208 (mM_isText hd er5) rfl kN_rc rfl (Nat.le_of_ble_eq_true rfl) (Nat.le_of_ble_eq_true rfl) (Nat.le_of_ble_eq_true rfl) (Nat.le_of_ble_eq_true rfl) (Nat.le_of_ble_eq_true rfl) (fun _ _ _ h => h.elim) (fun w_ σ_ hq => ?_)
        obtain ⟨rfl, rfl⟩ := hq
        refine kx_if_eq (tgt := 69) dX6_parseStatement_59 (by decide) (fun c => ?_) (fun c => ?_)
        · have h := if_t c h
          refine kx_aload_n dX6_parseStatement_69 rfl rfl ?_
          refine kx_ldcS dX6_parseStatement_70 ks_ArcRecorderModel_188 ?_
          obtain ⟨r6, er6, h⟩ := bd_s h
          refine kx_callV dX6_parseStatement_72 lk_X6_208 (mM_isText hd er6) rfl kN_rc rfl (Nat.le_of_ble_eq_true rfl) (Nat.le_of_ble_eq_true rfl) (Nat.le_of_ble_eq_true rfl) (Nat.le_of_ble_eq_true rfl) (Nat.le_of_ble_eq_true rfl) (fun _ _ _ h => h.elim) (fun w_ σ_ hq => ?_)
          obtain ⟨rfl, rfl⟩ := hq
          refine kx_if_eq (tgt := 85) dX6_parseStatement_75 (by decide) (fun c => ?_) (fun c => ?_)
          · have h := if_t c h
            refine kx_aload_n dX6_parseStatement_85 rfl rfl ?_
            refine kx_ldcS dX6_parseStatement_86 ks_ArcRecorderModel_194 ?_
            obtain ⟨r7, er7, h⟩ := bd_s h
            refine kx_callV dX6_parseStatement_88 lk_X6_208 (mM_isText hd er7) rfl kN_rc rfl (Nat.le_of_ble_eq_true rfl) (Nat.le_of_ble_eq_true rfl) (Nat.le_of_ble_eq_true rfl) (Nat.le_of_ble_eq_true rfl) (Nat.le_of_ble_eq_true rfl) (fun _ _ _ h => h.elim) (fun w_ σ_ hq => ?_)
            obtain ⟨rfl, rfl⟩ := hq
            refine kx_if_eq (tgt := 101) dX6_parseStatement_91 (by decide) (fun c => ?_) (fun c => ?_)
            · have h := if_t c h
              refine kx_aload_n dX6_parseStatement_101 rfl rfl ?_
              refine kx_ldcS dX6_parseStatement_102 ks_ArcRecorderModel_196 ?_
              obtain ⟨r8, er8, h⟩ := bd_s h
              refine kx_callV dX6_parseStatement_104 lk_X6_208 (mM_isText hd er8) rfl kN_rc rfl (Nat.le_of_ble_eq_true rfl) (Nat.le_of_ble_eq_true rfl) (Nat.le_of_ble_eq_true rfl) (Nat.le_of_ble_eq_true rfl) (Nat.le_of_ble_eq_true rfl) (fun _ _ _ h => h.elim) (fun w_ σ_ hq => ?_)
              obtain ⟨rfl, rfl⟩ := hq
              refine kx_if_eq (tgt := 117) dX6_parseStatement_107 (by decide) (fun c => ?_) (fun c => ?_)
              · have h := if_t c h
                refine kx_aload_n dX6_parseStatement_117 rfl rfl ?_
                refine kx_iconst (v := 1) dX6_parseStatement_118 (by decide) ?_
                obtain ⟨r9, er9, h⟩ := bd_s h
                refine kx_callV dX6_parseStatement_119 lk_X6_211 (mM_errs hd er9) rfl kN_rc rfl (Nat.le_of_ble_eq_true rfl) (Nat.le_of_ble_eq_true rfl) (Nat.le_of_ble_eq_true rfl) (Nat.le_of_ble_eq_true rfl) (Nat.le_of_ble_eq_true rfl) (fun _ _ _ h => h.elim) (fun w_ σ_ hq => ?_)
                obtain ⟨rfl, rfl⟩ := hq
                exact kx_vret dX6_parseStatement_122 rfl (hQ _ _ (rtV (Option.some.inj h)))
              · have h := if_f c h
                refine kx_aload_n dX6_parseStatement_110 rfl rfl ?_
                obtain ⟨r10, er10, h⟩ := bd_s h
                refine kx_callV dX6_parseStatement_111 lk_X6_312 (mM_parsePlan hd er10) rfl kN_rc rfl (Nat.le_of_ble_eq_true rfl) (Nat.le_of_ble_eq_true rfl) (Nat.le_of_ble_eq_true rfl) (Nat.le_of_ble_eq_true rfl) (Nat.le_of_ble_eq_true rfl) (fun _ _ _ h => h.elim) (fun w_ σ_ hq => ?_)
                obtain ⟨rfl, rfl⟩ := hq
                refine kx_goto (tgt := 122) dX6_parseStatement_114 (by decide) ?_
                exact kx_vret dX6_parseStatement_122 rfl (hQ _ _ (rtV (Option.some.inj h)))
            · have h := if_f c h
              refine kx_aload_n dX6_parseStatement_94 rfl rfl ?_
              obtain ⟨r11, er11, h⟩ := bd_s h
              refine kx_callV dX6_parseStatement_95 lk_X6_309 (mM_parseNuisance hd er11) rfl kN_rc rfl (Nat.le_of_ble_eq_true rfl) (Nat.le_of_ble_eq_true rfl) (Nat.le_of_ble_eq_true rfl) (Nat.le_of_ble_eq_true rfl) (Nat.le_of_ble_eq_true rfl) (fun _ _ _ h => h.elim) (fun w_ σ_ hq => ?_)
              obtain ⟨rfl, rfl⟩ := hq
              refine kx_goto (tgt := 122) dX6_parseStatement_98 (by decide) ?_
              exact kx_vret dX6_parseStatement_122 rfl (hQ _ _ (rtV (Option.some.inj h)))
          · have h := if_f c h
            refine kx_aload_n dX6_parseStatement_78 rfl rfl ?_
            obtain ⟨r12, er12, h⟩ := bd_s h
            refine kx_callV dX6_parseStatement_79 lk_X6_306 (mM_parseSignature hd er12) rfl kN_rc rfl (Nat.le_of_ble_eq_true rfl) (Nat.le_of_ble_eq_true rfl) (Nat.le_of_ble_eq_true rfl) (Nat.le_of_ble_eq_true rfl) (Nat.le_of_ble_eq_true rfl) (fun _ _ _ h => h.elim) (fun w_ σ_ hq => ?_)
            obtain ⟨rfl, rfl⟩ := hq
            refine kx_goto (tgt := 122) dX6_parseStatement_82 (by decide) ?_
            exact kx_vret dX6_parseStatement_122 rfl (hQ _ _ (rtV (Option.some.inj h)))
        · have h := if_f c h
          refine kx_aload_n dX6_parseStatement_62 rfl rfl ?_
          obtain ⟨r13, er13, h⟩ := bd_s h
          refine kx_callV dX6_parseStatement_63 lk_X6_303 (mM_parseSeed hd er13) rfl kN_rc rfl (Nat.le_of_ble_eq_true rfl) (Nat.le_of_ble_eq_true rfl) (Nat.le_of_ble_eq_true rfl) (Nat.le_of_ble_eq_true rfl) (Nat.le_of_ble_eq_true rfl) (fun _ _ _ h => h.elim) (fun w_ σ_ hq => ?_)
          obtain ⟨rfl, rfl⟩ := hq
          refine kx_goto (tgt := 122) dX6_parseStatement_66 (by decide) ?_
          exact kx_vret dX6_parseStatement_122 rfl (hQ _ _ (rtV (Option.some.inj h)))
      · have h := if_f c h
        refine kx_aload_n dX6_parseStatement_46 rfl rfl ?_
        obtain ⟨r14, er14, h⟩ := bd_s h
        refine kx_callV dX6_parseStatement_47 lk_X6_300 (mM_parseBranch hd er14) rfl kN_rc rfl (Nat.le_of_ble_eq_true rfl) (Nat.le_of_ble_eq_true rfl) (Nat.le_of_ble_eq_true rfl) (Nat.le_of_ble_eq_true rfl) (Nat.le_of_ble_eq_true rfl) (fun _ _ _ h => h.elim) (fun w_ σ_ hq => ?_)
        obtain ⟨rfl, rfl⟩ := hq
        refine kx_goto (tgt := 122) dX6_parseStatement_50 (by decide) ?_
        exact kx_vret dX6_parseStatement_122 rfl (hQ _ _ (rtV (Option.some.inj h)))
    · have h := if_f c h
      refine kx_aload_n dX6_parseStatement_29 rfl rfl ?_
      refine kx_iload_n dX6_parseStatement_30 rfl rfl ?_
      obtain ⟨r15, er15, h⟩ := bd_s h
      refine kx_callV dX6_parseStatement_31 lk_X6_297 (mM_parseLoad hd er15) rfl kN_rc rfl (Nat.le_of_ble_eq_true rfl) (Nat.le_of_ble_eq_true rfl) (Nat.le_of_ble_eq_true rfl) (Nat.le_of_ble_eq_true rfl) (Nat.le_of_ble_eq_true rfl) (fun _ _ _ h => h.elim) (fun w_ σ_ hq => ?_)
      obtain ⟨rfl, rfl⟩ := hq
      refine kx_goto (tgt := 122) dX6_parseStatement_34 (by decide) ?_
      exact kx_vret dX6_parseStatement_122 rfl (hQ _ _ (rtV (Option.some.inj h)))
  · have h := er2
    refine kx_if_eq (tgt := 22) dX6_parseStatement_4 (by decide) (fun c => ?_) (fun c => ?_)
    · have h := if_t c h
      refine kx_iconst (v := -1) dX6_parseStatement_22 (by decide) ?_
      exact jnI h jr2
    · have h := if_f c h
      refine kx_aload_n dX6_parseStatement_7 rfl rfl ?_
      refine kx_getf dX6_parseStatement_8 fl_X6_105_X6 kN_m rfl ?_
      refine kx_iconst (v := 1) dX6_parseStatement_11 (by decide) ?_
      refine kx_icmp_ne (tgt := 22) dX6_parseStatement_12 (by decide) (fun c => ?_) (fun c => ?_)
      · have h := if_f c h
        refine kx_iconst (v := -1) dX6_parseStatement_22 (by decide) ?_
        exact jnI h jr2
      · have h := if_t c h
        refine kx_aload_n dX6_parseStatement_15 rfl rfl ?_
        obtain ⟨r3, er3, h⟩ := bd_s h
        refine kx_callV dX6_parseStatement_16 lk_X6_205 (mM_kindHere hd er3) rfl kN_rc rfl (Nat.le_of_ble_eq_true rfl) (Nat.le_of_ble_eq_true rfl) (Nat.le_of_ble_eq_true rfl) (Nat.le_of_ble_eq_true rfl) (Nat.le_of_ble_eq_true rfl) (fun _ _ _ h => h.elim) (fun w_ σ_ hq => ?_)
        obtain ⟨rfl, rfl⟩ := hq
        refine kx_goto (tgt := 23) dX6_parseStatement_19 (by decide) ?_
        exact jnI h jr2
set_option maxHeartbeats 4000000 in
theorem mL_run_53 {G : KG} {τ : KHp} {m : Nat} {ad : Nat → Nat} {Q : KQ} {X : KX} {y1 : Int32} {a0 : TS × Int32 × Int32} {z : TS × Int32} (hd : Md m ad) (h : loopN (fun w : TS × Int32 × Int32 => B_run_53 y1 w.1 w.2.1 w.2.2) 9000 a0 = some z) (kk : kx G (yX6_run.cls, cX6_run, 5, (Option.some Jvm.ClassFile.FieldType.int), false, []) (8, 0, 0, Q, X) 0 0 (MP τ m ad z.1) 75 (kF [(3, .int (z.2))]) []) : kx G (yX6_run.cls, cX6_run, 5, (Option.some Jvm.ClassFile.FieldType.int), false, []) (8, 0, 0, Q, X) 0 0 (MP τ m ad a0.1) 53 (kF [(0, .ref m), (1, .int (y1)), (3, .int (a0.2.1)), (4, .int (a0.2.2))]) [] := by
  refine loopK_2_1 (B := B_run_53 y1) (fun (a : TS) (a3 : Int32) (a4 : Int32) => kx G (yX6_run.cls, cX6_run, 5, (Option.some Jvm.ClassFile.FieldType.int), false, []) (8, 0, 0, Q, X) 0 0 (MP τ m ad a) 53 (kF [(0, .ref m), (1, .int (y1)), (3, .int (a3)), (4, .int (a4))]) []) (fun (b : TS) (b3 : Int32) => kx G (yX6_run.cls, cX6_run, 5, (Option.some Jvm.ClassFile.FieldType.int), false, []) (8, 0, 0, Q, X) 0 0 (MP τ m ad b) 75 (kF [(3, .int (b3))]) []) (fun a a3 a4 r h kI kE => ?_) _ _ _ h kk
  · unfold B_run_53 at h
    refine kx_iload dX6_run_53 rfl ?_
    refine kx_iload_n dX6_run_55 rfl rfl ?_
    refine kx_icmp_ge (tgt := 75) dX6_run_56 (by decide) (fun c => ?_) (fun c => ?_)
    · have h := if_t c h
      exact kx_lwF [(3, .int (a3))] ⟨rfl, trivial⟩ (kE (a) (a3) (Option.some.inj h).symm)
    · have h := if_f c h
      refine kx_iload_n dX6_run_59 rfl rfl ?_
      refine kx_aload_n dX6_run_60 rfl rfl ?_
      obtain ⟨r53001, er53001, h⟩ := bd_s h
      refine kx_callV dX6_run_61 lk_X6_437 (mM_pass hd er53001) rfl kN_rc rfl (Nat.le_of_ble_eq_true rfl) (Nat.le_of_ble_eq_true rfl) (Nat.le_of_ble_eq_true rfl) (Nat.le_of_ble_eq_true rfl) (Nat.le_of_ble_eq_true rfl) (fun _ _ _ h => h.elim) (fun w_ σ_ hq => ?_)
      obtain ⟨rfl, rfl⟩ := hq
      obtain ⟨r53002, er53002, h⟩ := bd_s h
      refine kx_callS dX6_run_64 lk_X6_440 (mM_bitCount hd er53002) rfl rfl (Nat.le_of_ble_eq_true rfl) (Nat.le_of_ble_eq_true rfl) (Nat.le_of_ble_eq_true rfl) (Nat.le_of_ble_eq_true rfl) (Nat.le_of_ble_eq_true rfl) (fun _ _ _ h => h.elim) (fun w_ σ_ hq => ?_)
      obtain ⟨rfl, rfl⟩ := hq
      refine kx_iadd dX6_run_67 ?_
      refine kx_istore_n dX6_run_68 rfl (Nat.le_of_ble_eq_true rfl) ?_
      refine kx_iinc2 (v := 1) dX6_run_69 rfl (by decide) ?_
      refine kx_goto (tgt := 53) dX6_run_72 (by decide) ?_
      exact kx_lwF [(0, .ref m), (1, .int (y1)), (3, .int ((a3 + r53002.2))), (4, .int ((a4 + (1 : Int32))))] ⟨rfl, rfl, rfl, rfl, trivial⟩ (kI (r53002.1) ((a3 + r53002.2)) ((a4 + (1 : Int32))) (Option.some.inj h).symm)
set_option maxHeartbeats 4000000 in
theorem mM_run {G : KG} {τ : KHp} {m : Nat} {ad : Nat → Nat} {s : TS} {x1 : Int32} {z : TS × Int32} (hd : Md m ad) (h : P_run s x1 = some z) : kx_c G yX6_run (ws_ yX6_run cX6_run 5 (Option.some Jvm.ClassFile.FieldType.int)) 8 0 0 [.ref m, .int (x1)] (MP τ m ad s) (fun rv σ' => rv = some (.int z.2) ∧ σ' = MP τ m ad z.1) kx_n := by
  refine kx_mk3 (ini := false) rfl (Nat.le_of_ble_eq_true rfl) (fun h => by cases h) (fun Q X hQ hX => ?_)
  unfold P_run at h
  refine kx_iload_n dX6_run_0 rfl rfl ?_
  refine kx_i2l dX6_run_1 rfl ?_
  refine kx_lconst (v := 1) dX6_run_2 (by decide) ?_
  refine kx_ldc2 dX6_run_3 q3141 ?_
  obtain ⟨r1, er1, h⟩ := bd_s h
  refine kx_callS dX6_run_6 lk_X6_66 (mM_in hd er1) rfl rfl (Nat.le_of_ble_eq_true rfl) (Nat.le_of_ble_eq_true rfl) (Nat.le_of_ble_eq_true rfl) (Nat.le_of_ble_eq_true rfl) (Nat.le_of_ble_eq_true rfl) (fun _ _ _ h => h.elim) (fun w_ σ_ hq => ?_)
  obtain ⟨rfl, rfl⟩ := hq
  refine kx_istore_n dX6_run_9 rfl (Nat.le_of_ble_eq_true rfl) ?_
  refine kx_aload_n dX6_run_10 rfl rfl ?_
  refine kx_iload_n dX6_run_11 rfl rfl ?_
  refine kx_iload_n dX6_run_12 rfl rfl ?_
  obtain ⟨r2, er2, h⟩ := bd_s h
  refine kN_j (MP τ m ad r2.1) 36 [.int (r2.2), .int (r1.2), .ref m] ?_ (fun jr2 => ?_)
  · skip
    obtain ⟨r4, er4, h⟩ := bd_s h
    refine kx_callV dX6_run_36 lk_X6_338 (mM_passes2 hd er4) rfl kN_rc rfl (Nat.le_of_ble_eq_true rfl) (Nat.le_of_ble_eq_true rfl) (Nat.le_of_ble_eq_true rfl) (Nat.le_of_ble_eq_true rfl) (Nat.le_of_ble_eq_true rfl) (fun _ _ _ h => h.elim) (fun w_ σ_ hq => ?_)
    obtain ⟨rfl, rfl⟩ := hq
    refine kx_if_ne (tgt := 44) dX6_run_39 (by decide) (fun c => ?_) (fun c => ?_)
    · have h := if_f c h
      refine kx_aload_n dX6_run_44 rfl rfl ?_
      obtain ⟨r5, er5, h⟩ := bd_s h
      refine kx_callV dX6_run_45 lk_X6_321 (mM_remember hd er5) rfl kN_rc rfl (Nat.le_of_ble_eq_true rfl) (Nat.le_of_ble_eq_true rfl) (Nat.le_of_ble_eq_true rfl) (Nat.le_of_ble_eq_true rfl) (Nat.le_of_ble_eq_true rfl) (fun _ _ _ h => h.elim) (fun w_ σ_ hq => ?_)
      obtain ⟨rfl, rfl⟩ := hq
      refine kx_iconst (v := 0) dX6_run_48 (by decide) ?_
      refine kx_istore_n dX6_run_49 rfl (Nat.le_of_ble_eq_true rfl) ?_
      refine kx_iconst (v := 0) dX6_run_50 (by decide) ?_
      refine kx_istore dX6_run_51 (Nat.le_of_ble_eq_true rfl) ?_
      obtain ⟨b6, eb6, h⟩ := bd_s h
      refine kx_lwF [(0, .ref m), (1, .int (x1)), (3, .int ((0 : Int32))), (4, .int ((0 : Int32)))] ⟨rfl, rfl, rfl, rfl, trivial⟩ (mL_run_53 hd (a0 := (r5, (0 : Int32), (0 : Int32))) eb6 ?_)
      refine kx_iload_n dX6_run_75 rfl rfl ?_
      exact kx_iret dX6_run_76 rfl (hQ _ _ (rtI (Option.some.inj h)))
    · have h := if_t c h
      refine kx_iconst (v := 0) dX6_run_42 (by decide) ?_
      exact kx_iret dX6_run_43 rfl (hQ _ _ (rtI (Option.some.inj h)))
  · have h := er2
    refine kx_if_eq (tgt := 31) dX6_run_13 (by decide) (fun c => ?_) (fun c => ?_)
    · have h := if_t c h
      refine kx_iconst (v := 1) dX6_run_31 (by decide) ?_
      refine kx_goto (tgt := 36) dX6_run_32 (by decide) ?_
      exact jnI h jr2
    · have h := if_f c h
      refine kx_aload_n dX6_run_16 rfl rfl ?_
      refine kx_getf dX6_run_17 fl_X6_17_X6 kN_m rfl ?_
      refine kx_bipush (v := 8) dX6_run_20 (by decide) ?_
      refine kN_ald hd dX6_run_22 h (fun v3 ev3 h => ?_)
      refine kx_iload_n dX6_run_23 rfl rfl ?_
      refine kx_iadd dX6_run_24 ?_
      refine kx_ldcwi dX6_run_25 q3142 ?_
      refine kx_icmp_gt (tgt := 35) dX6_run_28 (by decide) (fun c => ?_) (fun c => ?_)
      · have h := if_t c h
        refine kx_iconst (v := 0) dX6_run_35 (by decide) ?_
        exact jnI h jr2
      · have h := if_f c h
        refine kx_iconst (v := 1) dX6_run_31 (by decide) ?_
        refine kx_goto (tgt := 36) dX6_run_32 (by decide) ?_
        exact jnI h jr2
set_option maxHeartbeats 4000000 in
theorem mM_tripIn {G : KG} {τ : KHp} {m : Nat} {ad : Nat → Nat} {s : TS} {x1 : Int32} {z : TS × Int32} (hd : Md m ad) (h : P_tripIn s x1 = some z) : kx_c G yX6_tripIn (ws_ yX6_tripIn cX6_tripIn 3 (Option.some Jvm.ClassFile.FieldType.int)) 9 0 0 [.ref m, .int (x1)] (MP τ m ad s) (fun rv σ' => rv = some (.int z.2) ∧ σ' = MP τ m ad z.1) kx_n := by
  refine kx_mk3 (ini := false) rfl (Nat.le_of_ble_eq_true rfl) (fun h => by cases h) (fun Q X hQ hX => ?_)
  unfold P_tripIn at h
  refine kx_aload_n dX6_tripIn_0 rfl rfl ?_
  refine kx_aload_n dX6_tripIn_1 rfl rfl ?_
  refine kx_iload_n dX6_tripIn_2 rfl rfl ?_
  obtain ⟨r1, er1, h⟩ := bd_s h
  refine kx_callV dX6_tripIn_3 lk_X6_329 (mM_isBranch hd er1) rfl kN_rc rfl (Nat.le_of_ble_eq_true rfl) (Nat.le_of_ble_eq_true rfl) (Nat.le_of_ble_eq_true rfl) (Nat.le_of_ble_eq_true rfl) (Nat.le_of_ble_eq_true rfl) (fun _ _ _ h => h.elim) (fun w_ σ_ hq => ?_)
  obtain ⟨rfl, rfl⟩ := hq
  obtain ⟨r2, er2, h⟩ := bd_s h
  refine kx_callV dX6_tripIn_6 lk_X6_77 (mM_passes hd er2) rfl kN_rc rfl (Nat.le_of_ble_eq_true rfl) (Nat.le_of_ble_eq_true rfl) (Nat.le_of_ble_eq_true rfl) (Nat.le_of_ble_eq_true rfl) (Nat.le_of_ble_eq_true rfl) (fun _ _ _ h => h.elim) (fun w_ σ_ hq => ?_)
  obtain ⟨rfl, rfl⟩ := hq
  refine kx_if_ne (tgt := 14) dX6_tripIn_9 (by decide) (fun c => ?_) (fun c => ?_)
  · have h := if_f c h
    refine kx_aload_n dX6_tripIn_14 rfl rfl ?_
    refine kx_iload_n dX6_tripIn_15 rfl rfl ?_
    obtain ⟨r3, er3, h⟩ := bd_s h
    refine kx_callV dX6_tripIn_16 lk_X6_358 (mM_isClosed hd er3) rfl kN_rc rfl (Nat.le_of_ble_eq_true rfl) (Nat.le_of_ble_eq_true rfl) (Nat.le_of_ble_eq_true rfl) (Nat.le_of_ble_eq_true rfl) (Nat.le_of_ble_eq_true rfl) (fun _ _ _ h => h.elim) (fun w_ σ_ hq => ?_)
    obtain ⟨rfl, rfl⟩ := hq
    refine kx_if_ne (tgt := 24) dX6_tripIn_19 (by decide) (fun c => ?_) (fun c => ?_)
    · have h := if_f c h
      refine kx_aload_n dX6_tripIn_24 rfl rfl ?_
      obtain ⟨r4, er4, h⟩ := bd_s h
      refine kx_callV dX6_tripIn_25 lk_X6_474 (mM_beginThought hd er4) rfl kN_rc rfl (Nat.le_of_ble_eq_true rfl) (Nat.le_of_ble_eq_true rfl) (Nat.le_of_ble_eq_true rfl) (Nat.le_of_ble_eq_true rfl) (Nat.le_of_ble_eq_true rfl) (fun _ _ _ h => h.elim) (fun w_ σ_ hq => ?_)
      obtain ⟨rfl, rfl⟩ := hq
      refine kx_aload_n dX6_tripIn_28 rfl rfl ?_
      refine kx_iload_n dX6_tripIn_29 rfl rfl ?_
      refine kx_sipush (v := 500) dX6_tripIn_30 (by decide) ?_
      obtain ⟨r5, er5, h⟩ := bd_s h
      refine kx_callV dX6_tripIn_33 lk_X6_477 (mM_tripAfter hd er5) rfl kN_rc rfl (Nat.le_of_ble_eq_true rfl) (Nat.le_of_ble_eq_true rfl) (Nat.le_of_ble_eq_true rfl) (Nat.le_of_ble_eq_true rfl) (Nat.le_of_ble_eq_true rfl) (fun _ _ _ h => h.elim) (fun w_ σ_ hq => ?_)
      obtain ⟨rfl, rfl⟩ := hq
      refine kx_istore_n dX6_tripIn_36 rfl (Nat.le_of_ble_eq_true rfl) ?_
      refine kx_aload_n dX6_tripIn_37 rfl rfl ?_
      obtain ⟨r6, er6, h⟩ := bd_s h
      refine kx_callV dX6_tripIn_38 lk_X6_480 (mM_endThought hd er6) rfl kN_rc rfl (Nat.le_of_ble_eq_true rfl) (Nat.le_of_ble_eq_true rfl) (Nat.le_of_ble_eq_true rfl) (Nat.le_of_ble_eq_true rfl) (Nat.le_of_ble_eq_true rfl) (fun _ _ _ h => h.elim) (fun w_ σ_ hq => ?_)
      obtain ⟨rfl, rfl⟩ := hq
      refine kx_iload_n dX6_tripIn_41 rfl rfl ?_
      exact kx_iret dX6_tripIn_42 rfl (hQ _ _ (rtI (Option.some.inj h)))
    · have h := if_t c h
      refine kx_iconst (v := -1) dX6_tripIn_22 (by decide) ?_
      exact kx_iret dX6_tripIn_23 rfl (hQ _ _ (rtI (Option.some.inj h)))
  · have h := if_t c h
    refine kx_iconst (v := 0) dX6_tripIn_12 (by decide) ?_
    exact kx_iret dX6_tripIn_13 rfl (hQ _ _ (rtI (Option.some.inj h)))
set_option maxHeartbeats 4000000 in
theorem mL_load_40 {G : KG} {τ : KHp} {m : Nat} {ad : Nat → Nat} {Q : KQ} {X : KX}  {a0 : TS × Int32} {z : TS} (hd : Md m ad) (h : loopN (fun w : TS × Int32 => B_load_40  w.1 w.2) 9000 a0 = some z) (kk : kx G (yX6_load.cls, cX6_load, 2, (Option.some Jvm.ClassFile.FieldType.int), false, []) (12, 0, 0, Q, X) 0 0 (MP τ m ad z) 60 (kF [(0, .ref m)]) []) : kx G (yX6_load.cls, cX6_load, 2, (Option.some Jvm.ClassFile.FieldType.int), false, []) (12, 0, 0, Q, X) 0 0 (MP τ m ad a0.1) 40 (kF [(0, .ref m), (1, .int (a0.2))]) [] := by
  refine loopK_1_0 (B := B_load_40 ) (fun (a : TS) (a1 : Int32) => kx G (yX6_load.cls, cX6_load, 2, (Option.some Jvm.ClassFile.FieldType.int), false, []) (12, 0, 0, Q, X) 0 0 (MP τ m ad a) 40 (kF [(0, .ref m), (1, .int (a1))]) []) (fun (b : TS) => kx G (yX6_load.cls, cX6_load, 2, (Option.some Jvm.ClassFile.FieldType.int), false, []) (12, 0, 0, Q, X) 0 0 (MP τ m ad b) 60 (kF [(0, .ref m)]) []) (fun a a1 r h kI kE => ?_) _ _ _ h kk
  · unfold B_load_40 at h
    refine kx_iload_n dX6_load_40 rfl rfl ?_
    refine kx_sipush (v := 1465) dX6_load_41 (by decide) ?_
    refine kx_icmp_ge (tgt := 60) dX6_load_44 (by decide) (fun c => ?_) (fun c => ?_)
    · have h := if_t c h
      exact kx_lwF [(0, .ref m)] ⟨rfl, trivial⟩ (kE (a) (Option.some.inj h).symm)
    · have h := if_f c h
      refine kx_aload_n dX6_load_47 rfl rfl ?_
      refine kx_getf dX6_load_48 fl_X6_21_X6 kN_m rfl ?_
      refine kx_iload_n dX6_load_51 rfl rfl ?_
      refine kx_iconst (v := 0) dX6_load_52 (by decide) ?_
      refine kN_ast hd dX6_load_53 h (fun s40001 es40001 h => ?_)
      refine kx_iinc2 (v := 1) dX6_load_54 rfl (by decide) ?_
      refine kx_goto (tgt := 40) dX6_load_57 (by decide) ?_
      exact kx_lwF [(0, .ref m), (1, .int ((a1 + (1 : Int32))))] ⟨rfl, rfl, trivial⟩ (kI (s40001) ((a1 + (1 : Int32))) (Option.some.inj h).symm)
set_option maxHeartbeats 4000000 in
theorem mL_load_84 {G : KG} {τ : KHp} {m : Nat} {ad : Nat → Nat} {Q : KQ} {X : KX}  {a0 : TS} {z : TS} (hd : Md m ad) (h : loopN (fun w : TS => B_load_84  w) 9000 a0 = some z) (kk : kx G (yX6_load.cls, cX6_load, 2, (Option.some Jvm.ClassFile.FieldType.int), false, []) (12, 0, 0, Q, X) 0 0 (MP τ m ad z) 105 (kF [(0, .ref m)]) []) : kx G (yX6_load.cls, cX6_load, 2, (Option.some Jvm.ClassFile.FieldType.int), false, []) (12, 0, 0, Q, X) 0 0 (MP τ m ad a0) 84 (kF [(0, .ref m)]) [] := by
  refine loopK_0_0 (B := B_load_84 ) (fun (a : TS) => kx G (yX6_load.cls, cX6_load, 2, (Option.some Jvm.ClassFile.FieldType.int), false, []) (12, 0, 0, Q, X) 0 0 (MP τ m ad a) 84 (kF [(0, .ref m)]) []) (fun (b : TS) => kx G (yX6_load.cls, cX6_load, 2, (Option.some Jvm.ClassFile.FieldType.int), false, []) (12, 0, 0, Q, X) 0 0 (MP τ m ad b) 105 (kF [(0, .ref m)]) []) (fun a r h kI kE => ?_) _ _ _ h kk
  · unfold B_load_84 at h
    refine kx_aload_n dX6_load_84 rfl rfl ?_
    obtain ⟨r84001, er84001, h⟩ := bd_s h
    refine kx_callV dX6_load_85 lk_X6_88 (mM_good hd er84001) rfl kN_rc rfl (Nat.le_of_ble_eq_true rfl) (Nat.le_of_ble_eq_true rfl) (Nat.le_of_ble_eq_true rfl) (Nat.le_of_ble_eq_true rfl) (Nat.le_of_ble_eq_true rfl) (fun _ _ _ h => h.elim) (fun w_ σ_ hq => ?_)
    obtain ⟨rfl, rfl⟩ := hq
    refine kx_if_eq (tgt := 105) dX6_load_88 (by decide) (fun c => ?_) (fun c => ?_)
    · have h := if_t c h
      exact kx_lwF [(0, .ref m)] ⟨rfl, trivial⟩ (kE (r84001.1) (Option.some.inj h).symm)
    · have h := if_f c h
      refine kx_aload_n dX6_load_91 rfl rfl ?_
      refine kx_getf dX6_load_92 fl_X6_105_X6 kN_m rfl ?_
      refine kx_if_eq (tgt := 105) dX6_load_95 (by decide) (fun c => ?_) (fun c => ?_)
      · have h := if_t c h
        exact kx_lwF [(0, .ref m)] ⟨rfl, trivial⟩ (kE (r84001.1) (Option.some.inj h).symm)
      · have h := if_f c h
        refine kx_aload_n dX6_load_98 rfl rfl ?_
        obtain ⟨r84002, er84002, h⟩ := bd_s h
        refine kx_callV dX6_load_99 lk_X6_318 (mM_parseStatement hd er84002) rfl kN_rc rfl (Nat.le_of_ble_eq_true rfl) (Nat.le_of_ble_eq_true rfl) (Nat.le_of_ble_eq_true rfl) (Nat.le_of_ble_eq_true rfl) (Nat.le_of_ble_eq_true rfl) (fun _ _ _ h => h.elim) (fun w_ σ_ hq => ?_)
        obtain ⟨rfl, rfl⟩ := hq
        refine kx_goto (tgt := 84) dX6_load_102 (by decide) ?_
        exact kx_lwF [(0, .ref m)] ⟨rfl, trivial⟩ (kI (r84002) (Option.some.inj h).symm)
set_option maxHeartbeats 4000000 in
theorem mL_load_129 {G : KG} {τ : KHp} {m : Nat} {ad : Nat → Nat} {Q : KQ} {X : KX}  {a0 : TS × Int32} {z : TS} (hd : Md m ad) (h : loopN (fun w : TS × Int32 => B_load_129  w.1 w.2) 9000 a0 = some z) (kk : kx G (yX6_load.cls, cX6_load, 2, (Option.some Jvm.ClassFile.FieldType.int), false, []) (12, 0, 0, Q, X) 0 0 (MP τ m ad z) 154 (kF [(0, .ref m)]) []) : kx G (yX6_load.cls, cX6_load, 2, (Option.some Jvm.ClassFile.FieldType.int), false, []) (12, 0, 0, Q, X) 0 0 (MP τ m ad a0.1) 129 (kF [(0, .ref m), (1, .int (a0.2))]) [] := by
  refine loopK_1_0 (B := B_load_129 ) (fun (a : TS) (a1 : Int32) => kx G (yX6_load.cls, cX6_load, 2, (Option.some Jvm.ClassFile.FieldType.int), false, []) (12, 0, 0, Q, X) 0 0 (MP τ m ad a) 129 (kF [(0, .ref m), (1, .int (a1))]) []) (fun (b : TS) => kx G (yX6_load.cls, cX6_load, 2, (Option.some Jvm.ClassFile.FieldType.int), false, []) (12, 0, 0, Q, X) 0 0 (MP τ m ad b) 154 (kF [(0, .ref m)]) []) (fun a a1 r h kI kE => ?_) _ _ _ h kk
  · unfold B_load_129 at h
    refine kx_iload_n dX6_load_129 rfl rfl ?_
    refine kx_sipush (v := 1465) dX6_load_130 (by decide) ?_
    refine kx_icmp_ge (tgt := 154) dX6_load_133 (by decide) (fun c => ?_) (fun c => ?_)
    · have h := if_t c h
      exact kx_lwF [(0, .ref m)] ⟨rfl, trivial⟩ (kE (a) (Option.some.inj h).symm)
    · have h := if_f c h
      refine kx_aload_n dX6_load_136 rfl rfl ?_
      refine kx_getf dX6_load_137 fl_X6_17_X6 kN_m rfl ?_
      refine kx_iload_n dX6_load_140 rfl rfl ?_
      refine kx_aload_n dX6_load_141 rfl rfl ?_
      refine kx_getf dX6_load_142 fl_X6_21_X6 kN_m rfl ?_
      refine kx_iload_n dX6_load_145 rfl rfl ?_
      refine kN_ald hd dX6_load_146 h (fun v129001 ev129001 h => ?_)
      refine kN_ast hd dX6_load_147 h (fun s129002 es129002 h => ?_)
      refine kx_iinc2 (v := 1) dX6_load_148 rfl (by decide) ?_
      refine kx_goto (tgt := 129) dX6_load_151 (by decide) ?_
      exact kx_lwF [(0, .ref m), (1, .int ((a1 + (1 : Int32))))] ⟨rfl, rfl, trivial⟩ (kI (s129002) ((a1 + (1 : Int32))) (Option.some.inj h).symm)
set_option maxHeartbeats 4000000 in
theorem mL_load_156 {G : KG} {τ : KHp} {m : Nat} {ad : Nat → Nat} {Q : KQ} {X : KX}  {a0 : TS × Int32} {z : TS} (hd : Md m ad) (h : loopN (fun w : TS × Int32 => B_load_156  w.1 w.2) 9000 a0 = some z) (kk : kx G (yX6_load.cls, cX6_load, 2, (Option.some Jvm.ClassFile.FieldType.int), false, []) (12, 0, 0, Q, X) 0 0 (MP τ m ad z) 176 (kF [(0, .ref m)]) []) : kx G (yX6_load.cls, cX6_load, 2, (Option.some Jvm.ClassFile.FieldType.int), false, []) (12, 0, 0, Q, X) 0 0 (MP τ m ad a0.1) 156 (kF [(0, .ref m), (1, .int (a0.2))]) [] := by
  refine loopK_1_0 (B := B_load_156 ) (fun (a : TS) (a1 : Int32) => kx G (yX6_load.cls, cX6_load, 2, (Option.some Jvm.ClassFile.FieldType.int), false, []) (12, 0, 0, Q, X) 0 0 (MP τ m ad a) 156 (kF [(0, .ref m), (1, .int (a1))]) []) (fun (b : TS) => kx G (yX6_load.cls, cX6_load, 2, (Option.some Jvm.ClassFile.FieldType.int), false, []) (12, 0, 0, Q, X) 0 0 (MP τ m ad b) 176 (kF [(0, .ref m)]) []) (fun a a1 r h kI kE => ?_) _ _ _ h kk
  · unfold B_load_156 at h
    refine kx_iload_n dX6_load_156 rfl rfl ?_
    refine kx_sipush (v := 160) dX6_load_157 (by decide) ?_
    refine kx_icmp_ge (tgt := 176) dX6_load_160 (by decide) (fun c => ?_) (fun c => ?_)
    · have h := if_t c h
      exact kx_lwF [(0, .ref m)] ⟨rfl, trivial⟩ (kE (a) (Option.some.inj h).symm)
    · have h := if_f c h
      refine kx_aload_n dX6_load_163 rfl rfl ?_
      refine kx_getf dX6_load_164 fl_X6_27_X6 kN_m rfl ?_
      refine kx_iload_n dX6_load_167 rfl rfl ?_
      refine kx_fconst0 dX6_load_168 ?_
      refine kN_fst hd dX6_load_169 h (fun s156001 es156001 h => ?_)
      refine kx_iinc2 (v := 1) dX6_load_170 rfl (by decide) ?_
      refine kx_goto (tgt := 156) dX6_load_173 (by decide) ?_
      exact kx_lwF [(0, .ref m), (1, .int ((a1 + (1 : Int32))))] ⟨rfl, rfl, trivial⟩ (kI (s156001) ((a1 + (1 : Int32))) (Option.some.inj h).symm)
set_option maxHeartbeats 4000000 in
theorem mM_load {G : KG} {τ : KHp} {m : Nat} {ad : Nat → Nat} {s : TS}  {z : TS × Int32} (hd : Md m ad) (h : P_load s  = some z) : kx_c G yX6_load (ws_ yX6_load cX6_load 2 (Option.some Jvm.ClassFile.FieldType.int)) 12 0 0 [.ref m] (MP τ m ad s) (fun rv σ' => rv = some (.int z.2) ∧ σ' = MP τ m ad z.1) kx_n := by
  refine kx_mk3 (ini := false) rfl (Nat.le_of_ble_eq_true rfl) (fun h => by cases h) (fun Q X hQ hX => ?_)
  unfold P_load at h
  refine kx_aload_n dX6_load_0 rfl rfl ?_
  refine kx_iconst (v := 0) dX6_load_1 (by decide) ?_
  refine kN_put dX6_load_2 fl_X6_3_X6 (Or.inl rfl) rfl h rfl (fun s1 es1 h => ?_)
  refine kx_aload_n dX6_load_5 rfl rfl ?_
  refine kx_aload_n dX6_load_6 rfl rfl ?_
  refine kx_getf dX6_load_7 fl_X6_74_X6 kN_m rfl ?_
  refine kN_put dX6_load_10 fl_X6_95_X6 (Or.inl rfl) rfl h rfl (fun s2 es2 h => ?_)
  refine kx_aload_n dX6_load_13 rfl rfl ?_
  refine kx_iconst (v := 0) dX6_load_14 (by decide) ?_
  refine kN_put dX6_load_15 fl_X6_74_X6 (Or.inl rfl) rfl h rfl (fun s3 es3 h => ?_)
  refine kx_aload_n dX6_load_18 rfl rfl ?_
  refine kx_iconst (v := 0) dX6_load_19 (by decide) ?_
  refine kN_put dX6_load_20 fl_X6_98_X6 (Or.inl rfl) rfl h rfl (fun s4 es4 h => ?_)
  refine kx_aload_n dX6_load_23 rfl rfl ?_
  refine kx_iconst (v := 0) dX6_load_24 (by decide) ?_
  refine kN_put dX6_load_25 fl_X6_85_X6 (Or.inl rfl) rfl h rfl (fun s5 es5 h => ?_)
  refine kx_aload_n dX6_load_28 rfl rfl ?_
  refine kx_iconst (v := -1) dX6_load_29 (by decide) ?_
  refine kN_put dX6_load_30 fl_X6_35_X6 (Or.inl rfl) rfl h rfl (fun s6 es6 h => ?_)
  refine kx_aload_n dX6_load_33 rfl rfl ?_
  refine kx_iconst (v := 0) dX6_load_34 (by decide) ?_
  refine kN_putZ dX6_load_35 fl_X6_293_X6 (Or.inl rfl) rfl rfl h rfl (fun s7 es7 h => ?_)
  refine kx_iconst (v := 0) dX6_load_38 (by decide) ?_
  refine kx_istore_n dX6_load_39 rfl (Nat.le_of_ble_eq_true rfl) ?_
  obtain ⟨b8, eb8, h⟩ := bd_s h
  refine kx_lwF [(0, .ref m), (1, .int ((0 : Int32)))] ⟨rfl, rfl, trivial⟩ (mL_load_40 hd (a0 := (s7, (0 : Int32))) eb8 ?_)
  refine kx_aload_n dX6_load_60 rfl rfl ?_
  refine kx_getf dX6_load_61 fl_X6_21_X6 kN_m rfl ?_
  refine kx_bipush (v := 9) dX6_load_64 (by decide) ?_
  refine kx_iconst (v := 1) dX6_load_66 (by decide) ?_
  refine kN_ast hd dX6_load_67 h (fun s9 es9 h => ?_)
  refine kx_aload_n dX6_load_68 rfl rfl ?_
  refine kx_aload_n dX6_load_69 rfl rfl ?_
  refine kx_getf dX6_load_70 fl_X6_21_X6 kN_m rfl ?_
  refine kN_putW dX6_load_73 fl_X6_24_X6 h (fun s10 es10 h => ?_)
  refine kx_aload_n dX6_load_76 rfl rfl ?_
  obtain ⟨r11, er11, h⟩ := bd_s h
  refine kx_callV dX6_load_77 lk_X6_125 (mM_scan hd er11) rfl kN_rc rfl (Nat.le_of_ble_eq_true rfl) (Nat.le_of_ble_eq_true rfl) (Nat.le_of_ble_eq_true rfl) (Nat.le_of_ble_eq_true rfl) (Nat.le_of_ble_eq_true rfl) (fun _ _ _ h => h.elim) (fun w_ σ_ hq => ?_)
  obtain ⟨rfl, rfl⟩ := hq
  refine kx_aload_n dX6_load_80 rfl rfl ?_
  obtain ⟨r12, er12, h⟩ := bd_s h
  refine kx_callV dX6_load_81 lk_X6_315 (mM_parseRecorder hd er12) rfl kN_rc rfl (Nat.le_of_ble_eq_true rfl) (Nat.le_of_ble_eq_true rfl) (Nat.le_of_ble_eq_true rfl) (Nat.le_of_ble_eq_true rfl) (Nat.le_of_ble_eq_true rfl) (fun _ _ _ h => h.elim) (fun w_ σ_ hq => ?_)
  obtain ⟨rfl, rfl⟩ := hq
  obtain ⟨b13, eb13, h⟩ := bd_s h
  refine kx_lwF [(0, .ref m)] ⟨rfl, trivial⟩ (mL_load_84 hd (a0 := (r12)) eb13 ?_)
  refine kx_aload_n dX6_load_105 rfl rfl ?_
  refine kx_aload_n dX6_load_106 rfl rfl ?_
  refine kx_getf dX6_load_107 fl_X6_17_X6 kN_m rfl ?_
  refine kN_putW dX6_load_110 fl_X6_24_X6 h (fun s14 es14 h => ?_)
  refine kx_aload_n dX6_load_113 rfl rfl ?_
  obtain ⟨r15, er15, h⟩ := bd_s h
  refine kx_callV dX6_load_114 lk_X6_88 (mM_good hd er15) rfl kN_rc rfl (Nat.le_of_ble_eq_true rfl) (Nat.le_of_ble_eq_true rfl) (Nat.le_of_ble_eq_true rfl) (Nat.le_of_ble_eq_true rfl) (Nat.le_of_ble_eq_true rfl) (fun _ _ _ h => h.elim) (fun w_ σ_ hq => ?_)
  obtain ⟨rfl, rfl⟩ := hq
  refine kx_if_ne (tgt := 123) dX6_load_117 (by decide) (fun c => ?_) (fun c => ?_)
  · have h := if_f c h
    refine kx_aload_n dX6_load_123 rfl rfl ?_
    obtain ⟨r16, er16, h⟩ := bd_s h
    refine kx_callV dX6_load_124 lk_X6_321 (mM_remember hd er16) rfl kN_rc rfl (Nat.le_of_ble_eq_true rfl) (Nat.le_of_ble_eq_true rfl) (Nat.le_of_ble_eq_true rfl) (Nat.le_of_ble_eq_true rfl) (Nat.le_of_ble_eq_true rfl) (fun _ _ _ h => h.elim) (fun w_ σ_ hq => ?_)
    obtain ⟨rfl, rfl⟩ := hq
    refine kx_iconst (v := 0) dX6_load_127 (by decide) ?_
    refine kx_istore_n dX6_load_128 rfl (Nat.le_of_ble_eq_true rfl) ?_
    obtain ⟨b17, eb17, h⟩ := bd_s h
    refine kx_lwF [(0, .ref m), (1, .int ((0 : Int32)))] ⟨rfl, rfl, trivial⟩ (mL_load_129 hd (a0 := (r16, (0 : Int32))) eb17 ?_)
    refine kx_iconst (v := 0) dX6_load_154 (by decide) ?_
    refine kx_istore_n dX6_load_155 rfl (Nat.le_of_ble_eq_true rfl) ?_
    obtain ⟨b18, eb18, h⟩ := bd_s h
    refine kx_lwF [(0, .ref m), (1, .int ((0 : Int32)))] ⟨rfl, rfl, trivial⟩ (mL_load_156 hd (a0 := (b17, (0 : Int32))) eb18 ?_)
    refine kx_aload_n dX6_load_176 rfl rfl ?_
    refine kx_getf dX6_load_177 fl_X6_17_X6 kN_m rfl ?_
    refine kx_iconst (v := 3) dX6_load_180 (by decide) ?_
    refine kN_ald hd dX6_load_181 h (fun v19 ev19 h => ?_)
    exact kx_iret dX6_load_182 rfl (hQ _ _ (rtI (Option.some.inj h)))
  · have h := if_t c h
    refine kx_bipush (v := -4) dX6_load_120 (by decide) ?_
    exact kx_iret dX6_load_122 rfl (hQ _ _ (rtI (Option.some.inj h)))
