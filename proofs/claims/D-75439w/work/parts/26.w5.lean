set_option maxRecDepth 100000
set_option maxHeartbeats 8000000 in
theorem kw_X7_parseBranch {G : KG} {bc bs : Nat} {σ : KHp} {x0 : Nat} {Q : KHp → Prop} {X : String → Nat → KHp → Prop} (h : W_X7_parseBranch G bc bs σ x0 Q X) : kx_c G yX7_parseBranch (ws_ yX7_parseBranch cX7_parseBranch 2 (Option.none : Option Jvm.ClassFile.FieldType)) 12 bc bs [.ref (x0)] σ (fun rv σ' => rv = none ∧ Q σ') X := by
  refine kx_mk3 (ini := false) rfl (Nat.le_of_ble_eq_true rfl) (fun h => by cases h) (fun Q1 X1 hQ hX => ?_)
  unfold W_X7_parseBranch at h
  refine kx_aload_n dX7_parseBranch_0 rfl rfl ?_
  refine kx_aload_n dX7_parseBranch_1 rfl rfl ?_
  refine kW_gO dX7_parseBranch_2 (kf1 fl_X7_18_X7) h (fun v1 h => ?_)
  obtain ⟨a2, rfl, hUa2⟩ := h
  have h := hUa2
  refine kW_gO dX7_parseBranch_5 (kf1 fl_X7_140_X3) h (fun v3 h => ?_)
  obtain ⟨a4, rfl, hUa4⟩ := h
  have h := hUa4
  obtain ⟨hr, h⟩ := h
  refine kx_callV dX7_parseBranch_8 lk_X7_153 (kw_J2_size h) rfl (wR_rc hr rfl) rfl (Nat.le_of_ble_eq_true rfl) (Nat.le_of_ble_eq_true rfl) (Nat.le_of_ble_eq_true rfl) (Nat.le_of_ble_eq_true rfl) (Nat.le_of_ble_eq_true rfl) (fun _ _ _ hx => kx_out rfl (hX _ _ _ hx)) (fun v_ σ6 hq => ?_)
  obtain ⟨v5, rfl, h⟩ := hq
  refine kx_iconst (v := 4) dX7_parseBranch_11 (by decide) ?_
  refine kW_jIa 20 [.ref (x0)] h (fun v8 σ9 bcv8 bsv8 h => ?_) (fun k7 jk7 h => ?_)
  · skip
    refine kx_iconst (v := 4) dX7_parseBranch_20 (by decide) ?_
    obtain ⟨hr, h⟩ := h
    obtain ⟨c12, c13, hc, hs, h⟩ := h
    refine kx_callV dX7_parseBranch_21 lk_X7_121 (kw_X7_require h) rfl (wR_rc hr rfl) rfl (Nat.le_of_ble_eq_true rfl) (Nat.le_of_ble_eq_true rfl) (Nat.le_of_ble_eq_true rfl) hc hs (fun _ _ _ hx => kx_out rfl (hX _ _ _ hx)) (fun v_ σ11 hq => ?_)
    obtain ⟨rfl, h⟩ := hq
    refine kx_aload_n dX7_parseBranch_24 rfl rfl ?_
    obtain ⟨hr, h⟩ := h
    obtain ⟨c16, c17, hc, hs, h⟩ := h
    refine kx_callV dX7_parseBranch_25 lk_X7_46 (kw_X7_next h) rfl (wR_rc hr rfl) rfl (Nat.le_of_ble_eq_true rfl) (Nat.le_of_ble_eq_true rfl) (Nat.le_of_ble_eq_true rfl) hc hs (fun _ _ _ hx => kx_out rfl (hX _ _ _ hx)) (fun v_ σ15 hq => ?_)
    obtain ⟨rfl, h⟩ := hq
    refine kx_aload_n dX7_parseBranch_28 rfl rfl ?_
    obtain ⟨hr, h⟩ := h
    obtain ⟨c20, c21, hc, hs, h⟩ := h
    refine kx_callV dX7_parseBranch_29 lk_X7_195 (kw_X7_newName h) rfl (wR_rc hr rfl) rfl (Nat.le_of_ble_eq_true rfl) (Nat.le_of_ble_eq_true rfl) (Nat.le_of_ble_eq_true rfl) hc hs (fun _ _ _ hx => kx_out rfl (hX _ _ _ hx)) (fun v_ σ19 hq => ?_)
    obtain ⟨v18, rfl, h⟩ := hq
    refine kx_astore_nO dX7_parseBranch_32 rfl (Nat.le_of_ble_eq_true rfl) ?_
    refine kx_aload_n dX7_parseBranch_33 rfl rfl ?_
    refine kW_gO dX7_parseBranch_34 (kf1 fl_X7_18_X7) h (fun v22 h => ?_)
    obtain ⟨a23, rfl, hUa23⟩ := h
    have h := hUa23
    refine kW_gO dX7_parseBranch_37 (kf1 fl_X7_198_X3) h (fun v24 h => ?_)
    refine kx_aload_n dX7_parseBranch_40 rfl rfl ?_
    refine kW_gO dX7_parseBranch_41 (kf1 fl_X7_18_X7) h (fun v25 h => ?_)
    obtain ⟨a26, rfl, hUa26⟩ := h
    have h := hUa26
    refine kW_gO dX7_parseBranch_44 (kf1 fl_X7_140_X3) h (fun v27 h => ?_)
    obtain ⟨a28, rfl, hUa28⟩ := h
    have h := hUa28
    obtain ⟨hr, h⟩ := h
    refine kx_callV dX7_parseBranch_47 lk_X7_153 (kw_J2_size h) rfl (wR_rc hr rfl) rfl (by cases v24 <;> exact Nat.le_of_ble_eq_true rfl) (Nat.le_of_ble_eq_true rfl) (Nat.le_of_ble_eq_true rfl) (Nat.le_of_ble_eq_true rfl) (Nat.le_of_ble_eq_true rfl) (fun _ _ _ hx => kx_out rfl (hX _ _ _ hx)) (fun v_ σ30 hq => ?_)
    obtain ⟨v29, rfl, h⟩ := hq
    refine kx_aload_n dX7_parseBranch_50 rfl rfl ?_
    refine kx_ldcS dX7_parseBranch_51 ks_ArcRecorder_Parser_202 ?_
    refine kx_iconst (v := 1) dX7_parseBranch_53 (by decide) ?_
    refine kx_bipush (v := 100) dX7_parseBranch_54 (by decide) ?_
    obtain ⟨hr, h⟩ := h
    obtain ⟨c33, c34, hc, hs, h⟩ := h
    refine kx_callV dX7_parseBranch_56 lk_X7_186 (kw_X7_number h) rfl (wR_rc hr rfl) rfl (by cases v24 <;> exact Nat.le_of_ble_eq_true rfl) (Nat.le_of_ble_eq_true rfl) (Nat.le_of_ble_eq_true rfl) hc hs (fun _ _ _ hx => kx_out rfl (hX _ _ _ hx)) (fun v_ σ32 hq => ?_)
    obtain ⟨v31, rfl, h⟩ := hq
    obtain ⟨a35, rfl, hUa35⟩ := h
    have h := hUa35
    refine kW_sI dX7_parseBranch_59 h (fun σ36 h => ?_)
    refine kx_aload_n dX7_parseBranch_60 rfl rfl ?_
    refine kW_gO dX7_parseBranch_61 (kf1 fl_X7_18_X7) h (fun v37 h => ?_)
    obtain ⟨a38, rfl, hUa38⟩ := h
    have h := hUa38
    refine kW_gO dX7_parseBranch_64 (kf1 fl_X7_140_X3) h (fun v39 h => ?_)
    refine kx_aload_nO dX7_parseBranch_67 rfl rfl ?_
    obtain ⟨a40, rfl, hUa40⟩ := h
    have h := hUa40
    obtain ⟨hr, h⟩ := h
    obtain ⟨c43, c44, hc, hs, h⟩ := h
    refine kx_callV dX7_parseBranch_68 lk_X7_203 (kw_J2_add h) rfl (wR_rc hr rfl) rfl (Nat.le_of_ble_eq_true rfl) (Nat.le_of_ble_eq_true rfl) (Nat.le_of_ble_eq_true rfl) hc hs (fun _ _ _ hx => kx_out rfl (hX _ _ _ hx)) (fun v_ σ42 hq => ?_)
    obtain ⟨v41, rfl, h⟩ := hq
    refine kx_pop dX7_parseBranch_71 rfl ?_
    exact kx_vret dX7_parseBranch_72 rfl (hQ _ _ ⟨rfl, h⟩)
  · skip
    refine kx_icmp_ge (tgt := 19) dX7_parseBranch_12 (by decide) (fun c => ?_) (fun c => ?_)
    · have h := w_ift c h
      refine kx_iconst (v := 0) dX7_parseBranch_19 (by decide) ?_
      exact jk7 _ _ _ _ h
    · have h := w_iff c h
      refine kx_iconst (v := 1) dX7_parseBranch_15 (by decide) ?_
      refine kx_goto (tgt := 20) dX7_parseBranch_16 (by decide) ?_
      exact jk7 _ _ _ _ h
set_option maxHeartbeats 8000000 in
theorem kw_X7_parseLoad {G : KG} {bc bs : Nat} {σ : KHp} {x0 : Nat} {x1 : Option Nat} {Q : KHp → Prop} {X : String → Nat → KHp → Prop} (h : W_X7_parseLoad G bc bs σ x0 x1 Q X) : kx_c G yX7_parseLoad (ws_ yX7_parseLoad cX7_parseLoad 9 (Option.none : Option Jvm.ClassFile.FieldType)) 12 bc bs [.ref (x0), va_rf (x1)] σ (fun rv σ' => rv = none ∧ Q σ') X := by
  refine kx_mk3 (ini := false) rfl (by cases x1 <;> exact Nat.le_of_ble_eq_true rfl) (fun h => by cases h) (fun Q1 X1 hQ hX => ?_)
  unfold W_X7_parseLoad at h
  refine kx_lwF [(0, .ref x0), (1, va_rf (x1))] (by cases x1 <;> exact ⟨rfl, rfl, trivial⟩) ?_
  refine kx_aload_n dX7_parseLoad_0 rfl rfl ?_
  refine kx_aload_n dX7_parseLoad_1 rfl rfl ?_
  refine kW_gO dX7_parseLoad_2 (kf1 fl_X7_18_X7) h (fun v1 h => ?_)
  obtain ⟨a2, rfl, hUa2⟩ := h
  have h := hUa2
  refine kW_gO dX7_parseLoad_5 (kf1 fl_X7_212_X3) h (fun v3 h => ?_)
  obtain ⟨a4, rfl, hUa4⟩ := h
  have h := hUa4
  obtain ⟨hr, h⟩ := h
  refine kx_callV dX7_parseLoad_8 lk_X7_153 (kw_J2_size h) rfl (wR_rc hr rfl) rfl (Nat.le_of_ble_eq_true rfl) (Nat.le_of_ble_eq_true rfl) (Nat.le_of_ble_eq_true rfl) (Nat.le_of_ble_eq_true rfl) (Nat.le_of_ble_eq_true rfl) (fun _ _ _ hx => kx_out rfl (hX _ _ _ hx)) (fun v_ σ6 hq => ?_)
  obtain ⟨v5, rfl, h⟩ := hq
  refine kx_bipush (v := 12) dX7_parseLoad_11 (by decide) ?_
  refine kW_jIa 21 [.ref (x0)] h (fun v8 σ9 bcv8 bsv8 h => ?_) (fun k7 jk7 h => ?_)
  · skip
    refine kx_iconst (v := 4) dX7_parseLoad_21 (by decide) ?_
    obtain ⟨hr, h⟩ := h
    obtain ⟨c12, c13, hc, hs, h⟩ := h
    refine kx_callV dX7_parseLoad_22 lk_X7_121 (kw_X7_require h) rfl (wR_rc hr rfl) rfl (Nat.le_of_ble_eq_true rfl) (Nat.le_of_ble_eq_true rfl) (Nat.le_of_ble_eq_true rfl) hc hs (fun _ _ _ hx => kx_out rfl (hX _ _ _ hx)) (fun v_ σ11 hq => ?_)
    obtain ⟨rfl, h⟩ := hq
    refine kx_aload_n dX7_parseLoad_25 rfl rfl ?_
    obtain ⟨hr, h⟩ := h
    obtain ⟨c16, c17, hc, hs, h⟩ := h
    refine kx_callV dX7_parseLoad_26 lk_X7_46 (kw_X7_next h) rfl (wR_rc hr rfl) rfl (Nat.le_of_ble_eq_true rfl) (Nat.le_of_ble_eq_true rfl) (Nat.le_of_ble_eq_true rfl) hc hs (fun _ _ _ hx => kx_out rfl (hX _ _ _ hx)) (fun v_ σ15 hq => ?_)
    obtain ⟨rfl, h⟩ := hq
    refine kx_aload_n dX7_parseLoad_29 rfl rfl ?_
    obtain ⟨hr, h⟩ := h
    obtain ⟨c20, c21, hc, hs, h⟩ := h
    refine kx_callV dX7_parseLoad_30 lk_X7_195 (kw_X7_newName h) rfl (wR_rc hr rfl) rfl (Nat.le_of_ble_eq_true rfl) (Nat.le_of_ble_eq_true rfl) (Nat.le_of_ble_eq_true rfl) hc hs (fun _ _ _ hx => kx_out rfl (hX _ _ _ hx)) (fun v_ σ19 hq => ?_)
    obtain ⟨v18, rfl, h⟩ := hq
    refine kx_astore_nO dX7_parseLoad_33 rfl (Nat.le_of_ble_eq_true rfl) ?_
    refine kx_lwF [(0, .ref (x0)), (1, va_rf (x1)), (2, va_rf (v18))] (by cases x1 <;> exact ⟨rfl, rfl, rfl, trivial⟩) ?_
    refine kx_aload_n dX7_parseLoad_34 rfl rfl ?_
    obtain ⟨hr, h⟩ := h
    obtain ⟨c24, c25, hc, hs, h⟩ := h
    refine kx_callV dX7_parseLoad_35 lk_X7_215 (kw_X7_parseOf h) rfl (wR_rc hr rfl) rfl (Nat.le_of_ble_eq_true rfl) (Nat.le_of_ble_eq_true rfl) (Nat.le_of_ble_eq_true rfl) hc hs (fun _ _ _ hx => kx_out rfl (hX _ _ _ hx)) (fun v_ σ23 hq => ?_)
    obtain ⟨v22, rfl, h⟩ := hq
    refine kx_istore_n dX7_parseLoad_38 rfl (Nat.le_of_ble_eq_true rfl) ?_
    refine kx_lwF [(0, .ref (x0)), (1, va_rf (x1)), (2, va_rf (v18)), (3, .int (v22))] (by cases v18 <;> exact ⟨rfl, rfl, rfl, rfl, trivial⟩) ?_
    refine kx_aload_n dX7_parseLoad_39 rfl rfl ?_
    refine kx_ldcS dX7_parseLoad_40 ks_ArcRecorder_Parser_218 ?_
    refine kx_iconst (v := 1) dX7_parseLoad_42 (by decide) ?_
    refine kx_sipush (v := 500) dX7_parseLoad_43 (by decide) ?_
    obtain ⟨hr, h⟩ := h
    obtain ⟨c28, c29, hc, hs, h⟩ := h
    refine kx_callV dX7_parseLoad_46 lk_X7_186 (kw_X7_number h) rfl (wR_rc hr rfl) rfl (Nat.le_of_ble_eq_true rfl) (Nat.le_of_ble_eq_true rfl) (Nat.le_of_ble_eq_true rfl) hc hs (fun _ _ _ hx => kx_out rfl (hX _ _ _ hx)) (fun v_ σ27 hq => ?_)
    obtain ⟨v26, rfl, h⟩ := hq
    refine kx_istore dX7_parseLoad_49 (Nat.le_of_ble_eq_true rfl) ?_
    refine kx_aload_n dX7_parseLoad_51 rfl rfl ?_
    refine kW_gO dX7_parseLoad_52 (kf1 fl_X7_18_X7) h (fun v30 h => ?_)
    obtain ⟨a31, rfl, hUa31⟩ := h
    have h := hUa31
    refine kW_gI dX7_parseLoad_55 (kf1 fl_X7_182_X3) h (fun v32 h => ?_)
    refine kx_iconst (v := 1) dX7_parseLoad_58 (by decide) ?_
    refine kx_isub dX7_parseLoad_59 ?_
    refine kx_istore dX7_parseLoad_60 (Nat.le_of_ble_eq_true rfl) ?_
    refine kx_aload_nO dX7_parseLoad_62 rfl rfl ?_
    refine kx_astoreO dX7_parseLoad_63 (Nat.le_of_ble_eq_true rfl) ?_
    refine kx_iconst (v := -1) dX7_parseLoad_65 (by decide) ?_
    refine kx_istore dX7_parseLoad_66 (Nat.le_of_ble_eq_true rfl) ?_
    refine kx_lwF [(0, .ref (x0)), (2, va_rf (v18)), (3, .int (v22)), (4, .int (v26)), (5, .int ((v32 - (1 : Int32)))), (6, va_rf (x1)), (7, .int ((-1 : Int32)))] (by cases x1 <;> exact ⟨rfl, rfl, rfl, rfl, rfl, rfl, rfl, trivial⟩) ?_
    refine kx_aloadO dX7_parseLoad_68 rfl ?_
    obtain ⟨a33, rfl, hUa33⟩ := h
    have h := hUa33
    obtain ⟨hr, h⟩ := h
    refine kx_callV dX7_parseLoad_70 lk_X7_220 (kw_J9_hashCode h) rfl (wR_rc hr rfl) rfl (Nat.le_of_ble_eq_true rfl) (Nat.le_of_ble_eq_true rfl) (Nat.le_of_ble_eq_true rfl) (Nat.le_of_ble_eq_true rfl) (Nat.le_of_ble_eq_true rfl) (fun _ _ _ hx => kx_out rfl (hX _ _ _ hx)) (fun v_ σ35 hq => ?_)
    obtain ⟨v34, rfl, h⟩ := hq
    refine kW_jla 153 (fun v43 : Int32 => [(0, .ref (x0)), (2, va_rf (v18)), (3, .int (v22)), (4, .int (v26)), (5, .int ((v32 - (1 : Int32)))), (7, .int (v43))]) h (fun v43 σ44 bcv43 bsv43 h => ?_) (fun k36 jk36 h => ?_)
    · skip
      refine kx_iload dX7_parseLoad_153 rfl ?_
      by_cases c0 : v43 = (0 : Int32)
      · have h := w_ift c0 h
        refine kx_tableIn (tgt := 180) dX7_parseLoad_155 (by rw [c0]; decide) (by rw [c0]; decide) (by rw [c0]; rfl) (by decide) ?_
        refine kx_aload_n dX7_parseLoad_180 rfl rfl ?_
        refine kW_gO dX7_parseLoad_181 (kf1 fl_X7_18_X7) h (fun v45 h => ?_)
        obtain ⟨a46, rfl, hUa46⟩ := h
        have h := hUa46
        refine kW_gO dX7_parseLoad_184 (kf1 fl_X7_212_X3) h (fun v47 h => ?_)
        refine kW_new dX7_parseLoad_187 kc_X10 q1286 q1287 q178 rfl h (fun q48 σ49 h => ?_)
        refine kx_dup dX7_parseLoad_190 rfl ?_
        refine kx_aload_nO dX7_parseLoad_191 rfl rfl ?_
        refine kx_iload_n dX7_parseLoad_192 rfl rfl ?_
        refine kx_iload dX7_parseLoad_193 rfl ?_
        refine kx_callI dX7_parseLoad_195 lk_X7_231 (kw_X10_init h) rfl rfl (by cases v47 <;> exact Nat.le_of_ble_eq_true rfl) (Nat.le_of_ble_eq_true rfl) (Nat.le_of_ble_eq_true rfl) (Nat.le_of_ble_eq_true rfl) (Nat.le_of_ble_eq_true rfl) (fun _ _ _ hx => kx_out rfl (hX _ _ _ hx)) (fun v_ σ51 hq => ?_)
        obtain ⟨rfl, h⟩ := hq
        obtain ⟨a52, rfl, hUa52⟩ := h
        have h := hUa52
        obtain ⟨hr, h⟩ := h
        obtain ⟨c55, c56, hc, hs, h⟩ := h
        refine kx_callV dX7_parseLoad_198 lk_X7_203 (kw_J2_add h) rfl (wR_rc hr rfl) rfl (Nat.le_of_ble_eq_true rfl) (Nat.le_of_ble_eq_true rfl) (Nat.le_of_ble_eq_true rfl) hc hs (fun _ _ _ hx => kx_out rfl (hX _ _ _ hx)) (fun v_ σ54 hq => ?_)
        obtain ⟨v53, rfl, h⟩ := hq
        refine kx_pop dX7_parseLoad_201 rfl ?_
        refine kx_goto (tgt := 317) dX7_parseLoad_202 (by decide) ?_
        exact kx_vret dX7_parseLoad_317 rfl (hQ _ _ ⟨rfl, h⟩)
      have h := w_iff c0 h
      by_cases c1 : v43 = (1 : Int32)
      · have h := w_ift c1 h
        refine kx_tableIn (tgt := 205) dX7_parseLoad_155 (by rw [c1]; decide) (by rw [c1]; decide) (by rw [c1]; rfl) (by decide) ?_
        refine kx_aload_n dX7_parseLoad_205 rfl rfl ?_
        refine kW_gO dX7_parseLoad_206 (kf1 fl_X7_18_X7) h (fun v57 h => ?_)
        obtain ⟨a58, rfl, hUa58⟩ := h
        have h := hUa58
        refine kW_gO dX7_parseLoad_209 (kf1 fl_X7_212_X3) h (fun v59 h => ?_)
        refine kW_new dX7_parseLoad_212 kc_X11 q1309 q1310 q179 rfl h (fun q60 σ61 h => ?_)
        refine kx_dup dX7_parseLoad_215 rfl ?_
        refine kx_aload_nO dX7_parseLoad_216 rfl rfl ?_
        refine kx_iload_n dX7_parseLoad_217 rfl rfl ?_
        refine kx_iload dX7_parseLoad_218 rfl ?_
        refine kx_aload_n dX7_parseLoad_220 rfl rfl ?_
        refine kx_ldcS dX7_parseLoad_221 ks_ArcRecorder_Parser_236 ?_
        refine kx_iconst (v := 0) dX7_parseLoad_223 (by decide) ?_
        refine kx_iload dX7_parseLoad_224 rfl ?_
        obtain ⟨hr, h⟩ := h
        obtain ⟨c64, c65, hc, hs, h⟩ := h
        refine kx_callV dX7_parseLoad_226 lk_X7_186 (kw_X7_number h) rfl (wR_rc hr rfl) rfl (by cases v59 <;> cases v18 <;> exact Nat.le_of_ble_eq_true rfl) (Nat.le_of_ble_eq_true rfl) (Nat.le_of_ble_eq_true rfl) hc hs (fun _ _ _ hx => kx_out rfl (hX _ _ _ hx)) (fun v_ σ63 hq => ?_)
        obtain ⟨v62, rfl, h⟩ := hq
        refine kx_callI dX7_parseLoad_229 lk_X7_238 (kw_X11_init h) rfl rfl (by cases v59 <;> exact Nat.le_of_ble_eq_true rfl) (Nat.le_of_ble_eq_true rfl) (Nat.le_of_ble_eq_true rfl) (Nat.le_of_ble_eq_true rfl) (Nat.le_of_ble_eq_true rfl) (fun _ _ _ hx => kx_out rfl (hX _ _ _ hx)) (fun v_ σ67 hq => ?_)
        obtain ⟨rfl, h⟩ := hq
        obtain ⟨a68, rfl, hUa68⟩ := h
        have h := hUa68
        obtain ⟨hr, h⟩ := h
        obtain ⟨c71, c72, hc, hs, h⟩ := h
        refine kx_callV dX7_parseLoad_232 lk_X7_203 (kw_J2_add h) rfl (wR_rc hr rfl) rfl (Nat.le_of_ble_eq_true rfl) (Nat.le_of_ble_eq_true rfl) (Nat.le_of_ble_eq_true rfl) hc hs (fun _ _ _ hx => kx_out rfl (hX _ _ _ hx)) (fun v_ σ70 hq => ?_)
        obtain ⟨v69, rfl, h⟩ := hq
        refine kx_pop dX7_parseLoad_235 rfl ?_
        refine kx_goto (tgt := 317) dX7_parseLoad_236 (by decide) ?_
        exact kx_vret dX7_parseLoad_317 rfl (hQ _ _ ⟨rfl, h⟩)
      have h := w_iff c1 h
      by_cases c2 : v43 = (2 : Int32)
      · have h := w_ift c2 h
        refine kx_tableIn (tgt := 239) dX7_parseLoad_155 (by rw [c2]; decide) (by rw [c2]; decide) (by rw [c2]; rfl) (by decide) ?_
        refine kx_aload_n dX7_parseLoad_239 rfl rfl ?_
        refine kW_gO dX7_parseLoad_240 (kf1 fl_X7_18_X7) h (fun v73 h => ?_)
        obtain ⟨a74, rfl, hUa74⟩ := h
        have h := hUa74
        refine kW_gO dX7_parseLoad_243 (kf1 fl_X7_212_X3) h (fun v75 h => ?_)
        refine kW_new dX7_parseLoad_246 kc_X12 q1323 q1324 q180 rfl h (fun q76 σ77 h => ?_)
        refine kx_dup dX7_parseLoad_249 rfl ?_
        refine kx_aload_nO dX7_parseLoad_250 rfl rfl ?_
        refine kx_iload_n dX7_parseLoad_251 rfl rfl ?_
        refine kx_iload dX7_parseLoad_252 rfl ?_
        refine kx_aload_n dX7_parseLoad_254 rfl rfl ?_
        refine kx_ldcS dX7_parseLoad_255 ks_ArcRecorder_Parser_243 ?_
        refine kx_iconst (v := 0) dX7_parseLoad_257 (by decide) ?_
        refine kx_iload dX7_parseLoad_258 rfl ?_
        obtain ⟨hr, h⟩ := h
        obtain ⟨c80, c81, hc, hs, h⟩ := h
        refine kx_callV dX7_parseLoad_260 lk_X7_186 (kw_X7_number h) rfl (wR_rc hr rfl) rfl (by cases v75 <;> cases v18 <;> exact Nat.le_of_ble_eq_true rfl) (Nat.le_of_ble_eq_true rfl) (Nat.le_of_ble_eq_true rfl) hc hs (fun _ _ _ hx => kx_out rfl (hX _ _ _ hx)) (fun v_ σ79 hq => ?_)
        obtain ⟨v78, rfl, h⟩ := hq
        refine kx_callI dX7_parseLoad_263 lk_X7_245 (kw_X12_init h) rfl rfl (by cases v75 <;> exact Nat.le_of_ble_eq_true rfl) (Nat.le_of_ble_eq_true rfl) (Nat.le_of_ble_eq_true rfl) (Nat.le_of_ble_eq_true rfl) (Nat.le_of_ble_eq_true rfl) (fun _ _ _ hx => kx_out rfl (hX _ _ _ hx)) (fun v_ σ83 hq => ?_)
        obtain ⟨rfl, h⟩ := hq
        obtain ⟨a84, rfl, hUa84⟩ := h
        have h := hUa84
        obtain ⟨hr, h⟩ := h
        obtain ⟨c87, c88, hc, hs, h⟩ := h
        refine kx_callV dX7_parseLoad_266 lk_X7_203 (kw_J2_add h) rfl (wR_rc hr rfl) rfl (Nat.le_of_ble_eq_true rfl) (Nat.le_of_ble_eq_true rfl) (Nat.le_of_ble_eq_true rfl) hc hs (fun _ _ _ hx => kx_out rfl (hX _ _ _ hx)) (fun v_ σ86 hq => ?_)
        obtain ⟨v85, rfl, h⟩ := hq
        refine kx_pop dX7_parseLoad_269 rfl ?_
        refine kx_goto (tgt := 317) dX7_parseLoad_270 (by decide) ?_
        exact kx_vret dX7_parseLoad_317 rfl (hQ _ _ ⟨rfl, h⟩)
      have h := w_iff c2 h
      refine kx_tableOut (tgt := 273) dX7_parseLoad_155 (tbN (k := 3) (lo := 0) (by decide) (by intro j hj; rcases (show j = 0 ∨ j = 1 ∨ j = 2 by omega) with rfl | rfl | rfl <;> assumption)) (by decide) ?_
      refine kx_aload_n dX7_parseLoad_273 rfl rfl ?_
      refine kx_ldcS dX7_parseLoad_274 ks_ArcRecorder_Parser_246 ?_
      refine kx_iconst (v := 0) dX7_parseLoad_276 (by decide) ?_
      refine kx_iload dX7_parseLoad_277 rfl ?_
      obtain ⟨hr, h⟩ := h
      obtain ⟨c91, c92, hc, hs, h⟩ := h
      refine kx_callV dX7_parseLoad_279 lk_X7_186 (kw_X7_number h) rfl (wR_rc hr rfl) rfl (Nat.le_of_ble_eq_true rfl) (Nat.le_of_ble_eq_true rfl) (Nat.le_of_ble_eq_true rfl) hc hs (fun _ _ _ hx => kx_out rfl (hX _ _ _ hx)) (fun v_ σ90 hq => ?_)
      obtain ⟨v89, rfl, h⟩ := hq
      refine kx_istore dX7_parseLoad_282 (Nat.le_of_ble_eq_true rfl) ?_
      refine kx_aload_n dX7_parseLoad_284 rfl rfl ?_
      refine kW_gO dX7_parseLoad_285 (kf1 fl_X7_18_X7) h (fun v93 h => ?_)
      obtain ⟨a94, rfl, hUa94⟩ := h
      have h := hUa94
      refine kW_gO dX7_parseLoad_288 (kf1 fl_X7_212_X3) h (fun v95 h => ?_)
      refine kW_new dX7_parseLoad_291 kc_X13 q1338 q1339 q181 rfl h (fun q96 σ97 h => ?_)
      refine kx_dup dX7_parseLoad_294 rfl ?_
      refine kx_aload_nO dX7_parseLoad_295 rfl rfl ?_
      refine kx_iload_n dX7_parseLoad_296 rfl rfl ?_
      refine kx_iload dX7_parseLoad_297 rfl ?_
      refine kx_iload dX7_parseLoad_299 rfl ?_
      refine kx_aload_n dX7_parseLoad_301 rfl rfl ?_
      refine kx_ldcS dX7_parseLoad_302 ks_ArcRecorder_Parser_250 ?_
      refine kx_iconst (v := 0) dX7_parseLoad_304 (by decide) ?_
      refine kx_bipush (v := 100) dX7_parseLoad_305 (by decide) ?_
      obtain ⟨hr, h⟩ := h
      obtain ⟨c100, c101, hc, hs, h⟩ := h
      refine kx_callV dX7_parseLoad_307 lk_X7_186 (kw_X7_number h) rfl (wR_rc hr rfl) rfl (by cases v95 <;> cases v18 <;> exact Nat.le_of_ble_eq_true rfl) (Nat.le_of_ble_eq_true rfl) (Nat.le_of_ble_eq_true rfl) hc hs (fun _ _ _ hx => kx_out rfl (hX _ _ _ hx)) (fun v_ σ99 hq => ?_)
      obtain ⟨v98, rfl, h⟩ := hq
      refine kx_callI dX7_parseLoad_310 lk_X7_252 (kw_X13_init h) rfl rfl (by cases v95 <;> exact Nat.le_of_ble_eq_true rfl) (Nat.le_of_ble_eq_true rfl) (Nat.le_of_ble_eq_true rfl) (Nat.le_of_ble_eq_true rfl) (Nat.le_of_ble_eq_true rfl) (fun _ _ _ hx => kx_out rfl (hX _ _ _ hx)) (fun v_ σ103 hq => ?_)
      obtain ⟨rfl, h⟩ := hq
      obtain ⟨a104, rfl, hUa104⟩ := h
      have h := hUa104
      obtain ⟨hr, h⟩ := h
      obtain ⟨c107, c108, hc, hs, h⟩ := h
      refine kx_callV dX7_parseLoad_313 lk_X7_203 (kw_J2_add h) rfl (wR_rc hr rfl) rfl (Nat.le_of_ble_eq_true rfl) (Nat.le_of_ble_eq_true rfl) (Nat.le_of_ble_eq_true rfl) hc hs (fun _ _ _ hx => kx_out rfl (hX _ _ _ hx)) (fun v_ σ106 hq => ?_)
      obtain ⟨v105, rfl, h⟩ := hq
      refine kx_pop dX7_parseLoad_316 rfl ?_
      exact kx_vret dX7_parseLoad_317 rfl (hQ _ _ ⟨rfl, h⟩)
    · skip
      by_cases c0 : v34 = (-1331727278 : Int32)
      · have h := w_ift c0 h
        refine kx_lookup (tgt := 140) (off := 67) dX7_parseLoad_73 (by decide) (by rw [c0]; decide) (by decide) ?_
        refine kx_aload dX7_parseLoad_140 rfl ?_
        refine kx_ldcS dX7_parseLoad_142 ks_ArcRecorder_Parser_227 ?_
        obtain ⟨hr, h⟩ := h
        refine kx_callV dX7_parseLoad_144 lk_X7_115 (kw_J9_equals h) rfl (wR_rc hr rfl) rfl (Nat.le_of_ble_eq_true rfl) (Nat.le_of_ble_eq_true rfl) (Nat.le_of_ble_eq_true rfl) (Nat.le_of_ble_eq_true rfl) (Nat.le_of_ble_eq_true rfl) (fun _ _ _ hx => kx_out rfl (hX _ _ _ hx)) (fun v_ σ38 hq => ?_)
        obtain ⟨v37, rfl, h⟩ := hq
        refine kx_if_eq (tgt := 153) dX7_parseLoad_147 (by decide) (fun c => ?_) (fun c => ?_)
        · have h := w_ift c h
          exact kx_lwF [(0, .ref (x0)), (2, va_rf (v18)), (3, .int (v22)), (4, .int (v26)), (5, .int ((v32 - (1 : Int32)))), (7, .int ((-1 : Int32)))] ⟨rfl, rfl, rfl, rfl, rfl, rfl, trivial⟩ (jk36 (-1 : Int32) _ _ _ h)
        · have h := w_iff c h
          refine kx_iconst (v := 2) dX7_parseLoad_150 (by decide) ?_
          refine kx_istore dX7_parseLoad_151 (Nat.le_of_ble_eq_true rfl) ?_
          exact kx_lwF [(0, .ref (x0)), (2, va_rf (v18)), (3, .int (v22)), (4, .int (v26)), (5, .int ((v32 - (1 : Int32)))), (7, .int ((2 : Int32)))] ⟨rfl, rfl, rfl, rfl, rfl, rfl, trivial⟩ (jk36 (2 : Int32) _ _ _ h)
      have h := w_iff c0 h
      by_cases c1 : v34 = (-1221255523 : Int32)
      · have h := w_ift c1 h
        refine kx_lookup (tgt := 108) (off := 35) dX7_parseLoad_73 (by decide) (by rw [c1]; decide) (by decide) ?_
        refine kx_aload dX7_parseLoad_108 rfl ?_
        refine kx_ldcS dX7_parseLoad_110 ks_ArcRecorder_Parser_223 ?_
        obtain ⟨hr, h⟩ := h
        refine kx_callV dX7_parseLoad_112 lk_X7_115 (kw_J9_equals h) rfl (wR_rc hr rfl) rfl (Nat.le_of_ble_eq_true rfl) (Nat.le_of_ble_eq_true rfl) (Nat.le_of_ble_eq_true rfl) (Nat.le_of_ble_eq_true rfl) (Nat.le_of_ble_eq_true rfl) (fun _ _ _ hx => kx_out rfl (hX _ _ _ hx)) (fun v_ σ40 hq => ?_)
        obtain ⟨v39, rfl, h⟩ := hq
        refine kx_if_eq (tgt := 153) dX7_parseLoad_115 (by decide) (fun c => ?_) (fun c => ?_)
        · have h := w_ift c h
          exact kx_lwF [(0, .ref (x0)), (2, va_rf (v18)), (3, .int (v22)), (4, .int (v26)), (5, .int ((v32 - (1 : Int32)))), (7, .int ((-1 : Int32)))] ⟨rfl, rfl, rfl, rfl, rfl, rfl, trivial⟩ (jk36 (-1 : Int32) _ _ _ h)
        · have h := w_iff c h
          refine kx_iconst (v := 0) dX7_parseLoad_118 (by decide) ?_
          refine kx_istore dX7_parseLoad_119 (Nat.le_of_ble_eq_true rfl) ?_
          refine kx_goto (tgt := 153) dX7_parseLoad_121 (by decide) ?_
          exact kx_lwF [(0, .ref (x0)), (2, va_rf (v18)), (3, .int (v22)), (4, .int (v26)), (5, .int ((v32 - (1 : Int32)))), (7, .int ((0 : Int32)))] ⟨rfl, rfl, rfl, rfl, rfl, rfl, trivial⟩ (jk36 (0 : Int32) _ _ _ h)
      have h := w_iff c1 h
      by_cases c2 : v34 = (104085621 : Int32)
      · have h := w_ift c2 h
        refine kx_lookup (tgt := 124) (off := 51) dX7_parseLoad_73 (by decide) (by rw [c2]; decide) (by decide) ?_
        refine kx_aload dX7_parseLoad_124 rfl ?_
        refine kx_ldcS dX7_parseLoad_126 ks_ArcRecorder_Parser_225 ?_
        obtain ⟨hr, h⟩ := h
        refine kx_callV dX7_parseLoad_128 lk_X7_115 (kw_J9_equals h) rfl (wR_rc hr rfl) rfl (Nat.le_of_ble_eq_true rfl) (Nat.le_of_ble_eq_true rfl) (Nat.le_of_ble_eq_true rfl) (Nat.le_of_ble_eq_true rfl) (Nat.le_of_ble_eq_true rfl) (fun _ _ _ hx => kx_out rfl (hX _ _ _ hx)) (fun v_ σ42 hq => ?_)
        obtain ⟨v41, rfl, h⟩ := hq
        refine kx_if_eq (tgt := 153) dX7_parseLoad_131 (by decide) (fun c => ?_) (fun c => ?_)
        · have h := w_ift c h
          exact kx_lwF [(0, .ref (x0)), (2, va_rf (v18)), (3, .int (v22)), (4, .int (v26)), (5, .int ((v32 - (1 : Int32)))), (7, .int ((-1 : Int32)))] ⟨rfl, rfl, rfl, rfl, rfl, rfl, trivial⟩ (jk36 (-1 : Int32) _ _ _ h)
        · have h := w_iff c h
          refine kx_iconst (v := 1) dX7_parseLoad_134 (by decide) ?_
          refine kx_istore dX7_parseLoad_135 (Nat.le_of_ble_eq_true rfl) ?_
          refine kx_goto (tgt := 153) dX7_parseLoad_137 (by decide) ?_
          exact kx_lwF [(0, .ref (x0)), (2, va_rf (v18)), (3, .int (v22)), (4, .int (v26)), (5, .int ((v32 - (1 : Int32)))), (7, .int ((1 : Int32)))] ⟨rfl, rfl, rfl, rfl, rfl, rfl, trivial⟩ (jk36 (1 : Int32) _ _ _ h)
      have h := w_iff c2 h
      refine kx_lookup (tgt := 153) (off := 80) dX7_parseLoad_73 (by decide) (lk_out (by intro p hp; simp only [List.mem_cons, List.not_mem_nil, or_false] at hp; rcases hp with rfl | rfl | rfl <;> intro hh <;> first | exact c0 (Int32.toInt_inj.mp hh) | exact c1 (Int32.toInt_inj.mp hh) | exact c2 (Int32.toInt_inj.mp hh))) (by decide) ?_
      exact kx_lwF [(0, .ref (x0)), (2, va_rf (v18)), (3, .int (v22)), (4, .int (v26)), (5, .int ((v32 - (1 : Int32)))), (7, .int ((-1 : Int32)))] ⟨rfl, rfl, rfl, rfl, rfl, rfl, trivial⟩ (jk36 (-1 : Int32) _ _ _ h)
  · skip
    refine kx_icmp_ge (tgt := 20) dX7_parseLoad_13 (by decide) (fun c => ?_) (fun c => ?_)
    · have h := w_ift c h
      refine kx_iconst (v := 0) dX7_parseLoad_20 (by decide) ?_
      exact jk7 _ _ _ _ h
    · have h := w_iff c h
      refine kx_iconst (v := 1) dX7_parseLoad_16 (by decide) ?_
      refine kx_goto (tgt := 21) dX7_parseLoad_17 (by decide) ?_
      exact jk7 _ _ _ _ h
set_option maxHeartbeats 8000000 in
theorem kw_X7_parseTests {G : KG} {bc bs : Nat} {σ : KHp} {x0 : Nat} {x1 : Option Nat} {Q : KHp → Prop} {X : String → Nat → KHp → Prop} (h : W_X7_parseTests G bc bs σ x0 x1 Q X) : kx_c G yX7_parseTests (ws_ yX7_parseTests cX7_parseTests 2 (Option.none : Option Jvm.ClassFile.FieldType)) 12 bc bs [.ref (x0), va_rf (x1)] σ (fun rv σ' => rv = none ∧ Q σ') X := by
  refine kx_mk3 (ini := false) rfl (by cases x1 <;> exact Nat.le_of_ble_eq_true rfl) (fun h => by cases h) (fun Q1 X1 hQ hX => ?_)
  unfold W_X7_parseTests at h
  refine kx_lwF [(0, .ref x0), (1, va_rf (x1))] (by cases x1 <;> exact ⟨rfl, rfl, trivial⟩) ?_
  refine kx_lwF [(0, .ref (x0)), (1, va_rf (x1))] ⟨rfl, rfl, trivial⟩ ?_
  refine loopW2_k (fun (σ : KHp) (bc0 bs0 : Nat)  => kx G (yX7_parseTests.cls, cX7_parseTests, 2, (Option.none : Option Jvm.ClassFile.FieldType), false, []) (12, bc, bs, Q1, X1) (bc0) (bs0) σ 0 (kF [(0, .ref (x0)), (1, va_rf (x1))]) []) (fun kI0 hI0 σ bc0 bs0  h => ?_) 9000 σ bc bs h
  unfold WB_X7_parseTests_0 at h
  refine kx_aload_n dX7_parseTests_0 rfl rfl ?_
  refine kx_aload_n dX7_parseTests_1 rfl rfl ?_
  refine kW_gO dX7_parseTests_2 (kf1 fl_X7_42_X7) h (fun v1001 h => ?_)
  refine kx_callSN dX7_parseTests_5 lk_X7_255 (kw_X1_featureOf h) rfl rfl (Nat.le_of_ble_eq_true rfl) (Nat.le_of_ble_eq_true rfl) (Nat.le_of_ble_eq_true rfl) (Nat.le_of_ble_eq_true rfl) (Nat.le_of_ble_eq_true rfl) (fun _ _ _ hx => kx_out rfl (hX _ _ _ hx)) (fun v_ σ1003 hq => ?_)
  obtain ⟨v1002, rfl, h⟩ := hq
  refine kx_iconst (v := -1) dX7_parseTests_8 (by decide) ?_
  refine kW_jIa 17 [.ref (x0)] h (fun v1005 σ1006 bcv1005 bsv1005 h => ?_) (fun k1004 jk1004 h => ?_)
  · skip
    refine kx_iconst (v := 1) dX7_parseTests_17 (by decide) ?_
    obtain ⟨hr, h⟩ := h
    obtain ⟨c1009, c1010, hc, hs, h⟩ := h
    refine kx_callV dX7_parseTests_18 lk_X7_121 (kw_X7_require h) rfl (wR_rc hr rfl) rfl (Nat.le_of_ble_eq_true rfl) (Nat.le_of_ble_eq_true rfl) (Nat.le_of_ble_eq_true rfl) hc hs (fun _ _ _ hx => kx_out rfl (hX _ _ _ hx)) (fun v_ σ1008 hq => ?_)
    obtain ⟨rfl, h⟩ := hq
    refine kx_aload_n dX7_parseTests_21 rfl rfl ?_
    refine kx_aload_nO dX7_parseTests_22 rfl rfl ?_
    obtain ⟨a1011, rfl, hUa1011⟩ := h
    have h := hUa1011
    refine kW_gO dX7_parseTests_23 (kf1 fl_X7_268_X14) h (fun v1012 h => ?_)
    obtain ⟨a1013, rfl, hUa1013⟩ := h
    have h := hUa1013
    obtain ⟨hr, h⟩ := h
    refine kx_callV dX7_parseTests_26 lk_X7_153 (kw_J2_size h) rfl (wR_rc hr rfl) rfl (Nat.le_of_ble_eq_true rfl) (Nat.le_of_ble_eq_true rfl) (Nat.le_of_ble_eq_true rfl) (Nat.le_of_ble_eq_true rfl) (Nat.le_of_ble_eq_true rfl) (fun _ _ _ hx => kx_out rfl (hX _ _ _ hx)) (fun v_ σ1015 hq => ?_)
    obtain ⟨v1014, rfl, h⟩ := hq
    refine kx_bipush (v := 6) dX7_parseTests_29 (by decide) ?_
    refine kW_jIa 39 [.ref (x0)] h (fun v1017 σ1018 bcv1017 bsv1017 h => ?_) (fun k1016 jk1016 h => ?_)
    · skip
      refine kx_iconst (v := 4) dX7_parseTests_39 (by decide) ?_
      obtain ⟨hr, h⟩ := h
      obtain ⟨c1021, c1022, hc, hs, h⟩ := h
      refine kx_callV dX7_parseTests_40 lk_X7_121 (kw_X7_require h) rfl (wR_rc hr rfl) rfl (Nat.le_of_ble_eq_true rfl) (Nat.le_of_ble_eq_true rfl) (Nat.le_of_ble_eq_true rfl) hc hs (fun _ _ _ hx => kx_out rfl (hX _ _ _ hx)) (fun v_ σ1020 hq => ?_)
      obtain ⟨rfl, h⟩ := hq
      refine kx_aload_n dX7_parseTests_43 rfl rfl ?_
      refine kW_gO dX7_parseTests_44 (kf1 fl_X7_268_X14) h (fun v1023 h => ?_)
      refine kx_aload_n dX7_parseTests_47 rfl rfl ?_
      obtain ⟨hr, h⟩ := h
      obtain ⟨c1026, c1027, hc, hs, h⟩ := h
      refine kx_callV dX7_parseTests_48 lk_X7_271 (kw_X7_parseTest h) rfl (wR_rc hr rfl) rfl (by cases v1023 <;> exact Nat.le_of_ble_eq_true rfl) (Nat.le_of_ble_eq_true rfl) (Nat.le_of_ble_eq_true rfl) hc hs (fun _ _ _ hx => kx_out rfl (hX _ _ _ hx)) (fun v_ σ1025 hq => ?_)
      obtain ⟨v1024, rfl, h⟩ := hq
      obtain ⟨a1028, rfl, hUa1028⟩ := h
      have h := hUa1028
      obtain ⟨hr, h⟩ := h
      obtain ⟨c1031, c1032, hc, hs, h⟩ := h
      refine kx_callV dX7_parseTests_51 lk_X7_203 (kw_J2_add h) rfl (wR_rc hr rfl) rfl (Nat.le_of_ble_eq_true rfl) (Nat.le_of_ble_eq_true rfl) (Nat.le_of_ble_eq_true rfl) hc hs (fun _ _ _ hx => kx_out rfl (hX _ _ _ hx)) (fun v_ σ1030 hq => ?_)
      obtain ⟨v1029, rfl, h⟩ := hq
      refine kx_pop dX7_parseTests_54 rfl ?_
      refine kx_aload_n dX7_parseTests_55 rfl rfl ?_
      refine kx_ldcwS dX7_parseTests_56 ks_ArcRecorder_Parser_275 ?_
      obtain ⟨hr, h⟩ := h
      obtain ⟨c1035, c1036, hc, hs, h⟩ := h
      refine kx_callV dX7_parseTests_59 lk_X7_277 (kw_X7_accepts h) rfl (wR_rc hr rfl) rfl (Nat.le_of_ble_eq_true rfl) (Nat.le_of_ble_eq_true rfl) (Nat.le_of_ble_eq_true rfl) hc hs (fun _ _ _ hx => kx_out rfl (hX _ _ _ hx)) (fun v_ σ1034 hq => ?_)
      obtain ⟨v1033, rfl, h⟩ := hq
      refine kx_if_ne (tgt := 0) dX7_parseTests_62 (by decide) (fun c => ?_) (fun c => ?_)
      · have h := w_iff c h
        exact kx_lwF [(0, .ref (x0)), (1, .ref (a1011))] ⟨rfl, rfl, trivial⟩ (hI0 _ _ _ h)
      · have h := w_ift c h
        exact kx_vret dX7_parseTests_65 rfl (hQ _ _ ⟨rfl, h⟩)
    · skip
      refine kx_icmp_ge (tgt := 38) dX7_parseTests_31 (by decide) (fun c => ?_) (fun c => ?_)
      · have h := w_ift c h
        refine kx_iconst (v := 0) dX7_parseTests_38 (by decide) ?_
        exact jk1016 _ _ _ _ h
      · have h := w_iff c h
        refine kx_iconst (v := 1) dX7_parseTests_34 (by decide) ?_
        refine kx_goto (tgt := 39) dX7_parseTests_35 (by decide) ?_
        exact jk1016 _ _ _ _ h
  · skip
    refine kx_icmp_eq (tgt := 16) dX7_parseTests_9 (by decide) (fun c => ?_) (fun c => ?_)
    · have h := w_ift c h
      refine kx_iconst (v := 0) dX7_parseTests_16 (by decide) ?_
      exact jk1004 _ _ _ _ h
    · have h := w_iff c h
      refine kx_iconst (v := 1) dX7_parseTests_12 (by decide) ?_
      refine kx_goto (tgt := 17) dX7_parseTests_13 (by decide) ?_
      exact jk1004 _ _ _ _ h
set_option maxHeartbeats 8000000 in
theorem kw_X7_parseNuisance {G : KG} {bc bs : Nat} {σ : KHp} {x0 : Nat} {Q : KHp → Prop} {X : String → Nat → KHp → Prop} (h : W_X7_parseNuisance G bc bs σ x0 Q X) : kx_c G yX7_parseNuisance (ws_ yX7_parseNuisance cX7_parseNuisance 2 (Option.none : Option Jvm.ClassFile.FieldType)) 13 bc bs [.ref (x0)] σ (fun rv σ' => rv = none ∧ Q σ') X := by
  refine kx_mk3 (ini := false) rfl (Nat.le_of_ble_eq_true rfl) (fun h => by cases h) (fun Q1 X1 hQ hX => ?_)
  unfold W_X7_parseNuisance at h
  refine kx_aload_n dX7_parseNuisance_0 rfl rfl ?_
  refine kx_aload_n dX7_parseNuisance_1 rfl rfl ?_
  refine kW_gO dX7_parseNuisance_2 (kf1 fl_X7_27_X7) h (fun v1 h => ?_)
  obtain ⟨a2, rfl, hUa2⟩ := h
  have h := hUa2
  obtain ⟨hr, h⟩ := h
  refine kx_callV dX7_parseNuisance_5 lk_X7_153 (kw_J2_size h) rfl (wR_rc hr rfl) rfl (Nat.le_of_ble_eq_true rfl) (Nat.le_of_ble_eq_true rfl) (Nat.le_of_ble_eq_true rfl) (Nat.le_of_ble_eq_true rfl) (Nat.le_of_ble_eq_true rfl) (fun _ _ _ hx => kx_out rfl (hX _ _ _ hx)) (fun v_ σ4 hq => ?_)
  obtain ⟨v3, rfl, h⟩ := hq
  refine kx_bipush (v := 8) dX7_parseNuisance_8 (by decide) ?_
  refine kW_jIa 18 [.ref (x0)] h (fun v6 σ7 bcv6 bsv6 h => ?_) (fun k5 jk5 h => ?_)
  · skip
    refine kx_iconst (v := 4) dX7_parseNuisance_18 (by decide) ?_
    obtain ⟨hr, h⟩ := h
    obtain ⟨c10, c11, hc, hs, h⟩ := h
    refine kx_callV dX7_parseNuisance_19 lk_X7_121 (kw_X7_require h) rfl (wR_rc hr rfl) rfl (Nat.le_of_ble_eq_true rfl) (Nat.le_of_ble_eq_true rfl) (Nat.le_of_ble_eq_true rfl) hc hs (fun _ _ _ hx => kx_out rfl (hX _ _ _ hx)) (fun v_ σ9 hq => ?_)
    obtain ⟨rfl, h⟩ := hq
    refine kx_aload_n dX7_parseNuisance_22 rfl rfl ?_
    obtain ⟨hr, h⟩ := h
    obtain ⟨c14, c15, hc, hs, h⟩ := h
    refine kx_callV dX7_parseNuisance_23 lk_X7_46 (kw_X7_next h) rfl (wR_rc hr rfl) rfl (Nat.le_of_ble_eq_true rfl) (Nat.le_of_ble_eq_true rfl) (Nat.le_of_ble_eq_true rfl) hc hs (fun _ _ _ hx => kx_out rfl (hX _ _ _ hx)) (fun v_ σ13 hq => ?_)
    obtain ⟨rfl, h⟩ := hq
    refine kW_new dX7_parseNuisance_26 kc_X14 q1366 q1367 q182 rfl h (fun q16 σ17 h => ?_)
    refine kx_dup dX7_parseNuisance_29 rfl ?_
    refine kx_aload_n dX7_parseNuisance_30 rfl rfl ?_
    obtain ⟨hr, h⟩ := h
    obtain ⟨c20, c21, hc, hs, h⟩ := h
    refine kx_callV dX7_parseNuisance_31 lk_X7_195 (kw_X7_newName h) rfl (wR_rc hr rfl) rfl (Nat.le_of_ble_eq_true rfl) (Nat.le_of_ble_eq_true rfl) (Nat.le_of_ble_eq_true rfl) hc hs (fun _ _ _ hx => kx_out rfl (hX _ _ _ hx)) (fun v_ σ19 hq => ?_)
    obtain ⟨v18, rfl, h⟩ := hq
    refine kx_iconst (v := 0) dX7_parseNuisance_34 (by decide) ?_
    obtain ⟨c24, c25, hc, hs, h⟩ := h
    refine kx_callI dX7_parseNuisance_35 lk_X7_285 (kw_X14_init h) rfl rfl (Nat.le_of_ble_eq_true rfl) (Nat.le_of_ble_eq_true rfl) (Nat.le_of_ble_eq_true rfl) hc hs (fun _ _ _ hx => kx_out rfl (hX _ _ _ hx)) (fun v_ σ23 hq => ?_)
    obtain ⟨rfl, h⟩ := hq
    refine kx_astore_n dX7_parseNuisance_38 rfl (Nat.le_of_ble_eq_true rfl) ?_
    refine kx_aload_n dX7_parseNuisance_39 rfl rfl ?_
    refine kx_aload_n dX7_parseNuisance_40 rfl rfl ?_
    obtain ⟨hr, h⟩ := h
    obtain ⟨c28, c29, hc, hs, h⟩ := h
    refine kx_callV dX7_parseNuisance_41 lk_X7_288 (kw_X7_parseTests h) rfl (wR_rc hr rfl) rfl (Nat.le_of_ble_eq_true rfl) (Nat.le_of_ble_eq_true rfl) (Nat.le_of_ble_eq_true rfl) hc hs (fun _ _ _ hx => kx_out rfl (hX _ _ _ hx)) (fun v_ σ27 hq => ?_)
    obtain ⟨rfl, h⟩ := hq
    refine kx_aload_n dX7_parseNuisance_44 rfl rfl ?_
    refine kW_gO dX7_parseNuisance_45 (kf1 fl_X7_27_X7) h (fun v30 h => ?_)
    refine kW_new dX7_parseNuisance_48 kc_X16 q1272 q1426 q184 rfl h (fun q31 σ32 h => ?_)
    refine kx_dup dX7_parseNuisance_51 rfl ?_
    refine kx_aload_n dX7_parseNuisance_52 rfl rfl ?_
    refine kx_iconst (v := 0) dX7_parseNuisance_53 (by decide) ?_
    refine kx_callI dX7_parseNuisance_54 lk_X7_292 (kw_X16_init h) rfl rfl (by cases v30 <;> exact Nat.le_of_ble_eq_true rfl) (Nat.le_of_ble_eq_true rfl) (Nat.le_of_ble_eq_true rfl) (Nat.le_of_ble_eq_true rfl) (Nat.le_of_ble_eq_true rfl) (fun _ _ _ hx => kx_out rfl (hX _ _ _ hx)) (fun v_ σ34 hq => ?_)
    obtain ⟨rfl, h⟩ := hq
    obtain ⟨a35, rfl, hUa35⟩ := h
    have h := hUa35
    obtain ⟨hr, h⟩ := h
    obtain ⟨c38, c39, hc, hs, h⟩ := h
    refine kx_callV dX7_parseNuisance_57 lk_X7_203 (kw_J2_add h) rfl (wR_rc hr rfl) rfl (Nat.le_of_ble_eq_true rfl) (Nat.le_of_ble_eq_true rfl) (Nat.le_of_ble_eq_true rfl) hc hs (fun _ _ _ hx => kx_out rfl (hX _ _ _ hx)) (fun v_ σ37 hq => ?_)
    obtain ⟨v36, rfl, h⟩ := hq
    refine kx_pop dX7_parseNuisance_60 rfl ?_
    exact kx_vret dX7_parseNuisance_61 rfl (hQ _ _ ⟨rfl, h⟩)
  · skip
    refine kx_icmp_ge (tgt := 17) dX7_parseNuisance_10 (by decide) (fun c => ?_) (fun c => ?_)
    · have h := w_ift c h
      refine kx_iconst (v := 0) dX7_parseNuisance_17 (by decide) ?_
      exact jk5 _ _ _ _ h
    · have h := w_iff c h
      refine kx_iconst (v := 1) dX7_parseNuisance_13 (by decide) ?_
      refine kx_goto (tgt := 18) dX7_parseNuisance_14 (by decide) ?_
      exact jk5 _ _ _ _ h
set_option maxHeartbeats 8000000 in
theorem kw_X7_parseRecorder {G : KG} {bc bs : Nat} {σ : KHp} {x0 : Nat} {Q : KHp → Prop} {X : String → Nat → KHp → Prop} (h : W_X7_parseRecorder G bc bs σ x0 Q X) : kx_c G yX7_parseRecorder (ws_ yX7_parseRecorder cX7_parseRecorder 1 (Option.none : Option Jvm.ClassFile.FieldType)) 12 bc bs [.ref (x0)] σ (fun rv σ' => rv = none ∧ Q σ') X := by
  refine kx_mk3 (ini := false) rfl (Nat.le_of_ble_eq_true rfl) (fun h => by cases h) (fun Q1 X1 hQ hX => ?_)
  unfold W_X7_parseRecorder at h
  refine kx_aload_n dX7_parseRecorder_0 rfl rfl ?_
  refine kx_ldcS dX7_parseRecorder_1 ks_ArcRecorder_Parser_178 ?_
  obtain ⟨hr, h⟩ := h
  obtain ⟨c3, c4, hc, hs, h⟩ := h
  refine kx_callV dX7_parseRecorder_3 lk_X7_125 (kw_X7_accept h) rfl (wR_rc hr rfl) rfl (Nat.le_of_ble_eq_true rfl) (Nat.le_of_ble_eq_true rfl) (Nat.le_of_ble_eq_true rfl) hc hs (fun _ _ _ hx => kx_out rfl (hX _ _ _ hx)) (fun v_ σ2 hq => ?_)
  obtain ⟨rfl, h⟩ := hq
  refine kx_aload_n dX7_parseRecorder_6 rfl rfl ?_
  refine kx_ldcS dX7_parseRecorder_7 ks_ArcRecorder_Parser_180 ?_
  obtain ⟨hr, h⟩ := h
  obtain ⟨c7, c8, hc, hs, h⟩ := h
  refine kx_callV dX7_parseRecorder_9 lk_X7_125 (kw_X7_accept h) rfl (wR_rc hr rfl) rfl (Nat.le_of_ble_eq_true rfl) (Nat.le_of_ble_eq_true rfl) (Nat.le_of_ble_eq_true rfl) hc hs (fun _ _ _ hx => kx_out rfl (hX _ _ _ hx)) (fun v_ σ6 hq => ?_)
  obtain ⟨rfl, h⟩ := hq
  refine kx_aload_n dX7_parseRecorder_12 rfl rfl ?_
  refine kx_aload_n dX7_parseRecorder_13 rfl rfl ?_
  refine kW_gO dX7_parseRecorder_14 (kf1 fl_X7_80_X7) h (fun v9 h => ?_)
  refine kx_gets dX7_parseRecorder_17 kt_ArcRecorder_Token_NUMBER q958 (Or.inl rfl) ?_
  refine kx_acmp_ne (rx := (v9)) (ry := (some (kx_K G 9))) (tgt := 27) dX7_parseRecorder_20 (by decide) (fun c => ?_) (fun c => ?_)
  · have h := w_iff c h
    refine kx_iconst (v := 0) dX7_parseRecorder_27 (by decide) ?_
    refine kx_iconst (v := 1) dX7_parseRecorder_28 (by decide) ?_
    obtain ⟨hr, h⟩ := h
    obtain ⟨c12, c13, hc, hs, h⟩ := h
    refine kx_callV dX7_parseRecorder_29 lk_X7_121 (kw_X7_require h) rfl (wR_rc hr rfl) rfl (Nat.le_of_ble_eq_true rfl) (Nat.le_of_ble_eq_true rfl) (Nat.le_of_ble_eq_true rfl) hc hs (fun _ _ _ hx => kx_out rfl (hX _ _ _ hx)) (fun v_ σ11 hq => ?_)
    obtain ⟨rfl, h⟩ := hq
    refine kx_aload_n dX7_parseRecorder_32 rfl rfl ?_
    refine kx_aload_n dX7_parseRecorder_33 rfl rfl ?_
    refine kW_gI dX7_parseRecorder_34 (kf1 fl_X7_71_X7) h (fun v14 h => ?_)
    refine kx_bipush (v := 8) dX7_parseRecorder_37 (by decide) ?_
    refine kW_jIa 65 [.ref (x0)] h (fun v18 σ19 bcv18 bsv18 h => ?_) (fun k15 jk15 h => ?_)
    · skip
      refine kx_iconst (v := 2) dX7_parseRecorder_65 (by decide) ?_
      obtain ⟨hr, h⟩ := h
      obtain ⟨c22, c23, hc, hs, h⟩ := h
      refine kx_callV dX7_parseRecorder_66 lk_X7_121 (kw_X7_require h) rfl (wR_rc hr rfl) rfl (Nat.le_of_ble_eq_true rfl) (Nat.le_of_ble_eq_true rfl) (Nat.le_of_ble_eq_true rfl) hc hs (fun _ _ _ hx => kx_out rfl (hX _ _ _ hx)) (fun v_ σ21 hq => ?_)
      obtain ⟨rfl, h⟩ := hq
      refine kx_aload_n dX7_parseRecorder_69 rfl rfl ?_
      refine kW_gO dX7_parseRecorder_70 (kf1 fl_X7_18_X7) h (fun v24 h => ?_)
      refine kx_aload_n dX7_parseRecorder_73 rfl rfl ?_
      refine kW_gI dX7_parseRecorder_74 (kf1 fl_X7_71_X7) h (fun v25 h => ?_)
      obtain ⟨a26, rfl, hUa26⟩ := h
      have h := hUa26
      refine kW_p dX7_parseRecorder_77 (kp1 ⟨_, _, _, _, kc_X3, fl_X7_182_X3, Or.inl rfl, rfl, rfl⟩) h (fun σ27 h => ?_)
      refine kx_aload_n dX7_parseRecorder_80 rfl rfl ?_
      obtain ⟨hr, h⟩ := h
      obtain ⟨c30, c31, hc, hs, h⟩ := h
      refine kx_callV dX7_parseRecorder_81 lk_X7_46 (kw_X7_next h) rfl (wR_rc hr rfl) rfl (Nat.le_of_ble_eq_true rfl) (Nat.le_of_ble_eq_true rfl) (Nat.le_of_ble_eq_true rfl) hc hs (fun _ _ _ hx => kx_out rfl (hX _ _ _ hx)) (fun v_ σ29 hq => ?_)
      obtain ⟨rfl, h⟩ := hq
      refine kx_aload_n dX7_parseRecorder_84 rfl rfl ?_
      refine kW_gO dX7_parseRecorder_85 (kf1 fl_X7_18_X7) h (fun v32 h => ?_)
      refine kx_aload_n dX7_parseRecorder_88 rfl rfl ?_
      refine kx_ldcS dX7_parseRecorder_89 ks_ArcRecorder_Parser_184 ?_
      refine kx_iconst (v := 1) dX7_parseRecorder_91 (by decide) ?_
      refine kx_bipush (v := 64) dX7_parseRecorder_92 (by decide) ?_
      obtain ⟨hr, h⟩ := h
      obtain ⟨c35, c36, hc, hs, h⟩ := h
      refine kx_callV dX7_parseRecorder_94 lk_X7_186 (kw_X7_number h) rfl (wR_rc hr rfl) rfl (by cases v32 <;> exact Nat.le_of_ble_eq_true rfl) (Nat.le_of_ble_eq_true rfl) (Nat.le_of_ble_eq_true rfl) hc hs (fun _ _ _ hx => kx_out rfl (hX _ _ _ hx)) (fun v_ σ34 hq => ?_)
      obtain ⟨v33, rfl, h⟩ := hq
      obtain ⟨a37, rfl, hUa37⟩ := h
      have h := hUa37
      refine kW_p dX7_parseRecorder_97 (kp1 ⟨_, _, _, _, kc_X3, fl_X7_189_X3, Or.inl rfl, rfl, rfl⟩) h (fun σ38 h => ?_)
      refine kx_aload_n dX7_parseRecorder_100 rfl rfl ?_
      refine kW_gO dX7_parseRecorder_101 (kf1 fl_X7_18_X7) h (fun v39 h => ?_)
      refine kx_aload_n dX7_parseRecorder_104 rfl rfl ?_
      refine kx_ldcS dX7_parseRecorder_105 ks_ArcRecorder_Parser_191 ?_
      refine kx_iconst (v := 1) dX7_parseRecorder_107 (by decide) ?_
      refine kx_aload_n dX7_parseRecorder_108 rfl rfl ?_
      refine kW_gO dX7_parseRecorder_109 (kf1 fl_X7_18_X7) h (fun v40 h => ?_)
      obtain ⟨a41, rfl, hUa41⟩ := h
      have h := hUa41
      refine kW_gI dX7_parseRecorder_112 (kf1 fl_X7_189_X3) h (fun v42 h => ?_)
      obtain ⟨hr, h⟩ := h
      obtain ⟨c45, c46, hc, hs, h⟩ := h
      refine kx_callV dX7_parseRecorder_115 lk_X7_186 (kw_X7_number h) rfl (wR_rc hr rfl) rfl (by cases v39 <;> exact Nat.le_of_ble_eq_true rfl) (Nat.le_of_ble_eq_true rfl) (Nat.le_of_ble_eq_true rfl) hc hs (fun _ _ _ hx => kx_out rfl (hX _ _ _ hx)) (fun v_ σ44 hq => ?_)
      obtain ⟨v43, rfl, h⟩ := hq
      obtain ⟨a47, rfl, hUa47⟩ := h
      have h := hUa47
      refine kW_p dX7_parseRecorder_118 (kp1 ⟨_, _, _, _, kc_X3, fl_X7_193_X3, Or.inl rfl, rfl, rfl⟩) h (fun σ48 h => ?_)
      exact kx_vret dX7_parseRecorder_121 rfl (hQ _ _ ⟨rfl, h⟩)
    · skip
      refine kx_icmp_eq (tgt := 60) dX7_parseRecorder_39 (by decide) (fun c => ?_) (fun c => ?_)
      · have h := w_ift c h
        refine kx_iconst (v := 1) dX7_parseRecorder_60 (by decide) ?_
        refine kx_goto (tgt := 65) dX7_parseRecorder_61 (by decide) ?_
        exact jk15 _ _ _ _ h
      · have h := w_iff c h
        refine kx_aload_n dX7_parseRecorder_42 rfl rfl ?_
        refine kW_gI dX7_parseRecorder_43 (kf1 fl_X7_71_X7) h (fun v16 h => ?_)
        refine kx_bipush (v := 16) dX7_parseRecorder_46 (by decide) ?_
        refine kx_icmp_eq (tgt := 60) dX7_parseRecorder_48 (by decide) (fun c => ?_) (fun c => ?_)
        · have h := w_ift c h
          refine kx_iconst (v := 1) dX7_parseRecorder_60 (by decide) ?_
          refine kx_goto (tgt := 65) dX7_parseRecorder_61 (by decide) ?_
          exact jk15 _ _ _ _ h
        · have h := w_iff c h
          refine kx_aload_n dX7_parseRecorder_51 rfl rfl ?_
          refine kW_gI dX7_parseRecorder_52 (kf1 fl_X7_71_X7) h (fun v17 h => ?_)
          refine kx_bipush (v := 32) dX7_parseRecorder_55 (by decide) ?_
          refine kx_icmp_ne (tgt := 64) dX7_parseRecorder_57 (by decide) (fun c => ?_) (fun c => ?_)
          · have h := w_iff c h
            refine kx_iconst (v := 0) dX7_parseRecorder_64 (by decide) ?_
            exact jk15 _ _ _ _ h
          · have h := w_ift c h
            refine kx_iconst (v := 1) dX7_parseRecorder_60 (by decide) ?_
            refine kx_goto (tgt := 65) dX7_parseRecorder_61 (by decide) ?_
            exact jk15 _ _ _ _ h
  · have h := w_ift c h
    refine kx_iconst (v := 1) dX7_parseRecorder_23 (by decide) ?_
    refine kx_goto (tgt := 28) dX7_parseRecorder_24 (by decide) ?_
    refine kx_iconst (v := 1) dX7_parseRecorder_28 (by decide) ?_
    obtain ⟨hr, h⟩ := h
    obtain ⟨c51, c52, hc, hs, h⟩ := h
    refine kx_callV dX7_parseRecorder_29 lk_X7_121 (kw_X7_require h) rfl (wR_rc hr rfl) rfl (Nat.le_of_ble_eq_true rfl) (Nat.le_of_ble_eq_true rfl) (Nat.le_of_ble_eq_true rfl) hc hs (fun _ _ _ hx => kx_out rfl (hX _ _ _ hx)) (fun v_ σ50 hq => ?_)
    obtain ⟨rfl, h⟩ := hq
    refine kx_aload_n dX7_parseRecorder_32 rfl rfl ?_
    refine kx_aload_n dX7_parseRecorder_33 rfl rfl ?_
    refine kW_gI dX7_parseRecorder_34 (kf1 fl_X7_71_X7) h (fun v53 h => ?_)
    refine kx_bipush (v := 8) dX7_parseRecorder_37 (by decide) ?_
    refine kW_jIa 65 [.ref (x0)] h (fun v57 σ58 bcv57 bsv57 h => ?_) (fun k54 jk54 h => ?_)
    · skip
      refine kx_iconst (v := 2) dX7_parseRecorder_65 (by decide) ?_
      obtain ⟨hr, h⟩ := h
      obtain ⟨c61, c62, hc, hs, h⟩ := h
      refine kx_callV dX7_parseRecorder_66 lk_X7_121 (kw_X7_require h) rfl (wR_rc hr rfl) rfl (Nat.le_of_ble_eq_true rfl) (Nat.le_of_ble_eq_true rfl) (Nat.le_of_ble_eq_true rfl) hc hs (fun _ _ _ hx => kx_out rfl (hX _ _ _ hx)) (fun v_ σ60 hq => ?_)
      obtain ⟨rfl, h⟩ := hq
      refine kx_aload_n dX7_parseRecorder_69 rfl rfl ?_
      refine kW_gO dX7_parseRecorder_70 (kf1 fl_X7_18_X7) h (fun v63 h => ?_)
      refine kx_aload_n dX7_parseRecorder_73 rfl rfl ?_
      refine kW_gI dX7_parseRecorder_74 (kf1 fl_X7_71_X7) h (fun v64 h => ?_)
      obtain ⟨a65, rfl, hUa65⟩ := h
      have h := hUa65
      refine kW_p dX7_parseRecorder_77 (kp1 ⟨_, _, _, _, kc_X3, fl_X7_182_X3, Or.inl rfl, rfl, rfl⟩) h (fun σ66 h => ?_)
      refine kx_aload_n dX7_parseRecorder_80 rfl rfl ?_
      obtain ⟨hr, h⟩ := h
      obtain ⟨c69, c70, hc, hs, h⟩ := h
      refine kx_callV dX7_parseRecorder_81 lk_X7_46 (kw_X7_next h) rfl (wR_rc hr rfl) rfl (Nat.le_of_ble_eq_true rfl) (Nat.le_of_ble_eq_true rfl) (Nat.le_of_ble_eq_true rfl) hc hs (fun _ _ _ hx => kx_out rfl (hX _ _ _ hx)) (fun v_ σ68 hq => ?_)
      obtain ⟨rfl, h⟩ := hq
      refine kx_aload_n dX7_parseRecorder_84 rfl rfl ?_
      refine kW_gO dX7_parseRecorder_85 (kf1 fl_X7_18_X7) h (fun v71 h => ?_)
      refine kx_aload_n dX7_parseRecorder_88 rfl rfl ?_
      refine kx_ldcS dX7_parseRecorder_89 ks_ArcRecorder_Parser_184 ?_
      refine kx_iconst (v := 1) dX7_parseRecorder_91 (by decide) ?_
      refine kx_bipush (v := 64) dX7_parseRecorder_92 (by decide) ?_
      obtain ⟨hr, h⟩ := h
      obtain ⟨c74, c75, hc, hs, h⟩ := h
      refine kx_callV dX7_parseRecorder_94 lk_X7_186 (kw_X7_number h) rfl (wR_rc hr rfl) rfl (by cases v71 <;> exact Nat.le_of_ble_eq_true rfl) (Nat.le_of_ble_eq_true rfl) (Nat.le_of_ble_eq_true rfl) hc hs (fun _ _ _ hx => kx_out rfl (hX _ _ _ hx)) (fun v_ σ73 hq => ?_)
      obtain ⟨v72, rfl, h⟩ := hq
      obtain ⟨a76, rfl, hUa76⟩ := h
      have h := hUa76
      refine kW_p dX7_parseRecorder_97 (kp1 ⟨_, _, _, _, kc_X3, fl_X7_189_X3, Or.inl rfl, rfl, rfl⟩) h (fun σ77 h => ?_)
      refine kx_aload_n dX7_parseRecorder_100 rfl rfl ?_
      refine kW_gO dX7_parseRecorder_101 (kf1 fl_X7_18_X7) h (fun v78 h => ?_)
      refine kx_aload_n dX7_parseRecorder_104 rfl rfl ?_
      refine kx_ldcS dX7_parseRecorder_105 ks_ArcRecorder_Parser_191 ?_
      refine kx_iconst (v := 1) dX7_parseRecorder_107 (by decide) ?_
      refine kx_aload_n dX7_parseRecorder_108 rfl rfl ?_
      refine kW_gO dX7_parseRecorder_109 (kf1 fl_X7_18_X7) h (fun v79 h => ?_)
      obtain ⟨a80, rfl, hUa80⟩ := h
      have h := hUa80
      refine kW_gI dX7_parseRecorder_112 (kf1 fl_X7_189_X3) h (fun v81 h => ?_)
      obtain ⟨hr, h⟩ := h
      obtain ⟨c84, c85, hc, hs, h⟩ := h
      refine kx_callV dX7_parseRecorder_115 lk_X7_186 (kw_X7_number h) rfl (wR_rc hr rfl) rfl (by cases v78 <;> exact Nat.le_of_ble_eq_true rfl) (Nat.le_of_ble_eq_true rfl) (Nat.le_of_ble_eq_true rfl) hc hs (fun _ _ _ hx => kx_out rfl (hX _ _ _ hx)) (fun v_ σ83 hq => ?_)
      obtain ⟨v82, rfl, h⟩ := hq
      obtain ⟨a86, rfl, hUa86⟩ := h
      have h := hUa86
      refine kW_p dX7_parseRecorder_118 (kp1 ⟨_, _, _, _, kc_X3, fl_X7_193_X3, Or.inl rfl, rfl, rfl⟩) h (fun σ87 h => ?_)
      exact kx_vret dX7_parseRecorder_121 rfl (hQ _ _ ⟨rfl, h⟩)
    · skip
      refine kx_icmp_eq (tgt := 60) dX7_parseRecorder_39 (by decide) (fun c => ?_) (fun c => ?_)
      · have h := w_ift c h
        refine kx_iconst (v := 1) dX7_parseRecorder_60 (by decide) ?_
        refine kx_goto (tgt := 65) dX7_parseRecorder_61 (by decide) ?_
        exact jk54 _ _ _ _ h
      · have h := w_iff c h
        refine kx_aload_n dX7_parseRecorder_42 rfl rfl ?_
        refine kW_gI dX7_parseRecorder_43 (kf1 fl_X7_71_X7) h (fun v55 h => ?_)
        refine kx_bipush (v := 16) dX7_parseRecorder_46 (by decide) ?_
        refine kx_icmp_eq (tgt := 60) dX7_parseRecorder_48 (by decide) (fun c => ?_) (fun c => ?_)
        · have h := w_ift c h
          refine kx_iconst (v := 1) dX7_parseRecorder_60 (by decide) ?_
          refine kx_goto (tgt := 65) dX7_parseRecorder_61 (by decide) ?_
          exact jk54 _ _ _ _ h
        · have h := w_iff c h
          refine kx_aload_n dX7_parseRecorder_51 rfl rfl ?_
          refine kW_gI dX7_parseRecorder_52 (kf1 fl_X7_71_X7) h (fun v56 h => ?_)
          refine kx_bipush (v := 32) dX7_parseRecorder_55 (by decide) ?_
          refine kx_icmp_ne (tgt := 64) dX7_parseRecorder_57 (by decide) (fun c => ?_) (fun c => ?_)
          · have h := w_iff c h
            refine kx_iconst (v := 0) dX7_parseRecorder_64 (by decide) ?_
            exact jk54 _ _ _ _ h
          · have h := w_ift c h
            refine kx_iconst (v := 1) dX7_parseRecorder_60 (by decide) ?_
            refine kx_goto (tgt := 65) dX7_parseRecorder_61 (by decide) ?_
            exact jk54 _ _ _ _ h
set_option maxHeartbeats 8000000 in
theorem kw_X7_parseSignature {G : KG} {bc bs : Nat} {σ : KHp} {x0 : Nat} {Q : KHp → Prop} {X : String → Nat → KHp → Prop} (h : W_X7_parseSignature G bc bs σ x0 Q X) : kx_c G yX7_parseSignature (ws_ yX7_parseSignature cX7_parseSignature 3 (Option.none : Option Jvm.ClassFile.FieldType)) 13 bc bs [.ref (x0)] σ (fun rv σ' => rv = none ∧ Q σ') X := by
  refine kx_mk3 (ini := false) rfl (Nat.le_of_ble_eq_true rfl) (fun h => by cases h) (fun Q1 X1 hQ hX => ?_)
  unfold W_X7_parseSignature at h
  refine kx_aload_n dX7_parseSignature_0 rfl rfl ?_
  refine kx_aload_n dX7_parseSignature_1 rfl rfl ?_
  refine kW_gO dX7_parseSignature_2 (kf1 fl_X7_18_X7) h (fun v1 h => ?_)
  obtain ⟨a2, rfl, hUa2⟩ := h
  have h := hUa2
  refine kW_gO dX7_parseSignature_5 (kf1 fl_X7_280_X3) h (fun v3 h => ?_)
  obtain ⟨a4, rfl, hUa4⟩ := h
  have h := hUa4
  obtain ⟨hr, h⟩ := h
  refine kx_callV dX7_parseSignature_8 lk_X7_153 (kw_J2_size h) rfl (wR_rc hr rfl) rfl (Nat.le_of_ble_eq_true rfl) (Nat.le_of_ble_eq_true rfl) (Nat.le_of_ble_eq_true rfl) (Nat.le_of_ble_eq_true rfl) (Nat.le_of_ble_eq_true rfl) (fun _ _ _ hx => kx_out rfl (hX _ _ _ hx)) (fun v_ σ6 hq => ?_)
  obtain ⟨v5, rfl, h⟩ := hq
  refine kx_bipush (v := 6) dX7_parseSignature_11 (by decide) ?_
  refine kW_jIa 21 [.ref (x0)] h (fun v8 σ9 bcv8 bsv8 h => ?_) (fun k7 jk7 h => ?_)
  · skip
    refine kx_iconst (v := 4) dX7_parseSignature_21 (by decide) ?_
    obtain ⟨hr, h⟩ := h
    obtain ⟨c12, c13, hc, hs, h⟩ := h
    refine kx_callV dX7_parseSignature_22 lk_X7_121 (kw_X7_require h) rfl (wR_rc hr rfl) rfl (Nat.le_of_ble_eq_true rfl) (Nat.le_of_ble_eq_true rfl) (Nat.le_of_ble_eq_true rfl) hc hs (fun _ _ _ hx => kx_out rfl (hX _ _ _ hx)) (fun v_ σ11 hq => ?_)
    obtain ⟨rfl, h⟩ := hq
    refine kx_aload_n dX7_parseSignature_25 rfl rfl ?_
    obtain ⟨hr, h⟩ := h
    obtain ⟨c16, c17, hc, hs, h⟩ := h
    refine kx_callV dX7_parseSignature_26 lk_X7_46 (kw_X7_next h) rfl (wR_rc hr rfl) rfl (Nat.le_of_ble_eq_true rfl) (Nat.le_of_ble_eq_true rfl) (Nat.le_of_ble_eq_true rfl) hc hs (fun _ _ _ hx => kx_out rfl (hX _ _ _ hx)) (fun v_ σ15 hq => ?_)
    obtain ⟨rfl, h⟩ := hq
    refine kx_aload_n dX7_parseSignature_29 rfl rfl ?_
    obtain ⟨hr, h⟩ := h
    obtain ⟨c20, c21, hc, hs, h⟩ := h
    refine kx_callV dX7_parseSignature_30 lk_X7_195 (kw_X7_newName h) rfl (wR_rc hr rfl) rfl (Nat.le_of_ble_eq_true rfl) (Nat.le_of_ble_eq_true rfl) (Nat.le_of_ble_eq_true rfl) hc hs (fun _ _ _ hx => kx_out rfl (hX _ _ _ hx)) (fun v_ σ19 hq => ?_)
    obtain ⟨v18, rfl, h⟩ := hq
    refine kx_astore_nO dX7_parseSignature_33 rfl (Nat.le_of_ble_eq_true rfl) ?_
    refine kW_new dX7_parseSignature_34 kc_X14 q1366 q1367 q182 rfl h (fun q22 σ23 h => ?_)
    refine kx_dup dX7_parseSignature_37 rfl ?_
    refine kx_aload_nO dX7_parseSignature_38 rfl rfl ?_
    refine kx_aload_n dX7_parseSignature_39 rfl rfl ?_
    refine kx_ldcwS dX7_parseSignature_40 ks_ArcRecorder_Parser_283 ?_
    obtain ⟨hr, h⟩ := h
    obtain ⟨c26, c27, hc, hs, h⟩ := h
    refine kx_callV dX7_parseSignature_43 lk_X7_277 (kw_X7_accepts h) rfl (wR_rc hr rfl) rfl (by cases v18 <;> exact Nat.le_of_ble_eq_true rfl) (Nat.le_of_ble_eq_true rfl) (Nat.le_of_ble_eq_true rfl) hc hs (fun _ _ _ hx => kx_out rfl (hX _ _ _ hx)) (fun v_ σ25 hq => ?_)
    obtain ⟨v24, rfl, h⟩ := hq
    obtain ⟨c30, c31, hc, hs, h⟩ := h
    refine kx_callI dX7_parseSignature_46 lk_X7_285 (kw_X14_init h) rfl rfl (Nat.le_of_ble_eq_true rfl) (Nat.le_of_ble_eq_true rfl) (Nat.le_of_ble_eq_true rfl) hc hs (fun _ _ _ hx => kx_out rfl (hX _ _ _ hx)) (fun v_ σ29 hq => ?_)
    obtain ⟨rfl, h⟩ := hq
    refine kx_astore_n dX7_parseSignature_49 rfl (Nat.le_of_ble_eq_true rfl) ?_
    refine kx_aload_n dX7_parseSignature_50 rfl rfl ?_
    refine kx_aload_n dX7_parseSignature_51 rfl rfl ?_
    obtain ⟨hr, h⟩ := h
    obtain ⟨c34, c35, hc, hs, h⟩ := h
    refine kx_callV dX7_parseSignature_52 lk_X7_288 (kw_X7_parseTests h) rfl (wR_rc hr rfl) rfl (Nat.le_of_ble_eq_true rfl) (Nat.le_of_ble_eq_true rfl) (Nat.le_of_ble_eq_true rfl) hc hs (fun _ _ _ hx => kx_out rfl (hX _ _ _ hx)) (fun v_ σ33 hq => ?_)
    obtain ⟨rfl, h⟩ := hq
    refine kx_aload_n dX7_parseSignature_55 rfl rfl ?_
    refine kW_gO dX7_parseSignature_56 (kf1 fl_X7_18_X7) h (fun v36 h => ?_)
    obtain ⟨a37, rfl, hUa37⟩ := h
    have h := hUa37
    refine kW_gO dX7_parseSignature_59 (kf1 fl_X7_280_X3) h (fun v38 h => ?_)
    refine kx_aload_n dX7_parseSignature_62 rfl rfl ?_
    obtain ⟨a39, rfl, hUa39⟩ := h
    have h := hUa39
    obtain ⟨hr, h⟩ := h
    obtain ⟨c42, c43, hc, hs, h⟩ := h
    refine kx_callV dX7_parseSignature_63 lk_X7_203 (kw_J2_add h) rfl (wR_rc hr rfl) rfl (Nat.le_of_ble_eq_true rfl) (Nat.le_of_ble_eq_true rfl) (Nat.le_of_ble_eq_true rfl) hc hs (fun _ _ _ hx => kx_out rfl (hX _ _ _ hx)) (fun v_ σ41 hq => ?_)
    obtain ⟨v40, rfl, h⟩ := hq
    refine kx_pop dX7_parseSignature_66 rfl ?_
    exact kx_vret dX7_parseSignature_67 rfl (hQ _ _ ⟨rfl, h⟩)
  · skip
    refine kx_icmp_ge (tgt := 20) dX7_parseSignature_13 (by decide) (fun c => ?_) (fun c => ?_)
    · have h := w_ift c h
      refine kx_iconst (v := 0) dX7_parseSignature_20 (by decide) ?_
      exact jk7 _ _ _ _ h
    · have h := w_iff c h
      refine kx_iconst (v := 1) dX7_parseSignature_16 (by decide) ?_
      refine kx_goto (tgt := 21) dX7_parseSignature_17 (by decide) ?_
      exact jk7 _ _ _ _ h
set_option maxHeartbeats 8000000 in
theorem kw_X7_parseStatement {G : KG} {bc bs : Nat} {σ : KHp} {x0 : Nat} {Q : KHp → Prop} {X : String → Nat → KHp → Prop} (h : W_X7_parseStatement G bc bs σ x0 Q X) : kx_c G yX7_parseStatement (ws_ yX7_parseStatement cX7_parseStatement 3 (Option.none : Option Jvm.ClassFile.FieldType)) 14 bc bs [.ref (x0)] σ (fun rv σ' => rv = none ∧ Q σ') X := by
  refine kx_mk3 (ini := false) rfl (Nat.le_of_ble_eq_true rfl) (fun h => by cases h) (fun Q1 X1 hQ hX => ?_)
  unfold W_X7_parseStatement at h
  refine kx_aload_n dX7_parseStatement_0 rfl rfl ?_
  refine kW_gO dX7_parseStatement_1 (kf1 fl_X7_42_X7) h (fun v1 h => ?_)
  refine kx_astore_nO dX7_parseStatement_4 rfl (Nat.le_of_ble_eq_true rfl) ?_
  refine kx_iconst (v := -1) dX7_parseStatement_5 (by decide) ?_
  refine kx_istore_n dX7_parseStatement_6 rfl (Nat.le_of_ble_eq_true rfl) ?_
  refine kx_lwF [(0, .ref (x0)), (1, va_rf (v1)), (2, .int ((-1 : Int32)))] (by cases v1 <;> exact ⟨rfl, rfl, rfl, trivial⟩) ?_
  refine kx_aload_nO dX7_parseStatement_7 rfl rfl ?_
  obtain ⟨a2, rfl, hUa2⟩ := h
  have h := hUa2
  obtain ⟨hr, h⟩ := h
  refine kx_callV dX7_parseStatement_8 lk_X7_220 (kw_J9_hashCode h) rfl (wR_rc hr rfl) rfl (Nat.le_of_ble_eq_true rfl) (Nat.le_of_ble_eq_true rfl) (Nat.le_of_ble_eq_true rfl) (Nat.le_of_ble_eq_true rfl) (Nat.le_of_ble_eq_true rfl) (fun _ _ _ hx => kx_out rfl (hX _ _ _ hx)) (fun v_ σ4 hq => ?_)
  obtain ⟨v3, rfl, h⟩ := hq
  refine kW_jla 224 (fun v24 : Int32 => [(0, .ref (x0)), (2, .int (v24))]) h (fun v24 σ25 bcv24 bsv24 h => ?_) (fun k5 jk5 h => ?_)
  · skip
    refine kx_iload_n dX7_parseStatement_224 rfl rfl ?_
    by_cases c0 : v24 = (0 : Int32)
    · have h := w_ift c0 h
      refine kx_tableIn (tgt := 276) dX7_parseStatement_225 (by rw [c0]; decide) (by rw [c0]; decide) (by rw [c0]; rfl) (by decide) ?_
      refine kx_aload_n dX7_parseStatement_276 rfl rfl ?_
      obtain ⟨hr, h⟩ := h
      obtain ⟨c28, c29, hc, hs, h⟩ := h
      refine kx_callV dX7_parseStatement_277 lk_X7_314 (kw_X7_parseBranch h) rfl (wR_rc hr rfl) rfl (Nat.le_of_ble_eq_true rfl) (Nat.le_of_ble_eq_true rfl) (Nat.le_of_ble_eq_true rfl) hc hs (fun _ _ _ hx => kx_out rfl (hX _ _ _ hx)) (fun v_ σ27 hq => ?_)
      obtain ⟨rfl, h⟩ := hq
      refine kx_goto (tgt := 335) dX7_parseStatement_280 (by decide) ?_
      exact kx_vret dX7_parseStatement_335 rfl (hQ _ _ ⟨rfl, h⟩)
    have h := w_iff c0 h
    by_cases c1 : v24 = (1 : Int32)
    · have h := w_ift c1 h
      refine kx_tableIn (tgt := 283) dX7_parseStatement_225 (by rw [c1]; decide) (by rw [c1]; decide) (by rw [c1]; rfl) (by decide) ?_
      refine kx_aload_n dX7_parseStatement_283 rfl rfl ?_
      refine kx_aload_n dX7_parseStatement_284 rfl rfl ?_
      refine kW_gO dX7_parseStatement_285 (kf1 fl_X7_42_X7) h (fun v30 h => ?_)
      obtain ⟨hr, h⟩ := h
      obtain ⟨c33, c34, hc, hs, h⟩ := h
      refine kx_callV dX7_parseStatement_288 lk_X7_317 (kw_X7_parseLoad h) rfl (wR_rc hr rfl) rfl (Nat.le_of_ble_eq_true rfl) (Nat.le_of_ble_eq_true rfl) (Nat.le_of_ble_eq_true rfl) hc hs (fun _ _ _ hx => kx_out rfl (hX _ _ _ hx)) (fun v_ σ32 hq => ?_)
      obtain ⟨rfl, h⟩ := hq
      refine kx_goto (tgt := 335) dX7_parseStatement_291 (by decide) ?_
      exact kx_vret dX7_parseStatement_335 rfl (hQ _ _ ⟨rfl, h⟩)
    have h := w_iff c1 h
    by_cases c2 : v24 = (2 : Int32)
    · have h := w_ift c2 h
      refine kx_tableIn (tgt := 283) dX7_parseStatement_225 (by rw [c2]; decide) (by rw [c2]; decide) (by rw [c2]; rfl) (by decide) ?_
      refine kx_aload_n dX7_parseStatement_283 rfl rfl ?_
      refine kx_aload_n dX7_parseStatement_284 rfl rfl ?_
      refine kW_gO dX7_parseStatement_285 (kf1 fl_X7_42_X7) h (fun v35 h => ?_)
      obtain ⟨hr, h⟩ := h
      obtain ⟨c38, c39, hc, hs, h⟩ := h
      refine kx_callV dX7_parseStatement_288 lk_X7_317 (kw_X7_parseLoad h) rfl (wR_rc hr rfl) rfl (Nat.le_of_ble_eq_true rfl) (Nat.le_of_ble_eq_true rfl) (Nat.le_of_ble_eq_true rfl) hc hs (fun _ _ _ hx => kx_out rfl (hX _ _ _ hx)) (fun v_ σ37 hq => ?_)
      obtain ⟨rfl, h⟩ := hq
      refine kx_goto (tgt := 335) dX7_parseStatement_291 (by decide) ?_
      exact kx_vret dX7_parseStatement_335 rfl (hQ _ _ ⟨rfl, h⟩)
    have h := w_iff c2 h
    by_cases c3 : v24 = (3 : Int32)
    · have h := w_ift c3 h
      refine kx_tableIn (tgt := 283) dX7_parseStatement_225 (by rw [c3]; decide) (by rw [c3]; decide) (by rw [c3]; rfl) (by decide) ?_
      refine kx_aload_n dX7_parseStatement_283 rfl rfl ?_
      refine kx_aload_n dX7_parseStatement_284 rfl rfl ?_
      refine kW_gO dX7_parseStatement_285 (kf1 fl_X7_42_X7) h (fun v40 h => ?_)
      obtain ⟨hr, h⟩ := h
      obtain ⟨c43, c44, hc, hs, h⟩ := h
      refine kx_callV dX7_parseStatement_288 lk_X7_317 (kw_X7_parseLoad h) rfl (wR_rc hr rfl) rfl (Nat.le_of_ble_eq_true rfl) (Nat.le_of_ble_eq_true rfl) (Nat.le_of_ble_eq_true rfl) hc hs (fun _ _ _ hx => kx_out rfl (hX _ _ _ hx)) (fun v_ σ42 hq => ?_)
      obtain ⟨rfl, h⟩ := hq
      refine kx_goto (tgt := 335) dX7_parseStatement_291 (by decide) ?_
      exact kx_vret dX7_parseStatement_335 rfl (hQ _ _ ⟨rfl, h⟩)
    have h := w_iff c3 h
    by_cases c4 : v24 = (4 : Int32)
    · have h := w_ift c4 h
      refine kx_tableIn (tgt := 283) dX7_parseStatement_225 (by rw [c4]; decide) (by rw [c4]; decide) (by rw [c4]; rfl) (by decide) ?_
      refine kx_aload_n dX7_parseStatement_283 rfl rfl ?_
      refine kx_aload_n dX7_parseStatement_284 rfl rfl ?_
      refine kW_gO dX7_parseStatement_285 (kf1 fl_X7_42_X7) h (fun v45 h => ?_)
      obtain ⟨hr, h⟩ := h
      obtain ⟨c48, c49, hc, hs, h⟩ := h
      refine kx_callV dX7_parseStatement_288 lk_X7_317 (kw_X7_parseLoad h) rfl (wR_rc hr rfl) rfl (Nat.le_of_ble_eq_true rfl) (Nat.le_of_ble_eq_true rfl) (Nat.le_of_ble_eq_true rfl) hc hs (fun _ _ _ hx => kx_out rfl (hX _ _ _ hx)) (fun v_ σ47 hq => ?_)
      obtain ⟨rfl, h⟩ := hq
      refine kx_goto (tgt := 335) dX7_parseStatement_291 (by decide) ?_
      exact kx_vret dX7_parseStatement_335 rfl (hQ _ _ ⟨rfl, h⟩)
    have h := w_iff c4 h
    by_cases c5 : v24 = (5 : Int32)
    · have h := w_ift c5 h
      refine kx_tableIn (tgt := 294) dX7_parseStatement_225 (by rw [c5]; decide) (by rw [c5]; decide) (by rw [c5]; rfl) (by decide) ?_
      refine kx_aload_n dX7_parseStatement_294 rfl rfl ?_
      obtain ⟨hr, h⟩ := h
      obtain ⟨c52, c53, hc, hs, h⟩ := h
      refine kx_callV dX7_parseStatement_295 lk_X7_320 (kw_X7_parseSeed h) rfl (wR_rc hr rfl) rfl (Nat.le_of_ble_eq_true rfl) (Nat.le_of_ble_eq_true rfl) (Nat.le_of_ble_eq_true rfl) hc hs (fun _ _ _ hx => kx_out rfl (hX _ _ _ hx)) (fun v_ σ51 hq => ?_)
      obtain ⟨rfl, h⟩ := hq
      refine kx_goto (tgt := 335) dX7_parseStatement_298 (by decide) ?_
      exact kx_vret dX7_parseStatement_335 rfl (hQ _ _ ⟨rfl, h⟩)
    have h := w_iff c5 h
    by_cases c6 : v24 = (6 : Int32)
    · have h := w_ift c6 h
      refine kx_tableIn (tgt := 301) dX7_parseStatement_225 (by rw [c6]; decide) (by rw [c6]; decide) (by rw [c6]; rfl) (by decide) ?_
      refine kx_aload_n dX7_parseStatement_301 rfl rfl ?_
      obtain ⟨hr, h⟩ := h
      obtain ⟨c56, c57, hc, hs, h⟩ := h
      refine kx_callV dX7_parseStatement_302 lk_X7_323 (kw_X7_parseSignature h) rfl (wR_rc hr rfl) rfl (Nat.le_of_ble_eq_true rfl) (Nat.le_of_ble_eq_true rfl) (Nat.le_of_ble_eq_true rfl) hc hs (fun _ _ _ hx => kx_out rfl (hX _ _ _ hx)) (fun v_ σ55 hq => ?_)
      obtain ⟨rfl, h⟩ := hq
      refine kx_goto (tgt := 335) dX7_parseStatement_305 (by decide) ?_
      exact kx_vret dX7_parseStatement_335 rfl (hQ _ _ ⟨rfl, h⟩)
    have h := w_iff c6 h
    by_cases c7 : v24 = (7 : Int32)
    · have h := w_ift c7 h
      refine kx_tableIn (tgt := 308) dX7_parseStatement_225 (by rw [c7]; decide) (by rw [c7]; decide) (by rw [c7]; rfl) (by decide) ?_
      refine kx_aload_n dX7_parseStatement_308 rfl rfl ?_
      obtain ⟨hr, h⟩ := h
      obtain ⟨c60, c61, hc, hs, h⟩ := h
      refine kx_callV dX7_parseStatement_309 lk_X7_326 (kw_X7_parseNuisance h) rfl (wR_rc hr rfl) rfl (Nat.le_of_ble_eq_true rfl) (Nat.le_of_ble_eq_true rfl) (Nat.le_of_ble_eq_true rfl) hc hs (fun _ _ _ hx => kx_out rfl (hX _ _ _ hx)) (fun v_ σ59 hq => ?_)
      obtain ⟨rfl, h⟩ := hq
      refine kx_goto (tgt := 335) dX7_parseStatement_312 (by decide) ?_
      exact kx_vret dX7_parseStatement_335 rfl (hQ _ _ ⟨rfl, h⟩)
    have h := w_iff c7 h
    by_cases c8 : v24 = (8 : Int32)
    · have h := w_ift c8 h
      refine kx_tableIn (tgt := 315) dX7_parseStatement_225 (by rw [c8]; decide) (by rw [c8]; decide) (by rw [c8]; rfl) (by decide) ?_
      refine kx_aload_n dX7_parseStatement_315 rfl rfl ?_
      obtain ⟨hr, h⟩ := h
      obtain ⟨c64, c65, hc, hs, h⟩ := h
      refine kx_callV dX7_parseStatement_316 lk_X7_329 (kw_X7_parseSwitch h) rfl (wR_rc hr rfl) rfl (Nat.le_of_ble_eq_true rfl) (Nat.le_of_ble_eq_true rfl) (Nat.le_of_ble_eq_true rfl) hc hs (fun _ _ _ hx => kx_out rfl (hX _ _ _ hx)) (fun v_ σ63 hq => ?_)
      obtain ⟨rfl, h⟩ := hq
      refine kx_goto (tgt := 335) dX7_parseStatement_319 (by decide) ?_
      exact kx_vret dX7_parseStatement_335 rfl (hQ _ _ ⟨rfl, h⟩)
    have h := w_iff c8 h
    refine kx_tableOut (tgt := 322) dX7_parseStatement_225 (tbN (k := 9) (lo := 0) (by decide) (by intro j hj; rcases (show j = 0 ∨ j = 1 ∨ j = 2 ∨ j = 3 ∨ j = 4 ∨ j = 5 ∨ j = 6 ∨ j = 7 ∨ j = 8 by omega) with rfl | rfl | rfl | rfl | rfl | rfl | rfl | rfl | rfl <;> assumption)) (by decide) ?_
    refine kW_new dX7_parseStatement_322 kc_X8 q1020 q1021 q175 rfl h (fun q66 σ67 h => ?_)
    refine kx_dup dX7_parseStatement_325 rfl ?_
    refine kx_iconst (v := 1) dX7_parseStatement_326 (by decide) ?_
    refine kx_aload_n dX7_parseStatement_327 rfl rfl ?_
    refine kW_gI dX7_parseStatement_328 (kf1 fl_X7_68_X7) h (fun v68 h => ?_)
    refine kx_callI dX7_parseStatement_331 lk_X7_112 (kw_X8_init h) rfl rfl (Nat.le_of_ble_eq_true rfl) (Nat.le_of_ble_eq_true rfl) (Nat.le_of_ble_eq_true rfl) (Nat.le_of_ble_eq_true rfl) (Nat.le_of_ble_eq_true rfl) (fun _ _ _ hx => kx_out rfl (hX _ _ _ hx)) (fun v_ σ70 hq => ?_)
    obtain ⟨rfl, h⟩ := hq
    obtain ⟨⟨tc, fc, hr⟩, h⟩ := h
    exact kx_athrow dX7_parseStatement_334 hr rfl (kx_out rfl (hX _ _ _ h))
  · skip
    by_cases c0 : v3 = (-1985378816 : Int32)
    · have h := w_ift c0 h
      refine kx_lookup (tgt := 195) (off := 184) dX7_parseStatement_11 (by decide) (by rw [c0]; decide) (by decide) ?_
      refine kx_aload_n dX7_parseStatement_195 rfl rfl ?_
      refine kx_ldcwS dX7_parseStatement_196 ks_ArcRecorder_Parser_311 ?_
      obtain ⟨hr, h⟩ := h
      refine kx_callV dX7_parseStatement_199 lk_X7_115 (kw_J9_equals h) rfl (wR_rc hr rfl) rfl (Nat.le_of_ble_eq_true rfl) (Nat.le_of_ble_eq_true rfl) (Nat.le_of_ble_eq_true rfl) (Nat.le_of_ble_eq_true rfl) (Nat.le_of_ble_eq_true rfl) (fun _ _ _ hx => kx_out rfl (hX _ _ _ hx)) (fun v_ σ7 hq => ?_)
      obtain ⟨v6, rfl, h⟩ := hq
      refine kx_if_eq (tgt := 224) dX7_parseStatement_202 (by decide) (fun c => ?_) (fun c => ?_)
      · have h := w_ift c h
        exact kx_lwF [(0, .ref (x0)), (2, .int ((-1 : Int32)))] ⟨rfl, rfl, trivial⟩ (jk5 (-1 : Int32) _ _ _ h)
      · have h := w_iff c h
        refine kx_bipush (v := 7) dX7_parseStatement_205 (by decide) ?_
        refine kx_istore_n dX7_parseStatement_207 rfl (Nat.le_of_ble_eq_true rfl) ?_
        refine kx_goto (tgt := 224) dX7_parseStatement_208 (by decide) ?_
        exact kx_lwF [(0, .ref (x0)), (2, .int ((7 : Int32)))] ⟨rfl, rfl, trivial⟩ (jk5 (7 : Int32) _ _ _ h)
    have h := w_iff c0 h
    by_cases c1 : v3 = (-1381030494 : Int32)
    · have h := w_ift c1 h
      refine kx_lookup (tgt := 92) (off := 81) dX7_parseStatement_11 (by decide) (by rw [c1]; decide) (by decide) ?_
      refine kx_aload_n dX7_parseStatement_92 rfl rfl ?_
      refine kx_ldcwS dX7_parseStatement_93 ks_ArcRecorder_Parser_304 ?_
      obtain ⟨hr, h⟩ := h
      refine kx_callV dX7_parseStatement_96 lk_X7_115 (kw_J9_equals h) rfl (wR_rc hr rfl) rfl (Nat.le_of_ble_eq_true rfl) (Nat.le_of_ble_eq_true rfl) (Nat.le_of_ble_eq_true rfl) (Nat.le_of_ble_eq_true rfl) (Nat.le_of_ble_eq_true rfl) (fun _ _ _ hx => kx_out rfl (hX _ _ _ hx)) (fun v_ σ9 hq => ?_)
      obtain ⟨v8, rfl, h⟩ := hq
      refine kx_if_eq (tgt := 224) dX7_parseStatement_99 (by decide) (fun c => ?_) (fun c => ?_)
      · have h := w_ift c h
        exact kx_lwF [(0, .ref (x0)), (2, .int ((-1 : Int32)))] ⟨rfl, rfl, trivial⟩ (jk5 (-1 : Int32) _ _ _ h)
      · have h := w_iff c h
        refine kx_iconst (v := 0) dX7_parseStatement_102 (by decide) ?_
        refine kx_istore_n dX7_parseStatement_103 rfl (Nat.le_of_ble_eq_true rfl) ?_
        refine kx_goto (tgt := 224) dX7_parseStatement_104 (by decide) ?_
        exact kx_lwF [(0, .ref (x0)), (2, .int ((0 : Int32)))] ⟨rfl, rfl, trivial⟩ (jk5 (0 : Int32) _ _ _ h)
    have h := w_iff c1 h
    by_cases c2 : v3 = (-1331727278 : Int32)
    · have h := w_ift c2 h
      refine kx_lookup (tgt := 135) (off := 124) dX7_parseStatement_11 (by decide) (by rw [c2]; decide) (by decide) ?_
      refine kx_aload_n dX7_parseStatement_135 rfl rfl ?_
      refine kx_ldcS dX7_parseStatement_136 ks_ArcRecorder_Parser_227 ?_
      obtain ⟨hr, h⟩ := h
      refine kx_callV dX7_parseStatement_138 lk_X7_115 (kw_J9_equals h) rfl (wR_rc hr rfl) rfl (Nat.le_of_ble_eq_true rfl) (Nat.le_of_ble_eq_true rfl) (Nat.le_of_ble_eq_true rfl) (Nat.le_of_ble_eq_true rfl) (Nat.le_of_ble_eq_true rfl) (fun _ _ _ hx => kx_out rfl (hX _ _ _ hx)) (fun v_ σ11 hq => ?_)
      obtain ⟨v10, rfl, h⟩ := hq
      refine kx_if_eq (tgt := 224) dX7_parseStatement_141 (by decide) (fun c => ?_) (fun c => ?_)
      · have h := w_ift c h
        exact kx_lwF [(0, .ref (x0)), (2, .int ((-1 : Int32)))] ⟨rfl, rfl, trivial⟩ (jk5 (-1 : Int32) _ _ _ h)
      · have h := w_iff c h
        refine kx_iconst (v := 3) dX7_parseStatement_144 (by decide) ?_
        refine kx_istore_n dX7_parseStatement_145 rfl (Nat.le_of_ble_eq_true rfl) ?_
        refine kx_goto (tgt := 224) dX7_parseStatement_146 (by decide) ?_
        exact kx_lwF [(0, .ref (x0)), (2, .int ((3 : Int32)))] ⟨rfl, rfl, trivial⟩ (jk5 (3 : Int32) _ _ _ h)
    have h := w_iff c2 h
    by_cases c3 : v3 = (-1221255523 : Int32)
    · have h := w_ift c3 h
      refine kx_lookup (tgt := 107) (off := 96) dX7_parseStatement_11 (by decide) (by rw [c3]; decide) (by decide) ?_
      refine kx_aload_n dX7_parseStatement_107 rfl rfl ?_
      refine kx_ldcS dX7_parseStatement_108 ks_ArcRecorder_Parser_223 ?_
      obtain ⟨hr, h⟩ := h
      refine kx_callV dX7_parseStatement_110 lk_X7_115 (kw_J9_equals h) rfl (wR_rc hr rfl) rfl (Nat.le_of_ble_eq_true rfl) (Nat.le_of_ble_eq_true rfl) (Nat.le_of_ble_eq_true rfl) (Nat.le_of_ble_eq_true rfl) (Nat.le_of_ble_eq_true rfl) (fun _ _ _ hx => kx_out rfl (hX _ _ _ hx)) (fun v_ σ13 hq => ?_)
      obtain ⟨v12, rfl, h⟩ := hq
      refine kx_if_eq (tgt := 224) dX7_parseStatement_113 (by decide) (fun c => ?_) (fun c => ?_)
      · have h := w_ift c h
        exact kx_lwF [(0, .ref (x0)), (2, .int ((-1 : Int32)))] ⟨rfl, rfl, trivial⟩ (jk5 (-1 : Int32) _ _ _ h)
      · have h := w_iff c h
        refine kx_iconst (v := 1) dX7_parseStatement_116 (by decide) ?_
        refine kx_istore_n dX7_parseStatement_117 rfl (Nat.le_of_ble_eq_true rfl) ?_
        refine kx_goto (tgt := 224) dX7_parseStatement_118 (by decide) ?_
        exact kx_lwF [(0, .ref (x0)), (2, .int ((1 : Int32)))] ⟨rfl, rfl, trivial⟩ (jk5 (1 : Int32) _ _ _ h)
    have h := w_iff c3 h
    by_cases c4 : v3 = (3123 : Int32)
    · have h := w_ift c4 h
      refine kx_lookup (tgt := 211) (off := 200) dX7_parseStatement_11 (by decide) (by rw [c4]; decide) (by decide) ?_
      refine kx_aload_n dX7_parseStatement_211 rfl rfl ?_
      refine kx_ldcwS dX7_parseStatement_212 ks_ArcRecorder_Parser_313 ?_
      obtain ⟨hr, h⟩ := h
      refine kx_callV dX7_parseStatement_215 lk_X7_115 (kw_J9_equals h) rfl (wR_rc hr rfl) rfl (Nat.le_of_ble_eq_true rfl) (Nat.le_of_ble_eq_true rfl) (Nat.le_of_ble_eq_true rfl) (Nat.le_of_ble_eq_true rfl) (Nat.le_of_ble_eq_true rfl) (fun _ _ _ hx => kx_out rfl (hX _ _ _ hx)) (fun v_ σ15 hq => ?_)
      obtain ⟨v14, rfl, h⟩ := hq
      refine kx_if_eq (tgt := 224) dX7_parseStatement_218 (by decide) (fun c => ?_) (fun c => ?_)
      · have h := w_ift c h
        exact kx_lwF [(0, .ref (x0)), (2, .int ((-1 : Int32)))] ⟨rfl, rfl, trivial⟩ (jk5 (-1 : Int32) _ _ _ h)
      · have h := w_iff c h
        refine kx_bipush (v := 8) dX7_parseStatement_221 (by decide) ?_
        refine kx_istore_n dX7_parseStatement_223 rfl (Nat.le_of_ble_eq_true rfl) ?_
        exact kx_lwF [(0, .ref (x0)), (2, .int ((8 : Int32)))] ⟨rfl, rfl, trivial⟩ (jk5 (8 : Int32) _ _ _ h)
    have h := w_iff c4 h
    by_cases c5 : v3 = (96850 : Int32)
    · have h := w_ift c5 h
      refine kx_lookup (tgt := 149) (off := 138) dX7_parseStatement_11 (by decide) (by rw [c5]; decide) (by decide) ?_
      refine kx_aload_n dX7_parseStatement_149 rfl rfl ?_
      refine kx_ldcwS dX7_parseStatement_150 ks_ArcRecorder_Parser_306 ?_
      obtain ⟨hr, h⟩ := h
      refine kx_callV dX7_parseStatement_153 lk_X7_115 (kw_J9_equals h) rfl (wR_rc hr rfl) rfl (Nat.le_of_ble_eq_true rfl) (Nat.le_of_ble_eq_true rfl) (Nat.le_of_ble_eq_true rfl) (Nat.le_of_ble_eq_true rfl) (Nat.le_of_ble_eq_true rfl) (fun _ _ _ hx => kx_out rfl (hX _ _ _ hx)) (fun v_ σ17 hq => ?_)
      obtain ⟨v16, rfl, h⟩ := hq
      refine kx_if_eq (tgt := 224) dX7_parseStatement_156 (by decide) (fun c => ?_) (fun c => ?_)
      · have h := w_ift c h
        exact kx_lwF [(0, .ref (x0)), (2, .int ((-1 : Int32)))] ⟨rfl, rfl, trivial⟩ (jk5 (-1 : Int32) _ _ _ h)
      · have h := w_iff c h
        refine kx_iconst (v := 4) dX7_parseStatement_159 (by decide) ?_
        refine kx_istore_n dX7_parseStatement_160 rfl (Nat.le_of_ble_eq_true rfl) ?_
        refine kx_goto (tgt := 224) dX7_parseStatement_161 (by decide) ?_
        exact kx_lwF [(0, .ref (x0)), (2, .int ((4 : Int32)))] ⟨rfl, rfl, trivial⟩ (jk5 (4 : Int32) _ _ _ h)
    have h := w_iff c5 h
    by_cases c6 : v3 = (3526257 : Int32)
    · have h := w_ift c6 h
      refine kx_lookup (tgt := 164) (off := 153) dX7_parseStatement_11 (by decide) (by rw [c6]; decide) (by decide) ?_
      refine kx_aload_n dX7_parseStatement_164 rfl rfl ?_
      refine kx_ldcwS dX7_parseStatement_165 ks_ArcRecorder_Parser_308 ?_
      obtain ⟨hr, h⟩ := h
      refine kx_callV dX7_parseStatement_168 lk_X7_115 (kw_J9_equals h) rfl (wR_rc hr rfl) rfl (Nat.le_of_ble_eq_true rfl) (Nat.le_of_ble_eq_true rfl) (Nat.le_of_ble_eq_true rfl) (Nat.le_of_ble_eq_true rfl) (Nat.le_of_ble_eq_true rfl) (fun _ _ _ hx => kx_out rfl (hX _ _ _ hx)) (fun v_ σ19 hq => ?_)
      obtain ⟨v18, rfl, h⟩ := hq
      refine kx_if_eq (tgt := 224) dX7_parseStatement_171 (by decide) (fun c => ?_) (fun c => ?_)
      · have h := w_ift c h
        exact kx_lwF [(0, .ref (x0)), (2, .int ((-1 : Int32)))] ⟨rfl, rfl, trivial⟩ (jk5 (-1 : Int32) _ _ _ h)
      · have h := w_iff c h
        refine kx_iconst (v := 5) dX7_parseStatement_174 (by decide) ?_
        refine kx_istore_n dX7_parseStatement_175 rfl (Nat.le_of_ble_eq_true rfl) ?_
        refine kx_goto (tgt := 224) dX7_parseStatement_176 (by decide) ?_
        exact kx_lwF [(0, .ref (x0)), (2, .int ((5 : Int32)))] ⟨rfl, rfl, trivial⟩ (jk5 (5 : Int32) _ _ _ h)
    have h := w_iff c6 h
    by_cases c7 : v3 = (104085621 : Int32)
    · have h := w_ift c7 h
      refine kx_lookup (tgt := 121) (off := 110) dX7_parseStatement_11 (by decide) (by rw [c7]; decide) (by decide) ?_
      refine kx_aload_n dX7_parseStatement_121 rfl rfl ?_
      refine kx_ldcS dX7_parseStatement_122 ks_ArcRecorder_Parser_225 ?_
      obtain ⟨hr, h⟩ := h
      refine kx_callV dX7_parseStatement_124 lk_X7_115 (kw_J9_equals h) rfl (wR_rc hr rfl) rfl (Nat.le_of_ble_eq_true rfl) (Nat.le_of_ble_eq_true rfl) (Nat.le_of_ble_eq_true rfl) (Nat.le_of_ble_eq_true rfl) (Nat.le_of_ble_eq_true rfl) (fun _ _ _ hx => kx_out rfl (hX _ _ _ hx)) (fun v_ σ21 hq => ?_)
      obtain ⟨v20, rfl, h⟩ := hq
      refine kx_if_eq (tgt := 224) dX7_parseStatement_127 (by decide) (fun c => ?_) (fun c => ?_)
      · have h := w_ift c h
        exact kx_lwF [(0, .ref (x0)), (2, .int ((-1 : Int32)))] ⟨rfl, rfl, trivial⟩ (jk5 (-1 : Int32) _ _ _ h)
      · have h := w_iff c h
        refine kx_iconst (v := 2) dX7_parseStatement_130 (by decide) ?_
        refine kx_istore_n dX7_parseStatement_131 rfl (Nat.le_of_ble_eq_true rfl) ?_
        refine kx_goto (tgt := 224) dX7_parseStatement_132 (by decide) ?_
        exact kx_lwF [(0, .ref (x0)), (2, .int ((2 : Int32)))] ⟨rfl, rfl, trivial⟩ (jk5 (2 : Int32) _ _ _ h)
    have h := w_iff c7 h
    by_cases c8 : v3 = (1073584312 : Int32)
    · have h := w_ift c8 h
      refine kx_lookup (tgt := 179) (off := 168) dX7_parseStatement_11 (by decide) (by rw [c8]; decide) (by decide) ?_
      refine kx_aload_n dX7_parseStatement_179 rfl rfl ?_
      refine kx_ldcwS dX7_parseStatement_180 ks_ArcRecorder_Parser_309 ?_
      obtain ⟨hr, h⟩ := h
      refine kx_callV dX7_parseStatement_183 lk_X7_115 (kw_J9_equals h) rfl (wR_rc hr rfl) rfl (Nat.le_of_ble_eq_true rfl) (Nat.le_of_ble_eq_true rfl) (Nat.le_of_ble_eq_true rfl) (Nat.le_of_ble_eq_true rfl) (Nat.le_of_ble_eq_true rfl) (fun _ _ _ hx => kx_out rfl (hX _ _ _ hx)) (fun v_ σ23 hq => ?_)
      obtain ⟨v22, rfl, h⟩ := hq
      refine kx_if_eq (tgt := 224) dX7_parseStatement_186 (by decide) (fun c => ?_) (fun c => ?_)
      · have h := w_ift c h
        exact kx_lwF [(0, .ref (x0)), (2, .int ((-1 : Int32)))] ⟨rfl, rfl, trivial⟩ (jk5 (-1 : Int32) _ _ _ h)
      · have h := w_iff c h
        refine kx_bipush (v := 6) dX7_parseStatement_189 (by decide) ?_
        refine kx_istore_n dX7_parseStatement_191 rfl (Nat.le_of_ble_eq_true rfl) ?_
        refine kx_goto (tgt := 224) dX7_parseStatement_192 (by decide) ?_
        exact kx_lwF [(0, .ref (x0)), (2, .int ((6 : Int32)))] ⟨rfl, rfl, trivial⟩ (jk5 (6 : Int32) _ _ _ h)
    have h := w_iff c8 h
    refine kx_lookup (tgt := 224) (off := 213) dX7_parseStatement_11 (by decide) (lk_out (by intro p hp; simp only [List.mem_cons, List.not_mem_nil, or_false] at hp; rcases hp with rfl | rfl | rfl | rfl | rfl | rfl | rfl | rfl | rfl <;> intro hh <;> first | exact c0 (Int32.toInt_inj.mp hh) | exact c1 (Int32.toInt_inj.mp hh) | exact c2 (Int32.toInt_inj.mp hh) | exact c3 (Int32.toInt_inj.mp hh) | exact c4 (Int32.toInt_inj.mp hh) | exact c5 (Int32.toInt_inj.mp hh) | exact c6 (Int32.toInt_inj.mp hh) | exact c7 (Int32.toInt_inj.mp hh) | exact c8 (Int32.toInt_inj.mp hh))) (by decide) ?_
    exact kx_lwF [(0, .ref (x0)), (2, .int ((-1 : Int32)))] ⟨rfl, rfl, trivial⟩ (jk5 (-1 : Int32) _ _ _ h)
set_option maxHeartbeats 8000000 in
theorem kw_X7_parse {G : KG} {bc bs : Nat} {σ : KHp} {x0 : Nat} {Q : Option Nat → KHp → Prop} {X : String → Nat → KHp → Prop} (h : W_X7_parse G bc bs σ x0 Q X) : kx_c G yX7_parse (ws_ yX7_parse cX7_parse 3 (Option.some (Jvm.ClassFile.FieldType.object "ArcRecorder$State"))) 15 bc bs [.ref (x0)] σ (fun rv σ' => ∃ r, rv = some (va_rf (r)) ∧ Q r σ') X := by
  refine kx_mk3 (ini := false) rfl (Nat.le_of_ble_eq_true rfl) (fun h => by cases h) (fun Q1 X1 hQ hX => ?_)
  unfold W_X7_parse at h
  refine kx_aload_n dX7_parse_0 rfl rfl ?_
  obtain ⟨hr, h⟩ := h
  obtain ⟨c3, c4, hc, hs, h⟩ := h
  refine kx_callV dX7_parse_1 lk_X7_332 (kw_X7_parseRecorder h) rfl (wR_rc hr rfl) rfl (Nat.le_of_ble_eq_true rfl) (Nat.le_of_ble_eq_true rfl) (Nat.le_of_ble_eq_true rfl) hc hs (fun _ _ _ hx => kx_out rfl (hX _ _ _ hx)) (fun v_ σ2 hq => ?_)
  obtain ⟨rfl, h⟩ := hq
  refine kx_aload_n dX7_parse_4 rfl rfl ?_
  obtain ⟨hr, h⟩ := h
  obtain ⟨c7, c8, hc, hs, h⟩ := h
  refine kx_callV dX7_parse_5 lk_X7_335 (kw_X7_parseEnd h) rfl (wR_rc hr rfl) rfl (Nat.le_of_ble_eq_true rfl) (Nat.le_of_ble_eq_true rfl) (Nat.le_of_ble_eq_true rfl) hc hs (fun _ _ _ hx => kx_out rfl (hX _ _ _ hx)) (fun v_ σ6 hq => ?_)
  obtain ⟨rfl, h⟩ := hq
  refine kx_lwF [(0, .ref (x0))] ⟨rfl, trivial⟩ ?_
  refine loopW2_k (fun (σ : KHp) (bc8 bs8 : Nat)  => kx G (yX7_parse.cls, cX7_parse, 3, (Option.some (Jvm.ClassFile.FieldType.object "ArcRecorder$State")), false, []) (15, bc, bs, Q1, X1) (bc8) (bs8) σ 8 (kF [(0, .ref (x0))]) []) (fun kI8 hI8 σ bc8 bs8  h => ?_) 9000 σ6 (bc - c3 - c7) (bs - c4 - c8) h
  unfold WB_X7_parse_8 at h
  refine kx_aload_n dX7_parse_8 rfl rfl ?_
  refine kW_gO dX7_parse_9 (kf1 fl_X7_80_X7) h (fun v9001 h => ?_)
  refine kx_gets dX7_parse_12 kt_ArcRecorder_Token_END q929 (Or.inl rfl) ?_
  refine kx_acmp_eq (rx := (v9001)) (ry := (some (kx_K G 7))) (tgt := 29) dX7_parse_15 (by decide) (fun c => ?_) (fun c => ?_)
  · have h := w_ift c h
    refine kx_aload_n dX7_parse_29 rfl rfl ?_
    refine kW_gO dX7_parse_30 (kf1 fl_X7_18_X7) h (fun v9002 h => ?_)
    obtain ⟨a9003, rfl, hUa9003⟩ := h
    have h := hUa9003
    obtain ⟨hr, h⟩ := h
    obtain ⟨c9006, c9007, hc, hs, h⟩ := h
    refine kx_callV dX7_parse_33 lk_X7_341 (kw_X3_lay h) rfl (wR_rc hr rfl) rfl (Nat.le_of_ble_eq_true rfl) (Nat.le_of_ble_eq_true rfl) (Nat.le_of_ble_eq_true rfl) hc hs (fun _ _ _ hx => kx_out rfl (hX _ _ _ hx)) (fun v_ σ9005 hq => ?_)
    obtain ⟨rfl, h⟩ := hq
    refine kW_new dX7_parse_36 kc_X2 q1474 q209 q144 rfl h (fun q9008 σ9009 h => ?_)
    refine kx_dup dX7_parse_39 rfl ?_
    refine kx_aload_n dX7_parse_40 rfl rfl ?_
    refine kW_gO dX7_parse_41 (kf1 fl_X7_18_X7) h (fun v9010 h => ?_)
    obtain ⟨c9013, c9014, hc, hs, h⟩ := h
    refine kx_callI dX7_parse_44 lk_X7_346 (kw_X2_init h) rfl rfl (Nat.le_of_ble_eq_true rfl) (Nat.le_of_ble_eq_true rfl) (Nat.le_of_ble_eq_true rfl) hc hs (fun _ _ _ hx => kx_out rfl (hX _ _ _ hx)) (fun v_ σ9012 hq => ?_)
    obtain ⟨rfl, h⟩ := hq
    refine kx_astore_n dX7_parse_47 rfl (Nat.le_of_ble_eq_true rfl) ?_
    refine kx_aload_n dX7_parse_48 rfl rfl ?_
    refine kx_aload_n dX7_parse_49 rfl rfl ?_
    refine kW_gJ dX7_parse_50 (kf1 fl_X7_36_X7) h (fun v9015 h => ?_)
    refine kx_lconst (v := 0) dX7_parse_53 (by decide) ?_
    refine kx_lcmp dX7_parse_54 ?_
    refine kW_jLa 66 [.ref (q9008)] h (fun v9018 σ9019 bcv9018 bsv9018 h => ?_) (fun k9016 jk9016 h => ?_)
    · skip
      refine kW_p dX7_parse_66 (kp1 ⟨_, _, _, _, kc_X2, fl_X7_349_X2, Or.inl rfl, rfl, rfl⟩) h (fun σ9020 h => ?_)
      refine kx_iconst (v := 0) dX7_parse_69 (by decide) ?_
      refine kx_istore_n dX7_parse_70 rfl (Nat.le_of_ble_eq_true rfl) ?_
      refine kx_lwF [(0, .ref (x0)), (1, .ref (q9008)), (2, .int ((0 : Int32)))] ⟨rfl, rfl, rfl, trivial⟩ ?_
      refine loopW3_k (fun (σ : KHp) (bc71 bs71 : Nat) (l2 : Int32) => kx G (yX7_parse.cls, cX7_parse, 3, (Option.some (Jvm.ClassFile.FieldType.object "ArcRecorder$State")), false, []) (15, bc, bs, Q1, X1) (bc71) (bs71) σ 71 (kF [(0, .ref (x0)), (1, .ref (q9008)), (2, .int (l2))]) []) (fun kI71 hI71 σ bc71 bs71 l2 h => ?_) 9000 σ9020 bcv9018 bsv9018 (0 : Int32) h
      unfold WB_X7_parse_71 at h
      refine kx_iload_n dX7_parse_71 rfl rfl ?_
      refine kx_aload_n dX7_parse_72 rfl rfl ?_
      refine kW_gO dX7_parse_73 (kf1 fl_X7_27_X7) h (fun v72001 h => ?_)
      obtain ⟨a72002, rfl, hUa72002⟩ := h
      have h := hUa72002
      obtain ⟨hr, h⟩ := h
      refine kx_callV dX7_parse_76 lk_X7_153 (kw_J2_size h) rfl (wR_rc hr rfl) rfl (Nat.le_of_ble_eq_true rfl) (Nat.le_of_ble_eq_true rfl) (Nat.le_of_ble_eq_true rfl) (Nat.le_of_ble_eq_true rfl) (Nat.le_of_ble_eq_true rfl) (fun _ _ _ hx => kx_out rfl (hX _ _ _ hx)) (fun v_ σ72004 hq => ?_)
      obtain ⟨v72003, rfl, h⟩ := hq
      refine kx_icmp_ge (tgt := 107) dX7_parse_79 (by decide) (fun c => ?_) (fun c => ?_)
      · have h := w_ift c h
        refine kx_iconst (v := 0) dX7_parse_107 (by decide) ?_
        refine kx_istore_n dX7_parse_108 rfl (Nat.le_of_ble_eq_true rfl) ?_
        refine kx_lwF [(0, .ref (x0)), (1, .ref (q9008)), (2, .int ((0 : Int32)))] ⟨rfl, rfl, rfl, trivial⟩ ?_
        refine loopW3_k (fun (σ : KHp) (bc109 bs109 : Nat) (l2 : Int32) => kx G (yX7_parse.cls, cX7_parse, 3, (Option.some (Jvm.ClassFile.FieldType.object "ArcRecorder$State")), false, []) (15, bc, bs, Q1, X1) (bc109) (bs109) σ 109 (kF [(0, .ref (x0)), (1, .ref (q9008)), (2, .int (l2))]) []) (fun kI109 hI109 σ bc109 bs109 l2 h => ?_) 9000 σ72004 bc71 bs71 (0 : Int32) h
        unfold WB_X7_parse_109 at h
        refine kx_iload_n dX7_parse_109 rfl rfl ?_
        refine kx_aload_n dX7_parse_110 rfl rfl ?_
        refine kW_gO dX7_parse_111 (kf1 fl_X7_31_X7) h (fun v110001 h => ?_)
        obtain ⟨a110002, rfl, hUa110002⟩ := h
        have h := hUa110002
        obtain ⟨hr, h⟩ := h
        refine kx_callV dX7_parse_114 lk_X7_153 (kw_J2_size h) rfl (wR_rc hr rfl) rfl (Nat.le_of_ble_eq_true rfl) (Nat.le_of_ble_eq_true rfl) (Nat.le_of_ble_eq_true rfl) (Nat.le_of_ble_eq_true rfl) (Nat.le_of_ble_eq_true rfl) (fun _ _ _ hx => kx_out rfl (hX _ _ _ hx)) (fun v_ σ110004 hq => ?_)
        obtain ⟨v110003, rfl, h⟩ := hq
        refine kx_icmp_ge (tgt := 144) dX7_parse_117 (by decide) (fun c => ?_) (fun c => ?_)
        · have h := w_ift c h
          refine kx_aload_n dX7_parse_144 rfl rfl ?_
          exact kx_aret dX7_parse_145 rfl (Or.inl ⟨_, rfl⟩) (Or.inr ⟨_, rfl⟩) (hQ _ _ ⟨some _, rfl, h⟩)
        · have h := w_iff c h
          refine kx_aload_n dX7_parse_120 rfl rfl ?_
          refine kW_gO dX7_parse_121 (kf1 fl_X7_353_X2) h (fun v110005 h => ?_)
          refine kx_aload_n dX7_parse_124 rfl rfl ?_
          refine kW_gO dX7_parse_125 (kf1 fl_X7_31_X7) h (fun v110006 h => ?_)
          refine kx_iload_n dX7_parse_128 rfl rfl ?_
          obtain ⟨a110007, rfl, hUa110007⟩ := h
          have h := hUa110007
          obtain ⟨hr, h⟩ := h
          refine kx_callV dX7_parse_129 lk_X7_156 (kw_J2_get h) rfl (wR_rc hr rfl) rfl (by cases v110005 <;> exact Nat.le_of_ble_eq_true rfl) (Nat.le_of_ble_eq_true rfl) (Nat.le_of_ble_eq_true rfl) (Nat.le_of_ble_eq_true rfl) (Nat.le_of_ble_eq_true rfl) (fun _ _ _ hx => kx_out rfl (hX _ _ _ hx)) (fun v_ σ110009 hq => ?_)
          obtain ⟨v110008, rfl, h⟩ := hq
          obtain ⟨a110010, rfl, hUa110010⟩ := h
          have h := hUa110010
          obtain ⟨⟨tc, fc, hr⟩, h⟩ := h
          refine kx_castS dX7_parse_132 hr rfl q1448 ?_
          obtain ⟨a110011, rfl, hUa110011⟩ := h
          have h := hUa110011
          obtain ⟨hr, h⟩ := h
          obtain ⟨c110014, c110015, hc, hs, h⟩ := h
          refine kx_callV dX7_parse_135 lk_X7_356 (kw_J18_addLast h) rfl (wR_rc hr rfl) rfl (Nat.le_of_ble_eq_true rfl) (Nat.le_of_ble_eq_true rfl) (Nat.le_of_ble_eq_true rfl) hc hs (fun _ _ _ hx => kx_out rfl (hX _ _ _ hx)) (fun v_ σ110013 hq => ?_)
          obtain ⟨rfl, h⟩ := hq
          refine kx_iinc2 (v := 1) dX7_parse_138 rfl (by decide) ?_
          refine kx_goto (tgt := 109) dX7_parse_141 (by decide) ?_
          exact kx_lwF [(0, .ref (x0)), (1, .ref (q9008)), (2, .int ((l2 + (1 : Int32))))] ⟨rfl, rfl, rfl, trivial⟩ (hI109 _ _ _ _ h)
      · have h := w_iff c h
        refine kx_aload_n dX7_parse_82 rfl rfl ?_
        refine kW_gO dX7_parse_83 (kf1 fl_X7_352_X2) h (fun v72006 h => ?_)
        refine kx_aload_n dX7_parse_86 rfl rfl ?_
        refine kW_gO dX7_parse_87 (kf1 fl_X7_27_X7) h (fun v72007 h => ?_)
        refine kx_iload_n dX7_parse_90 rfl rfl ?_
        obtain ⟨a72008, rfl, hUa72008⟩ := h
        have h := hUa72008
        obtain ⟨hr, h⟩ := h
        refine kx_callV dX7_parse_91 lk_X7_156 (kw_J2_get h) rfl (wR_rc hr rfl) rfl (by cases v72006 <;> exact Nat.le_of_ble_eq_true rfl) (Nat.le_of_ble_eq_true rfl) (Nat.le_of_ble_eq_true rfl) (Nat.le_of_ble_eq_true rfl) (Nat.le_of_ble_eq_true rfl) (fun _ _ _ hx => kx_out rfl (hX _ _ _ hx)) (fun v_ σ72010 hq => ?_)
        obtain ⟨v72009, rfl, h⟩ := hq
        obtain ⟨a72011, rfl, hUa72011⟩ := h
        have h := hUa72011
        obtain ⟨⟨tc, fc, hr⟩, h⟩ := h
        refine kx_castS dX7_parse_94 hr rfl q1272 ?_
        obtain ⟨a72012, rfl, hUa72012⟩ := h
        have h := hUa72012
        obtain ⟨hr, h⟩ := h
        obtain ⟨c72015, c72016, hc, hs, h⟩ := h
        refine kx_callV dX7_parse_97 lk_X7_203 (kw_J2_add h) rfl (wR_rc hr rfl) rfl (Nat.le_of_ble_eq_true rfl) (Nat.le_of_ble_eq_true rfl) (Nat.le_of_ble_eq_true rfl) hc hs (fun _ _ _ hx => kx_out rfl (hX _ _ _ hx)) (fun v_ σ72014 hq => ?_)
        obtain ⟨v72013, rfl, h⟩ := hq
        refine kx_pop dX7_parse_100 rfl ?_
        refine kx_iinc2 (v := 1) dX7_parse_101 rfl (by decide) ?_
        refine kx_goto (tgt := 71) dX7_parse_104 (by decide) ?_
        exact kx_lwF [(0, .ref (x0)), (1, .ref (q9008)), (2, .int ((l2 + (1 : Int32))))] ⟨rfl, rfl, rfl, trivial⟩ (hI71 _ _ _ _ h)
    · skip
      refine kx_if_ge (tgt := 62) dX7_parse_55 (by decide) (fun c => ?_) (fun c => ?_)
      · have h := w_ift c h
        refine kx_aload_n dX7_parse_62 rfl rfl ?_
        refine kW_gJ dX7_parse_63 (kf1 fl_X7_36_X7) h (fun v9017 h => ?_)
        exact jk9016 _ _ _ _ h
      · have h := w_iff c h
        refine kx_lconst (v := 1) dX7_parse_58 (by decide) ?_
        refine kx_goto (tgt := 66) dX7_parse_59 (by decide) ?_
        exact jk9016 _ _ _ _ h
  · have h := w_iff c h
    refine kx_aload_n dX7_parse_18 rfl rfl ?_
    obtain ⟨hr, h⟩ := h
    obtain ⟨c9024, c9025, hc, hs, h⟩ := h
    refine kx_callV dX7_parse_19 lk_X7_338 (kw_X7_parseStatement h) rfl (wR_rc hr rfl) rfl (Nat.le_of_ble_eq_true rfl) (Nat.le_of_ble_eq_true rfl) (Nat.le_of_ble_eq_true rfl) hc hs (fun _ _ _ hx => kx_out rfl (hX _ _ _ hx)) (fun v_ σ9023 hq => ?_)
    obtain ⟨rfl, h⟩ := hq
    refine kx_aload_n dX7_parse_22 rfl rfl ?_
    obtain ⟨hr, h⟩ := h
    obtain ⟨c9028, c9029, hc, hs, h⟩ := h
    refine kx_callV dX7_parse_23 lk_X7_335 (kw_X7_parseEnd h) rfl (wR_rc hr rfl) rfl (Nat.le_of_ble_eq_true rfl) (Nat.le_of_ble_eq_true rfl) (Nat.le_of_ble_eq_true rfl) hc hs (fun _ _ _ hx => kx_out rfl (hX _ _ _ hx)) (fun v_ σ9027 hq => ?_)
    obtain ⟨rfl, h⟩ := hq
    refine kx_goto (tgt := 8) dX7_parse_26 (by decide) ?_
    exact kx_lwF [(0, .ref (x0))] ⟨rfl, trivial⟩ (hI8 _ _ _ h)
set_option maxHeartbeats 8000000 in
theorem kw_X1_load {G : KG} {bc bs : Nat} {σ : KHp} {x0 : Nat} {Q : Int32 → KHp → Prop} {X : String → Nat → KHp → Prop} (h : W_X1_load G bc bs σ x0 Q X) : kx_c G yX1_load (wsW_ yX1_load cX1_load 4 (Option.some Jvm.ClassFile.FieldType.int) [((10 : Nat), (46 : Nat), (53 : Nat), (183 : Nat)), ((10 : Nat), (46 : Nat), (80 : Nat), (0 : Nat)), ((53 : Nat), (73 : Nat), (80 : Nat), (0 : Nat))]) 16 bc bs [.ref (x0)] σ (fun rv σ' => ∃ r, rv = some (.int (r)) ∧ Q r σ') X := by
  refine kx_mk3W (ini := false) rfl (Nat.le_of_ble_eq_true rfl) (fun h => by cases h) (fun Q1 X1 hQ hX => ?_)
  unfold W_X1_load at h
  refine kx_aload_n dX1_load_0 rfl rfl ?_
  refine kx_iconst (v := 0) dX1_load_1 (by decide) ?_
  refine kW_p dX1_load_2 (kp1 ⟨_, _, _, _, kc_X1, fl_X1_164_X1, Or.inl rfl, rfl, rfl⟩) h (fun σ1 h => ?_)
  refine kx_aload_n dX1_load_5 rfl rfl ?_
  refine kx_iconst (v := -1) dX1_load_6 (by decide) ?_
  refine kW_p dX1_load_7 (kp1 ⟨_, _, _, _, kc_X1, fl_X1_118_X1, Or.inl rfl, rfl, rfl⟩) h (fun σ2 h => ?_)
  refine kW_new dX1_load_10 kc_X7 q906 q907 q173 rfl h (fun q3 σ4 h => ?_)
  refine kx_dup dX1_load_13 rfl ?_
  refine kx_aload_n dX1_load_14 rfl rfl ?_
  obtain ⟨c7, c8, hc, hs, h⟩ := h
  refine kx_callI dX1_load_15 lk_X1_169 (kw_X7_init h) rfl rfl (Nat.le_of_ble_eq_true rfl) (Nat.le_of_ble_eq_true rfl) (Nat.le_of_ble_eq_true rfl) hc hs (fun E9 q10 σ11 hx => ?_) (fun v_ σ6 hq => ?_)
  · rcases hx with ⟨rfl, h⟩
    · skip
      refine kx_catch (tableOf []) ⟨10, 46, 53, 183⟩ (tableOf [((10 : Nat), (46 : Nat), (80 : Nat), (0 : Nat)), ((53 : Nat), (73 : Nat), (80 : Nat), (0 : Nat))]) rfl (fun z hz => by cases hz) rfl (by decide) q905 q1022 ?_
      refine kx_astore_n dX1_load_53 rfl (Nat.le_of_ble_eq_true rfl) ?_
      refine kx_aload_n dX1_load_54 rfl rfl ?_
      refine kx_aload_n dX1_load_55 rfl rfl ?_
      refine kW_gI dX1_load_56 (kf1 fl_X1_185_X8) h (fun v12 h => ?_)
      refine kW_p dX1_load_59 (kp1 ⟨_, _, _, _, kc_X1, fl_X1_164_X1, Or.inl rfl, rfl, rfl⟩) h (fun σ13 h => ?_)
      refine kx_aload_n dX1_load_62 rfl rfl ?_
      refine kx_aload_n dX1_load_63 rfl rfl ?_
      refine kW_gI dX1_load_64 (kf1 fl_X1_188_X8) h (fun v14 h => ?_)
      refine kW_p dX1_load_67 (kp1 ⟨_, _, _, _, kc_X1, fl_X1_118_X1, Or.inl rfl, rfl, rfl⟩) h (fun σ15 h => ?_)
      refine kx_bipush (v := -4) dX1_load_70 (by decide) ?_
      refine kx_istore_n dX1_load_72 rfl (Nat.le_of_ble_eq_true rfl) ?_
      refine kx_aload_n dX1_load_73 rfl rfl ?_
      refine kx_iconst (v := 0) dX1_load_74 (by decide) ?_
      refine kW_p dX1_load_75 (kp1 ⟨_, _, _, _, kc_X1, fl_X1_129_X1, Or.inl rfl, rfl, rfl⟩) h (fun σ16 h => ?_)
      refine kx_iload_n dX1_load_78 rfl rfl ?_
      exact kx_iret dX1_load_79 rfl (hQ _ _ ⟨_, rfl, h⟩)
  obtain ⟨rfl, h⟩ := hq
  obtain ⟨hr, h⟩ := h
  obtain ⟨c19, c20, hc, hs, h⟩ := h
  refine kx_callV dX1_load_18 lk_X1_172 (kw_X7_parse h) rfl (wR_rc hr rfl) rfl (Nat.le_of_ble_eq_true rfl) (Nat.le_of_ble_eq_true rfl) (Nat.le_of_ble_eq_true rfl) hc hs (fun E21 q22 σ23 hx => ?_) (fun v_ σ18 hq => ?_)
  · rcases hx with ⟨rfl, h⟩
    · skip
      refine kx_catch (tableOf []) ⟨10, 46, 53, 183⟩ (tableOf [((10 : Nat), (46 : Nat), (80 : Nat), (0 : Nat)), ((53 : Nat), (73 : Nat), (80 : Nat), (0 : Nat))]) rfl (fun z hz => by cases hz) rfl (by decide) q905 q1022 ?_
      refine kx_astore_n dX1_load_53 rfl (Nat.le_of_ble_eq_true rfl) ?_
      refine kx_aload_n dX1_load_54 rfl rfl ?_
      refine kx_aload_n dX1_load_55 rfl rfl ?_
      refine kW_gI dX1_load_56 (kf1 fl_X1_185_X8) h (fun v24 h => ?_)
      refine kW_p dX1_load_59 (kp1 ⟨_, _, _, _, kc_X1, fl_X1_164_X1, Or.inl rfl, rfl, rfl⟩) h (fun σ25 h => ?_)
      refine kx_aload_n dX1_load_62 rfl rfl ?_
      refine kx_aload_n dX1_load_63 rfl rfl ?_
      refine kW_gI dX1_load_64 (kf1 fl_X1_188_X8) h (fun v26 h => ?_)
      refine kW_p dX1_load_67 (kp1 ⟨_, _, _, _, kc_X1, fl_X1_118_X1, Or.inl rfl, rfl, rfl⟩) h (fun σ27 h => ?_)
      refine kx_bipush (v := -4) dX1_load_70 (by decide) ?_
      refine kx_istore_n dX1_load_72 rfl (Nat.le_of_ble_eq_true rfl) ?_
      refine kx_aload_n dX1_load_73 rfl rfl ?_
      refine kx_iconst (v := 0) dX1_load_74 (by decide) ?_
      refine kW_p dX1_load_75 (kp1 ⟨_, _, _, _, kc_X1, fl_X1_129_X1, Or.inl rfl, rfl, rfl⟩) h (fun σ28 h => ?_)
      refine kx_iload_n dX1_load_78 rfl rfl ?_
      exact kx_iret dX1_load_79 rfl (hQ _ _ ⟨_, rfl, h⟩)
  obtain ⟨v17, rfl, h⟩ := hq
  refine kx_astore_nO dX1_load_21 rfl (Nat.le_of_ble_eq_true rfl) ?_
  refine kx_aload_n dX1_load_22 rfl rfl ?_
  refine kx_aload_n dX1_load_23 rfl rfl ?_
  refine kW_gO dX1_load_24 (kf1 fl_X1_103_X1) h (fun v29 h => ?_)
  obtain ⟨hr, h⟩ := h
  obtain ⟨c32, c33, hc, hs, h⟩ := h
  refine kx_callV dX1_load_27 lk_X1_161 (kw_X1_keep h) rfl (wR_rc hr rfl) rfl (Nat.le_of_ble_eq_true rfl) (Nat.le_of_ble_eq_true rfl) (Nat.le_of_ble_eq_true rfl) hc hs (fun E34 q35 σ36 hx => ?_) (fun v_ σ31 hq => ?_)
  · rcases hx with ⟨rfl, h⟩
    · skip
      refine kx_catch (tableOf []) ⟨10, 46, 53, 183⟩ (tableOf [((10 : Nat), (46 : Nat), (80 : Nat), (0 : Nat)), ((53 : Nat), (73 : Nat), (80 : Nat), (0 : Nat))]) rfl (fun z hz => by cases hz) rfl (by decide) q905 q1022 ?_
      refine kx_astore_n dX1_load_53 rfl (Nat.le_of_ble_eq_true rfl) ?_
      refine kx_aload_n dX1_load_54 rfl rfl ?_
      refine kx_aload_n dX1_load_55 rfl rfl ?_
      refine kW_gI dX1_load_56 (kf1 fl_X1_185_X8) h (fun v37 h => ?_)
      refine kW_p dX1_load_59 (kp1 ⟨_, _, _, _, kc_X1, fl_X1_164_X1, Or.inl rfl, rfl, rfl⟩) h (fun σ38 h => ?_)
      refine kx_aload_n dX1_load_62 rfl rfl ?_
      refine kx_aload_n dX1_load_63 rfl rfl ?_
      refine kW_gI dX1_load_64 (kf1 fl_X1_188_X8) h (fun v39 h => ?_)
      refine kW_p dX1_load_67 (kp1 ⟨_, _, _, _, kc_X1, fl_X1_118_X1, Or.inl rfl, rfl, rfl⟩) h (fun σ40 h => ?_)
      refine kx_bipush (v := -4) dX1_load_70 (by decide) ?_
      refine kx_istore_n dX1_load_72 rfl (Nat.le_of_ble_eq_true rfl) ?_
      refine kx_aload_n dX1_load_73 rfl rfl ?_
      refine kx_iconst (v := 0) dX1_load_74 (by decide) ?_
      refine kW_p dX1_load_75 (kp1 ⟨_, _, _, _, kc_X1, fl_X1_129_X1, Or.inl rfl, rfl, rfl⟩) h (fun σ41 h => ?_)
      refine kx_iload_n dX1_load_78 rfl rfl ?_
      exact kx_iret dX1_load_79 rfl (hQ _ _ ⟨_, rfl, h⟩)
  obtain ⟨rfl, h⟩ := hq
  refine kx_aload_n dX1_load_30 rfl rfl ?_
  refine kx_aload_nO dX1_load_31 rfl rfl ?_
  refine kW_p dX1_load_32 (kp1 ⟨_, _, _, _, kc_X1, fl_X1_103_X1, Or.inl rfl, (by cases v17 <;> rfl), (by cases v17 <;> rfl)⟩) h (fun σ42 h => ?_)
  refine kx_aload_n dX1_load_35 rfl rfl ?_
  refine kW_gO dX1_load_36 (kf1 fl_X1_103_X1) h (fun v43 h => ?_)
  obtain ⟨a44, rfl, hUa44⟩ := h
  have h := hUa44
  refine kW_gO dX1_load_39 (kf1 fl_X1_176_X2) h (fun v45 h => ?_)
  obtain ⟨a46, rfl, hUa46⟩ := h
  have h := hUa46
  obtain ⟨hr, h⟩ := h
  refine kx_callV dX1_load_42 lk_X1_180 (kw_J2_size h) rfl (wR_rc hr rfl) rfl (Nat.le_of_ble_eq_true rfl) (Nat.le_of_ble_eq_true rfl) (Nat.le_of_ble_eq_true rfl) (Nat.le_of_ble_eq_true rfl) (Nat.le_of_ble_eq_true rfl) (fun E49 q50 σ51 hx => ?_) (fun v_ σ48 hq => ?_)
  · rcases hx with ⟨rfl, h⟩
    · skip
      refine kx_catch (tableOf []) ⟨10, 46, 53, 183⟩ (tableOf [((10 : Nat), (46 : Nat), (80 : Nat), (0 : Nat)), ((53 : Nat), (73 : Nat), (80 : Nat), (0 : Nat))]) rfl (fun z hz => by cases hz) rfl (by decide) q905 q1022 ?_
      refine kx_astore_n dX1_load_53 rfl (Nat.le_of_ble_eq_true rfl) ?_
      refine kx_aload_n dX1_load_54 rfl rfl ?_
      refine kx_aload_n dX1_load_55 rfl rfl ?_
      refine kW_gI dX1_load_56 (kf1 fl_X1_185_X8) h (fun v52 h => ?_)
      refine kW_p dX1_load_59 (kp1 ⟨_, _, _, _, kc_X1, fl_X1_164_X1, Or.inl rfl, rfl, rfl⟩) h (fun σ53 h => ?_)
      refine kx_aload_n dX1_load_62 rfl rfl ?_
      refine kx_aload_n dX1_load_63 rfl rfl ?_
      refine kW_gI dX1_load_64 (kf1 fl_X1_188_X8) h (fun v54 h => ?_)
      refine kW_p dX1_load_67 (kp1 ⟨_, _, _, _, kc_X1, fl_X1_118_X1, Or.inl rfl, rfl, rfl⟩) h (fun σ55 h => ?_)
      refine kx_bipush (v := -4) dX1_load_70 (by decide) ?_
      refine kx_istore_n dX1_load_72 rfl (Nat.le_of_ble_eq_true rfl) ?_
      refine kx_aload_n dX1_load_73 rfl rfl ?_
      refine kx_iconst (v := 0) dX1_load_74 (by decide) ?_
      refine kW_p dX1_load_75 (kp1 ⟨_, _, _, _, kc_X1, fl_X1_129_X1, Or.inl rfl, rfl, rfl⟩) h (fun σ56 h => ?_)
      refine kx_iload_n dX1_load_78 rfl rfl ?_
      exact kx_iret dX1_load_79 rfl (hQ _ _ ⟨_, rfl, h⟩)
  obtain ⟨v47, rfl, h⟩ := hq
  refine kx_istore_n dX1_load_45 rfl (Nat.le_of_ble_eq_true rfl) ?_
  refine kx_aload_n dX1_load_46 rfl rfl ?_
  refine kx_iconst (v := 0) dX1_load_47 (by decide) ?_
  refine kW_p dX1_load_48 (kp1 ⟨_, _, _, _, kc_X1, fl_X1_129_X1, Or.inl rfl, rfl, rfl⟩) h (fun σ57 h => ?_)
  refine kx_iload_n dX1_load_51 rfl rfl ?_
  exact kx_iret dX1_load_52 rfl (hQ _ _ ⟨_, rfl, h⟩)
