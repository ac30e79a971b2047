set_option maxRecDepth 100000
theorem at_Argument : ∀ w ∈ vx_at0 "ArcRecorder" 3 "java/lang/IllegalArgumentException" ["java/lang/RuntimeException", "java/lang/Exception"], w ∈ lw_all ∨ (w ∈ lw_tbl ∧ ∃ C T, w = .castable C T) ∨ (w ∈ lw_tbl ∧ ∃ y, w = .declares y) := by
  intro w hw
  obtain ⟨h1, h2⟩ := List.mem_filter.mp hw
  simp only [Bundle.ownAtoms0, Bundle.throwableAtoms, Bundle.chain0Atoms, Bundle.passAtoms, List.mem_append, List.mem_cons, List.not_mem_nil, or_false] at h1
  repeat' rcases h1 with h1 | h1
  all_goals first | exact absurd h2 (by decide) | exact Or.inr (Or.inl ⟨q234, _, _, rfl⟩) | exact Or.inl q149 | exact Or.inl q254 | exact Or.inl q263 | exact Or.inl q271 | exact Or.inl q274 | exact Or.inl q276 | exact Or.inl q255 | exact Or.inl q256 | exact Or.inl q206 | exact Or.inl q207 | exact Or.inl q257 | exact Or.inl q262 | exact Or.inl q272 | exact Or.inl q514 | exact Or.inl q244 | exact Or.inl q515 | exact Or.inl q246 | exact Or.inl q516 | exact Or.inl q248 | exact Or.inl q258 | exact Or.inl q260 | exact Or.inl q253 | exact Or.inl q252 | exact Or.inl q250 | exact Or.inl q2006 | exact Or.inl q2007 | exact Or.inl q2008 | exact Or.inl q1543 | exact Or.inr (Or.inr ⟨q235, _, rfl⟩) | exact Or.inl q1544 | exact Or.inl q1545 | exact Or.inl q1546 | exact Or.inr (Or.inr ⟨q237, _, rfl⟩) | exact Or.inl q1547 | exact Or.inl q1548 | exact Or.inr (Or.inr ⟨q239, _, rfl⟩) | exact Or.inl q2005 | exact Or.inl q233 | exact Or.inl q241 | exact Or.inl q242 | exact Or.inl q243 | exact Or.inl q245 | exact Or.inl q247 | exact Or.inl q249 | exact Or.inl q251
set_option maxHeartbeats 4000000 in
theorem kw_X1_requireArgument {G : KG} {bc bs : Nat} {σ : KHp} {x0 : Int32} {Q : KHp → Prop} {X : String → Nat → KHp → Prop} (h : W_X1_requireArgument G bc bs σ x0 Q X) : kx_c G yX1_requireArgument (ws_ yX1_requireArgument cX1_requireArgument 1 (Option.none : Option Jvm.ClassFile.FieldType)) 8 bc bs [.int (x0)] σ (fun rv σ' => rv = none ∧ Q σ') X := by
  refine kx_mk3 (ini := false) rfl (Nat.le_of_ble_eq_true rfl) (fun h => by cases h) (fun Q1 X1 hQ hX => ?_)
  unfold W_X1_requireArgument at h
  refine kx_iload_n dX1_requireArgument_0 rfl rfl ?_
  refine kx_if_ne (tgt := 12) dX1_requireArgument_1 (by decide) (fun c => ?_) (fun c => ?_)
  · have h := w_iff c h
    exact kx_vret dX1_requireArgument_12 rfl (hQ _ _ ⟨rfl, h⟩)
  · obtain ⟨h1, h2, h3⟩ := w_ift c h
    exact kx_throw0 (cls := "java/lang/IllegalArgumentException") (names := ["java/lang/RuntimeException", "java/lang/Exception"]) (by decide) (by decide) (by decide) q2004 q152 at_Argument (by decide +kernel) dX1_requireArgument_4 dX1_requireArgument_7 dX1_requireArgument_8 dX1_requireArgument_11 rfl (Nat.le_of_ble_eq_true rfl) (Nat.le_of_ble_eq_true rfl) h1 h2 (fun q => hX _ _ _ (h3 q))
theorem at_State : ∀ w ∈ vx_at0 "ArcRecorder" 9 "java/lang/IllegalStateException" ["java/lang/RuntimeException", "java/lang/Exception"], w ∈ lw_all ∨ (w ∈ lw_tbl ∧ ∃ C T, w = .castable C T) ∨ (w ∈ lw_tbl ∧ ∃ y, w = .declares y) := by
  intro w hw
  obtain ⟨h1, h2⟩ := List.mem_filter.mp hw
  simp only [Bundle.ownAtoms0, Bundle.throwableAtoms, Bundle.chain0Atoms, Bundle.passAtoms, List.mem_append, List.mem_cons, List.not_mem_nil, or_false] at h1
  repeat' rcases h1 with h1 | h1
  all_goals first | exact absurd h2 (by decide) | exact Or.inr (Or.inl ⟨q1566, _, _, rfl⟩) | exact Or.inl q149 | exact Or.inl q254 | exact Or.inl q263 | exact Or.inl q271 | exact Or.inl q274 | exact Or.inl q276 | exact Or.inl q255 | exact Or.inl q256 | exact Or.inl q206 | exact Or.inl q207 | exact Or.inl q257 | exact Or.inl q262 | exact Or.inl q272 | exact Or.inl q514 | exact Or.inl q244 | exact Or.inl q515 | exact Or.inl q246 | exact Or.inl q516 | exact Or.inl q248 | exact Or.inl q258 | exact Or.inl q260 | exact Or.inl q253 | exact Or.inl q252 | exact Or.inl q250 | exact Or.inl q1985 | exact Or.inl q1986 | exact Or.inl q1987 | exact Or.inl q1543 | exact Or.inr (Or.inr ⟨q235, _, rfl⟩) | exact Or.inl q1544 | exact Or.inl q1545 | exact Or.inl q1546 | exact Or.inr (Or.inr ⟨q237, _, rfl⟩) | exact Or.inl q1547 | exact Or.inl q1548 | exact Or.inr (Or.inr ⟨q239, _, rfl⟩) | exact Or.inl q1984 | exact Or.inl q1565 | exact Or.inl q1567 | exact Or.inl q267 | exact Or.inl q1568 | exact Or.inl q1569 | exact Or.inl q1570 | exact Or.inl q1571 | exact Or.inl q1572
set_option maxHeartbeats 4000000 in
theorem kw_X1_requireState {G : KG} {bc bs : Nat} {σ : KHp} {x0 : Int32} {Q : KHp → Prop} {X : String → Nat → KHp → Prop} (h : W_X1_requireState G bc bs σ x0 Q X) : kx_c G yX1_requireState (ws_ yX1_requireState cX1_requireState 1 (Option.none : Option Jvm.ClassFile.FieldType)) 8 bc bs [.int (x0)] σ (fun rv σ' => rv = none ∧ Q σ') X := by
  refine kx_mk3 (ini := false) rfl (Nat.le_of_ble_eq_true rfl) (fun h => by cases h) (fun Q1 X1 hQ hX => ?_)
  unfold W_X1_requireState at h
  refine kx_iload_n dX1_requireState_0 rfl rfl ?_
  refine kx_if_ne (tgt := 12) dX1_requireState_1 (by decide) (fun c => ?_) (fun c => ?_)
  · have h := w_iff c h
    exact kx_vret dX1_requireState_12 rfl (hQ _ _ ⟨rfl, h⟩)
  · obtain ⟨h1, h2, h3⟩ := w_ift c h
    exact kx_throw0 (cls := "java/lang/IllegalStateException") (names := ["java/lang/RuntimeException", "java/lang/Exception"]) (by decide) (by decide) (by decide) q1983 q172 at_State (by decide +kernel) dX1_requireState_4 dX1_requireState_7 dX1_requireState_8 dX1_requireState_11 rfl (Nat.le_of_ble_eq_true rfl) (Nat.le_of_ble_eq_true rfl) h1 h2 (fun q => hX _ _ _ (h3 q))
theorem at_Index : ∀ w ∈ vx_at0 "ArcRecorder" 12 "java/lang/IndexOutOfBoundsException" ["java/lang/RuntimeException", "java/lang/Exception"], w ∈ lw_all ∨ (w ∈ lw_tbl ∧ ∃ C T, w = .castable C T) ∨ (w ∈ lw_tbl ∧ ∃ y, w = .declares y) := by
  intro w hw
  obtain ⟨h1, h2⟩ := List.mem_filter.mp hw
  simp only [Bundle.ownAtoms0, Bundle.throwableAtoms, Bundle.chain0Atoms, Bundle.passAtoms, List.mem_append, List.mem_cons, List.not_mem_nil, or_false] at h1
  repeat' rcases h1 with h1 | h1
  all_goals first | exact absurd h2 (by decide) | exact Or.inr (Or.inl ⟨q1664, _, _, rfl⟩) | exact Or.inl q149 | exact Or.inl q254 | exact Or.inl q263 | exact Or.inl q271 | exact Or.inl q274 | exact Or.inl q276 | exact Or.inl q255 | exact Or.inl q256 | exact Or.inl q206 | exact Or.inl q207 | exact Or.inl q257 | exact Or.inl q262 | exact Or.inl q272 | exact Or.inl q514 | exact Or.inl q244 | exact Or.inl q515 | exact Or.inl q246 | exact Or.inl q516 | exact Or.inl q248 | exact Or.inl q258 | exact Or.inl q260 | exact Or.inl q253 | exact Or.inl q252 | exact Or.inl q250 | exact Or.inl q2058 | exact Or.inl q2059 | exact Or.inl q2060 | exact Or.inl q1543 | exact Or.inr (Or.inr ⟨q235, _, rfl⟩) | exact Or.inl q1544 | exact Or.inl q1545 | exact Or.inl q1546 | exact Or.inr (Or.inr ⟨q237, _, rfl⟩) | exact Or.inl q1547 | exact Or.inl q1548 | exact Or.inr (Or.inr ⟨q239, _, rfl⟩) | exact Or.inl q2057 | exact Or.inl q1663 | exact Or.inl q1665 | exact Or.inl q268 | exact Or.inl q1666 | exact Or.inl q1667 | exact Or.inl q1668 | exact Or.inl q1669 | exact Or.inl q1670
set_option maxHeartbeats 4000000 in
theorem kw_X1_requireIndex {G : KG} {bc bs : Nat} {σ : KHp} {x0 : Int32} {Q : KHp → Prop} {X : String → Nat → KHp → Prop} (h : W_X1_requireIndex G bc bs σ x0 Q X) : kx_c G yX1_requireIndex (ws_ yX1_requireIndex cX1_requireIndex 1 (Option.none : Option Jvm.ClassFile.FieldType)) 8 bc bs [.int (x0)] σ (fun rv σ' => rv = none ∧ Q σ') X := by
  refine kx_mk3 (ini := false) rfl (Nat.le_of_ble_eq_true rfl) (fun h => by cases h) (fun Q1 X1 hQ hX => ?_)
  unfold W_X1_requireIndex at h
  refine kx_iload_n dX1_requireIndex_0 rfl rfl ?_
  refine kx_if_ne (tgt := 12) dX1_requireIndex_1 (by decide) (fun c => ?_) (fun c => ?_)
  · have h := w_iff c h
    exact kx_vret dX1_requireIndex_12 rfl (hQ _ _ ⟨rfl, h⟩)
  · obtain ⟨h1, h2, h3⟩ := w_ift c h
    exact kx_throw0 (cls := "java/lang/IndexOutOfBoundsException") (names := ["java/lang/RuntimeException", "java/lang/Exception"]) (by decide) (by decide) (by decide) q2056 q188 at_Index (by decide +kernel) dX1_requireIndex_4 dX1_requireIndex_7 dX1_requireIndex_8 dX1_requireIndex_11 rfl (Nat.le_of_ble_eq_true rfl) (Nat.le_of_ble_eq_true rfl) h1 h2 (fun q => hX _ _ _ (h3 q))
theorem at_Element : ∀ w ∈ vx_at0 "ArcRecorder" 15 "java/util/NoSuchElementException" ["java/lang/RuntimeException", "java/lang/Exception"], w ∈ lw_all ∨ (w ∈ lw_tbl ∧ ∃ C T, w = .castable C T) ∨ (w ∈ lw_tbl ∧ ∃ y, w = .declares y) := by
  intro w hw
  obtain ⟨h1, h2⟩ := List.mem_filter.mp hw
  simp only [Bundle.ownAtoms0, Bundle.throwableAtoms, Bundle.chain0Atoms, Bundle.passAtoms, List.mem_append, List.mem_cons, List.not_mem_nil, or_false] at h1
  repeat' rcases h1 with h1 | h1
  all_goals first | exact absurd h2 (by decide) | exact Or.inr (Or.inl ⟨q1532, _, _, rfl⟩) | exact Or.inl q149 | exact Or.inl q254 | exact Or.inl q263 | exact Or.inl q271 | exact Or.inl q274 | exact Or.inl q276 | exact Or.inl q255 | exact Or.inl q256 | exact Or.inl q206 | exact Or.inl q207 | exact Or.inl q257 | exact Or.inl q262 | exact Or.inl q272 | exact Or.inl q514 | exact Or.inl q244 | exact Or.inl q515 | exact Or.inl q246 | exact Or.inl q516 | exact Or.inl q248 | exact Or.inl q258 | exact Or.inl q260 | exact Or.inl q253 | exact Or.inl q252 | exact Or.inl q250 | exact Or.inl q1540 | exact Or.inl q1541 | exact Or.inl q1542 | exact Or.inl q1543 | exact Or.inr (Or.inr ⟨q235, _, rfl⟩) | exact Or.inl q1544 | exact Or.inl q1545 | exact Or.inl q1546 | exact Or.inr (Or.inr ⟨q237, _, rfl⟩) | exact Or.inl q1547 | exact Or.inl q1548 | exact Or.inr (Or.inr ⟨q239, _, rfl⟩) | exact Or.inl q2363 | exact Or.inl q1531 | exact Or.inl q1533 | exact Or.inl q270 | exact Or.inl q1534 | exact Or.inl q1535 | exact Or.inl q1536 | exact Or.inl q1537 | exact Or.inl q1538
set_option maxHeartbeats 4000000 in
theorem kw_X1_requireElement {G : KG} {bc bs : Nat} {σ : KHp} {x0 : Int32} {Q : KHp → Prop} {X : String → Nat → KHp → Prop} (h : W_X1_requireElement G bc bs σ x0 Q X) : kx_c G yX1_requireElement (ws_ yX1_requireElement cX1_requireElement 1 (Option.none : Option Jvm.ClassFile.FieldType)) 8 bc bs [.int (x0)] σ (fun rv σ' => rv = none ∧ Q σ') X := by
  refine kx_mk3 (ini := false) rfl (Nat.le_of_ble_eq_true rfl) (fun h => by cases h) (fun Q1 X1 hQ hX => ?_)
  unfold W_X1_requireElement at h
  refine kx_iload_n dX1_requireElement_0 rfl rfl ?_
  refine kx_if_ne (tgt := 12) dX1_requireElement_1 (by decide) (fun c => ?_) (fun c => ?_)
  · have h := w_iff c h
    exact kx_vret dX1_requireElement_12 rfl (hQ _ _ ⟨rfl, h⟩)
  · obtain ⟨h1, h2, h3⟩ := w_ift c h
    exact kx_throw0 (cls := "java/util/NoSuchElementException") (names := ["java/lang/RuntimeException", "java/lang/Exception"]) (by decide) (by decide) (by decide) q2362 q187 at_Element (by decide +kernel) dX1_requireElement_4 dX1_requireElement_7 dX1_requireElement_8 dX1_requireElement_11 rfl (Nat.le_of_ble_eq_true rfl) (Nat.le_of_ble_eq_true rfl) h1 h2 (fun q => hX _ _ _ (h3 q))
theorem kw_J20_ordinal {G : KG} {σ : KHp} {x0 : Nat} {Q : Int32 → KHp → Prop} {X : String → Nat → KHp → Prop} (h : W_J20_ordinal G σ x0 Q X) : kx_c G yJ20_ordinal (ws_ yJ20_ordinal cJ20_ordinal 1 (Option.some Jvm.ClassFile.FieldType.int)) 2 0 0 [.ref (x0)] σ (fun rv σ' => ∃ r, rv = some (.int r) ∧ Q r σ') X := by
  refine kx_mk3 (ini := false) (by decide) (Nat.le_of_ble_eq_true rfl) (fun h => by cases h) (fun Q1 X1 hQ hX => ?_)
  obtain ⟨t, c, E, v, h1, h2, h3⟩ := h
  refine kx_aload_n dJ20_ordinal_0 rfl rfl ?_
  refine kx_getE dJ20_ordinal_1 h1 h2 q3545 ?_
  exact kx_iret dJ20_ordinal_4 rfl (hQ _ _ ⟨_, rfl, h3⟩)
