set_option maxRecDepth 100000
/-! the reference's heap: its object at m, its arrays at ad 1, ad 2 .. (by the numbers of its fields), over any other heap τ -/
def mjs : List Nat := [1, 2, 4, 5, 15, 16, 17, 18, 19, 20, 21, 22, 24]
def mf (ad : Nat → Nat) (I : Nat → Int32) (w : Nat) : List Value := [.int (I 0), .ref (ad 1), .ref (ad 2), .ref (ad w), .ref (ad 4), .ref (ad 5), .int (I 6), .int (I 7), .int (I 8), .int (I 9), .int (I 10), .int (I 11), .int (I 12), .int (I 13), .int (I 14), .ref (ad 15), .ref (ad 16), .ref (ad 17), .ref (ad 18), .ref (ad 19), .ref (ad 20), .ref (ad 21), .ref (ad 22), .int (I 23), .ref (ad 24), .int (I 25)]
def mlen : Nat → Nat
  | 1 => 1465 | 2 => 1465 | 4 => 160 | 5 => 1000 | 15 => 12 | 16 => 12 | 17 => 12 | 18 => 6 | 19 => 1465 | 20 => 160 | 21 => 8790 | 22 => 960 | 24 => 600 | _ => 0
def mty : Nat → FieldType
  | 5 => .byte | 24 => .byte | 15 => .boolean | 4 => .float | 17 => .float | 18 => .float | 20 => .float | 22 => .float | _ => .int
def mfl : Nat → Bool
  | 4 => true | 17 => true | 18 => true | 20 => true | 22 => true | _ => false
def mo (A : Nat → Nat → Int32) (R : Nat → Nat → UInt32) (j : Nat) : (FieldType × vp_A) ⊕ (Nat × List Value) := bif mfl j then .inl (.float, mlen j, .inr (.inr (.inl (R j)))) else .inl (mty j, mlen j, .inl (A j))
def Mp (τ : KHp) (m : Nat) (ad : Nat → Nat) (I : Nat → Int32) (A : Nat → Nat → Int32) (R : Nat → Nat → UInt32) (w : Nat) : KHp := fun a =>
  if a = m then some (100, .inr (4, mf ad I w)) else match mjs.find? (fun j => ad j == a) with
    | some j => some (100 + j, mo A R j)
    | none => τ a
def Md (m : Nat) (ad : Nat → Nat) : Prop := (∀ i ∈ mjs, ∀ j ∈ mjs, ad i = ad j → i = j) ∧ ∀ j ∈ mjs, ad j ≠ m
def up {α : Type} (f : Nat → α) (k : Nat) (v : α) : Nat → α := fun j => bif Nat.beq j k then v else f j
theorem up_s {α : Type} {f : Nat → α} {k : Nat} {v : α} : up f k v k = v := by unfold up; rw [Nat.beq_refl]; rfl
theorem up_n {α : Type} {f : Nat → α} {k j : Nat} {v : α} (h : j ≠ k) : up f k v j = f j := by unfold up; rw [kx_bf h]; rfl
theorem up_if {α : Type} (f : Nat → α) (k : Nat) (v : α) (j : Nat) : up f k v j = if j = k then v else f j := by
  by_cases h : j = k
  · rw [if_pos h, h, up_s]
  · rw [if_neg h, up_n h]
section KM
variable {τ : KHp} {m : Nat} {ad : Nat → Nat} {I : Nat → Int32} {A : Nat → Nat → Int32} {R : Nat → Nat → UInt32} {w : Nat}
theorem Mp_m : Mp τ m ad I A R w m = some (100, .inr (4, mf ad I w)) := if_pos rfl
theorem Mp_fi (hd : Md m ad) {j : Nat} (hj : j ∈ mjs) : mjs.find? (fun i => ad i == ad j) = some j := by
  cases h : mjs.find? (fun i => ad i == ad j) with
  | none => exact absurd (List.find?_eq_none.mp h j hj) (by simp)
  | some i =>
    have h1 := List.find?_some h
    have h2 := List.mem_of_find?_eq_some h
    rw [hd.1 i h2 j hj (by simpa using h1)]
theorem Mp_a (hd : Md m ad) {j : Nat} (hj : j ∈ mjs) : Mp τ m ad I A R w (ad j) = some (100 + j, mo A R j) := by
  unfold Mp
  rw [if_neg (hd.2 j hj), Mp_fi hd hj]
theorem Mp_o {a : Nat} (h1 : a ≠ m) (h2 : ∀ j ∈ mjs, ad j ≠ a) : Mp τ m ad I A R w a = τ a := by
  unfold Mp
  rw [if_neg h1, List.find?_eq_none.mpr (fun j hj => by simpa using h2 j hj)]
theorem Mp_setI {I' : Nat → Int32} : kU (Mp τ m ad I A R w) m (100, .inr (4, mf ad I' w)) = Mp τ m ad I' A R w := by
  funext a
  unfold kU Mp
  by_cases h : a = m
  · rw [if_pos h, if_pos h]
  · rw [if_neg h, if_neg h, if_neg h]
theorem Mp_setW {w' : Nat} : kU (Mp τ m ad I A R w) m (100, .inr (4, mf ad I w')) = Mp τ m ad I A R w' := by
  funext a
  unfold kU Mp
  by_cases h : a = m
  · rw [if_pos h, if_pos h]
  · rw [if_neg h, if_neg h, if_neg h]
theorem mo_up {j i : Nat} {f : Nat → Int32} (h : i ≠ j) : mo (up A j f) R i = mo A R i := by unfold mo; rw [up_n h]
theorem mo_upR {j i : Nat} {f : Nat → UInt32} (h : i ≠ j) : mo A (up R j f) i = mo A R i := by unfold mo; rw [up_n h]
theorem Mp_setA (hd : Md m ad) {j : Nat} (hj : j ∈ mjs) {f : Nat → Int32} (hf : mfl j = false) : kU (Mp τ m ad I A R w) (ad j) (100 + j, .inl (mty j, mlen j, .inl f)) = Mp τ m ad I (up A j f) R w := by
  funext a
  by_cases h : a = ad j
  · subst h
    rw [kU_s, Mp_a hd hj]
    unfold mo
    rw [hf, up_s]
    rfl
  · rw [kU_n h]
    unfold Mp
    by_cases h1 : a = m
    · rw [if_pos h1, if_pos h1]
    · rw [if_neg h1, if_neg h1]
      cases h2 : mjs.find? (fun j => ad j == a) with
      | none => rfl
      | some i =>
        have h3 := List.find?_some h2
        have h4 : ad i = a := by simpa using h3
        have h5 : i ≠ j := fun e => h (by rw [← h4, e])
        simp only []
        rw [mo_up h5]
theorem Mp_setR (hd : Md m ad) {j : Nat} (hj : j ∈ mjs) {f : Nat → UInt32} (hf : mfl j = true) : kU (Mp τ m ad I A R w) (ad j) (100 + j, .inl (.float, mlen j, .inr (.inr (.inl f)))) = Mp τ m ad I A (up R j f) w := by
  funext a
  by_cases h : a = ad j
  · subst h
    rw [kU_s, Mp_a hd hj]
    unfold mo
    rw [hf, up_s]
    rfl
  · rw [kU_n h]
    unfold Mp
    by_cases h1 : a = m
    · rw [if_pos h1, if_pos h1]
    · rw [if_neg h1, if_neg h1]
      cases h2 : mjs.find? (fun j => ad j == a) with
      | none => rfl
      | some i =>
        have h3 := List.find?_some h2
        have h4 : ad i = a := by simpa using h3
        have h5 : i ≠ j := fun e => h (by rw [← h4, e])
        simp only []
        rw [mo_upR h5]
variable {G : KG} {F : KF} {B : KB} {bc bs pc : Nat} {ls : Nat → Option Value} {rest : List Value}
theorem Mp_lk (hd : Md m ad) {j : Nat} (hj : j ∈ mjs) (hf : mfl j = false) : Mp τ m ad I A R w (ad j) = some (100 + j, .inl (mty j, mlen j, .inl (A j))) := by
  rw [Mp_a hd hj]; unfold mo; rw [hf]; rfl
theorem Mp_lkR (hd : Md m ad) {j : Nat} (hj : j ∈ mjs) (hf : mfl j = true) : Mp τ m ad I A R w (ad j) = some (100 + j, .inl (.float, mlen j, .inr (.inr (.inl (R j))))) := by
  rw [Mp_a hd hj]; unfold mo; rw [hf]; rfl
theorem kM_rc : kx_rc (Mp τ m ad I A R w) m "ArcRecorderModel" := ⟨_, _, _, Mp_m, Or.inl ⟨_, _, rfl⟩⟩
theorem kM_put {idx k : Nat} {v : Int32} {I' : Nat → Int32} (hdg : decode F.2.1 pc = .ok (.putfield idx, 3)) (hf : kx_fl F.1 idx 4 k) (hfin : (TX6 k).2.2.2 = false ∨ (F.2.2.2.2.1 = true ∧ (TX6 k).1 = F.1 ∧ Cond.fieldLink F.1 idx (TX6 k).1 (TX6 k).2.1 (TX6 k).2.2.1 ∈ lw_all)) (hn : narrow (tyX6 k) (.int v) = .int v) (hfit : fits (tyX6 k) (.int v) = true)
    (he : (mf ad I w).set k (.int v) = mf ad I' w) (kk : kx G F B bc bs (Mp τ m ad I' A R w) (pc + 3) ls rest) : kx G F B bc bs (Mp τ m ad I A R w) pc ls (.int v :: .ref m :: rest) := by
  refine kx_putf hdg kc_X6 hf Mp_m (by decide) hfin hn hfit ?_
  rw [he, Mp_setI]
  exact kk
theorem ml31 (j : Nat) : mlen j < 2 ^ 31 := by unfold mlen; split <;> decide
theorem kM_iald {j n : Nat} {i : Int32} (hd : Md m ad) (hdg : decode F.2.1 pc = .ok (.iaload, 1)) (hj : j ∈ [1, 2, 16, 19, 21]) (hi : i = nI n) (hn : n < mlen j) (kk : kx G F B bc bs (Mp τ m ad I A R w) (pc + 1) ls (.int (A j n) :: rest)) : kx G F B bc bs (Mp τ m ad I A R w) pc ls (.int i :: .ref (ad j) :: rest) := by
  have hb : n < 2 ^ 31 := Nat.lt_of_lt_of_le hn (by unfold mlen; split <;> decide)
  have h1 : j ∈ mjs ∧ mfl j = false ∧ mty j = .int := by
    simp only [List.mem_cons, List.not_mem_nil, or_false] at hj
    rcases hj with rfl | rfl | rfl | rfl | rfl <;> exact ⟨by decide, rfl, rfl⟩
  have h2 := Mp_lk (τ := τ) (I := I) (A := A) (R := R) (w := w) hd h1.1 h1.2.1
  rw [h1.2.2] at h2
  subst hi
  refine kx_iald hdg h2 (vp_in_nI hn (ml31 _)) ?_
  rw [nI_clamp hb]
  exact kk
theorem kM_bald {j n : Nat} {i : Int32} (hd : Md m ad) (hdg : decode F.2.1 pc = .ok (.baload, 1)) (hj : j ∈ [5, 15, 24]) (hi : i = nI n) (hn : n < mlen j) (kk : kx G F B bc bs (Mp τ m ad I A R w) (pc + 1) ls (.int (A j n) :: rest)) : kx G F B bc bs (Mp τ m ad I A R w) pc ls (.int i :: .ref (ad j) :: rest) := by
  have hb : n < 2 ^ 31 := Nat.lt_of_lt_of_le hn (by unfold mlen; split <;> decide)
  subst hi
  simp only [List.mem_cons, List.not_mem_nil, or_false] at hj
  rcases hj with rfl | rfl | rfl
  · refine kx_bald hdg (Mp_lk (j := 5) hd (by decide) rfl) (vp_in_nI hn (ml31 _)) ?_
    rw [nI_clamp hb]; exact kk
  · refine kx_zald hdg (Mp_lk (j := 15) hd (by decide) rfl) (vp_in_nI hn (ml31 _)) ?_
    rw [nI_clamp hb]; exact kk
  · refine kx_bald hdg (Mp_lk (j := 24) hd (by decide) rfl) (vp_in_nI hn (ml31 _)) ?_
    rw [nI_clamp hb]; exact kk
theorem kM_fald {j n : Nat} {i : Int32} (hd : Md m ad) (hdg : decode F.2.1 pc = .ok (.faload, 1)) (hj : j ∈ [4, 17, 18, 20, 22]) (hi : i = nI n) (hn : n < mlen j) (kk : kx G F B bc bs (Mp τ m ad I A R w) (pc + 1) ls (.float (R j n) :: rest)) : kx G F B bc bs (Mp τ m ad I A R w) pc ls (.int i :: .ref (ad j) :: rest) := by
  have hb : n < 2 ^ 31 := Nat.lt_of_lt_of_le hn (by unfold mlen; split <;> decide)
  have h1 : j ∈ mjs ∧ mfl j = true := by
    simp only [List.mem_cons, List.not_mem_nil, or_false] at hj
    rcases hj with rfl | rfl | rfl | rfl | rfl <;> exact ⟨by decide, rfl⟩
  subst hi
  refine kx_fald hdg (Mp_lkR hd h1.1 h1.2) (vp_in_nI hn (ml31 _)) ?_
  rw [nI_clamp hb]; exact kk
theorem upd_up {f : Nat → Int32} {k : Nat} {x : Int32} : upd f k x = up f k x := by
  funext j
  by_cases h : j = k
  · subst h; rw [up_s]; simp [upd]
  · rw [up_n h]; simp [upd, h]
theorem kM_iast {j n : Nat} {i x : Int32} (hd : Md m ad) (hdg : decode F.2.1 pc = .ok (.iastore, 1)) (hj : j ∈ [1, 2, 16, 19, 21]) (hi : i = nI n) (hn : n < mlen j) (kk : kx G F B bc bs (Mp τ m ad I (up A j (up (A j) n x)) R w) (pc + 1) ls rest) : kx G F B bc bs (Mp τ m ad I A R w) pc ls (.int x :: .int i :: .ref (ad j) :: rest) := by
  have hb : n < 2 ^ 31 := Nat.lt_of_lt_of_le hn (by unfold mlen; split <;> decide)
  have h1 : j ∈ mjs ∧ mfl j = false ∧ mty j = .int := by
    simp only [List.mem_cons, List.not_mem_nil, or_false] at hj
    rcases hj with rfl | rfl | rfl | rfl | rfl <;> exact ⟨by decide, rfl, rfl⟩
  have h2 := Mp_lk (τ := τ) (I := I) (A := A) (R := R) (w := w) hd h1.1 h1.2.1
  rw [h1.2.2] at h2
  subst hi
  refine kx_iast hdg h2 (by omega) (vp_in_nI hn (ml31 _)) ?_
  rw [nI_clamp hb, upd_up, ← h1.2.2, Mp_setA hd h1.1 h1.2.1]
  exact kk
theorem kM_bast {j n : Nat} {i x x' : Int32} (hd : Md m ad) (hdg : decode F.2.1 pc = .ok (.bastore, 1)) (hj : j ∈ [5, 15, 24]) (hi : i = nI n) (hn : n < mlen j) (hx : vp_nar (mty j) x = x') (kk : kx G F B bc bs (Mp τ m ad I (up A j (up (A j) n x')) R w) (pc + 1) ls rest) : kx G F B bc bs (Mp τ m ad I A R w) pc ls (.int x :: .int i :: .ref (ad j) :: rest) := by
  have hb : n < 2 ^ 31 := Nat.lt_of_lt_of_le hn (by unfold mlen; split <;> decide)
  subst hi
  subst hx
  simp only [List.mem_cons, List.not_mem_nil, or_false] at hj
  rcases hj with rfl | rfl | rfl
  · refine kx_bast hdg (Mp_lk (j := 5) hd (by decide) rfl) (by decide) (vp_in_nI hn (ml31 _)) ?_
    rw [nI_clamp hb, upd_up]
    exact (Mp_setA (j := 5) (τ := τ) (I := I) (A := A) (R := R) (w := w) hd (by decide) rfl) ▸ kk
  · refine kx_zast hdg (Mp_lk (j := 15) hd (by decide) rfl) (by decide) (vp_in_nI hn (ml31 _)) ?_
    rw [nI_clamp hb, upd_up]
    exact (Mp_setA (j := 15) (τ := τ) (I := I) (A := A) (R := R) (w := w) hd (by decide) rfl) ▸ kk
  · refine kx_bast hdg (Mp_lk (j := 24) hd (by decide) rfl) (by decide) (vp_in_nI hn (ml31 _)) ?_
    rw [nI_clamp hb, upd_up]
    exact (Mp_setA (j := 24) (τ := τ) (I := I) (A := A) (R := R) (w := w) hd (by decide) rfl) ▸ kk
theorem kM_fast {j n : Nat} {i : Int32} {x : UInt32} (hd : Md m ad) (hdg : decode F.2.1 pc = .ok (.fastore, 1)) (hj : j ∈ [4, 17, 18, 20, 22]) (hi : i = nI n) (hn : n < mlen j) (kk : kx G F B bc bs (Mp τ m ad I A (up R j (up (R j) n x)) w) (pc + 1) ls rest) : kx G F B bc bs (Mp τ m ad I A R w) pc ls (.float x :: .int i :: .ref (ad j) :: rest) := by
  have hb : n < 2 ^ 31 := Nat.lt_of_lt_of_le hn (by unfold mlen; split <;> decide)
  have h1 : j ∈ mjs ∧ mfl j = true := by
    simp only [List.mem_cons, List.not_mem_nil, or_false] at hj
    rcases hj with rfl | rfl | rfl | rfl | rfl <;> exact ⟨by decide, rfl⟩
  have h3 : ∀ (f : Nat → UInt32), vf_upd f n x = up f n x := fun f => by
    funext q
    by_cases h : q = n
    · subst h; rw [up_s]; simp [vf_upd]
    · rw [up_n h]; simp [vf_upd, h]
  subst hi
  refine kx_fast hdg (Mp_lkR hd h1.1 h1.2) (by omega) (vp_in_nI hn (ml31 _)) ?_
  rw [nI_clamp hb, h3, Mp_setR hd h1.1 h1.2]
  exact kk
end KM
theorem kz_eq {x y : Int64} : lg_cmp x y = 0 ↔ x = y := lg_cmp_eq x y
theorem b01 {c : Prop} [Decidable c] : narrow .boolean (.int (if c then 1 else 0)) = .int (if c then 1 else 0) := by by_cases h : c <;> simp [h] <;> rfl
