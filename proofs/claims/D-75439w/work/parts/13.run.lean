set_option maxRecDepth 100000
def b2 (b : Bool) : Int32 := bif b then 1 else 0
def inL (v lo hi : Int64) : Bool := decide (lo ≤ v) && decide (v ≤ hi)
theorem b2n {b : Bool} : narrow .boolean (.int (b2 b)) = .int (b2 b) := by cases b <;> rfl
theorem b2_t {b : Bool} (h : b = true) : b2 b = 1 := by subst h; rfl
theorem b2_f {b : Bool} (h : b = false) : b2 b = 0 := by subst h; rfl
theorem b2_ne {b : Bool} (h : ¬ b2 b = 0) : b = true := by cases b <;> simp_all [b2]
theorem b2_eq {b : Bool} (h : b2 b = 0) : b = false := by cases b <;> simp_all [b2]
theorem inL_t {v lo hi : Int64} (h1 : ¬ lg_cmp v lo < 0) (h2 : ¬ 0 < lg_cmp v hi) : inL v lo hi = true := by
  rw [lg_cmp_lt] at h1; rw [lg_cmp_gt] at h2
  unfold inL
  rw [decide_eq_true (Int64.not_lt.mp h1), decide_eq_true (Int64.not_lt.mp h2)]; rfl
theorem inL_f1 {v lo hi : Int64} (h1 : lg_cmp v lo < 0) : inL v lo hi = false := by
  rw [lg_cmp_lt] at h1
  unfold inL
  rw [decide_eq_false (Int64.not_le.mpr h1)]; rfl
theorem inL_f2 {v lo hi : Int64} (h2 : 0 < lg_cmp v hi) : inL v lo hi = false := by
  rw [lg_cmp_gt] at h2
  unfold inL
  rw [decide_eq_false (Int64.not_le.mpr h2), Bool.and_false]
theorem nI_clI {x : Int32} (h : ¬ x < 0) : nI x.toNatClampNeg = x := by
  obtain ⟨j, hj, rfl⟩ := nI_of h
  rw [nI_clamp hj]
theorem mlw {w : Nat} (hw : w = 1 ∨ w = 2) : mlen w = 1465 := by rcases hw with rfl | rfl <;> rfl
theorem mlj {w : Nat} (hw : w = 1 ∨ w = 2) : w ∈ [1, 2, 16, 19, 21] := by rcases hw with rfl | rfl <;> decide
theorem kM_putW {τ : KHp} {m : Nat} {ad : Nat → Nat} {I : Nat → Int32} {A : Nat → Nat → Int32} {R : Nat → Nat → UInt32} {w w' : Nat} {G : KG} {F : KF} {B : KB} {bc bs pc : Nat} {ls : Nat → Option Value} {rest : List Value} {idx : Nat} (hdg : decode F.2.1 pc = .ok (.putfield idx, 3)) (hf : kx_fl F.1 idx 4 3) (kk : kx G F B bc bs (Mp τ m ad I A R w') (pc + 3) ls rest) : kx G F B bc bs (Mp τ m ad I A R w) pc ls (.ref (ad w') :: .ref m :: rest) := by
  refine kx_putf hdg kc_X6 hf Mp_m (by decide) (Or.inl rfl) rfl rfl ?_
  rw [show (mf ad I w).set 3 (.ref (ad w')) = mf ad I w' from rfl, Mp_setW]
  exact kk
/-! the reference as functions: a state, reads and writes that answer none where the machine would throw -/
def TS : Type := (Nat → Int32) × (Nat → Nat → Int32) × (Nat → Nat → UInt32) × Nat
def MP (τ : KHp) (m : Nat) (ad : Nat → Nat) (s : TS) : KHp := Mp τ m ad s.1 s.2.1 s.2.2.1 s.2.2.2
def sI (s : TS) (k : Nat) (v : Int32) : TS := (up s.1 k v, s.2)
def sA (s : TS) (j n : Nat) (v : Int32) : TS := (s.1, up s.2.1 j (up (s.2.1 j) n v), s.2.2)
def sR (s : TS) (j n : Nat) (v : UInt32) : TS := (s.1, s.2.1, up s.2.2.1 j (up (s.2.2.1 j) n v), s.2.2.2)
def sW (s : TS) (w : Nat) : TS := (s.1, s.2.1, s.2.2.1, w)
def gA (s : TS) (j : Nat) (i : Int32) : Option Int32 := if j ∈ [1, 2, 16, 19, 21] ∧ ¬ i < 0 ∧ i.toNatClampNeg < mlen j then some (s.2.1 j i.toNatClampNeg) else none
def gB (s : TS) (j : Nat) (i : Int32) : Option Int32 := if j ∈ [5, 15, 24] ∧ ¬ i < 0 ∧ i.toNatClampNeg < mlen j then some (s.2.1 j i.toNatClampNeg) else none
def gR (s : TS) (j : Nat) (i : Int32) : Option UInt32 := if j ∈ [4, 17, 18, 20, 22] ∧ ¬ i < 0 ∧ i.toNatClampNeg < mlen j then some (s.2.2.1 j i.toNatClampNeg) else none
def pA (s : TS) (j : Nat) (i v : Int32) : Option TS := if j ∈ [1, 2, 16, 19, 21] ∧ ¬ i < 0 ∧ i.toNatClampNeg < mlen j then some (sA s j i.toNatClampNeg v) else none
def pB (s : TS) (j : Nat) (i v : Int32) : Option TS := if j ∈ [5, 15, 24] ∧ ¬ i < 0 ∧ i.toNatClampNeg < mlen j then some (sA s j i.toNatClampNeg (vp_nar (mty j) v)) else none
def pR (s : TS) (j : Nat) (i : Int32) (v : UInt32) : Option TS := if j ∈ [4, 17, 18, 20, 22] ∧ ¬ i < 0 ∧ i.toNatClampNeg < mlen j then some (sR s j i.toNatClampNeg v) else none
def pI (s : TS) (k : Nat) (v : Int32) : Option TS := some (sI s k v)
def pZ (s : TS) (k : Nat) (v : Int32) : Option TS := if narrow .boolean (.int v) = .int v then some (sI s k v) else none
def pW (s : TS) (w : Nat) : Option TS := some (sW s w)
def oZ (v : Int32) : Option Int32 := if narrow .boolean (.int v) = .int v then some v else none
def oF (v : UInt32) : Option UInt32 := if v &&& 0x7fffffff ≤ 0x7f800000 then some v else none
def oD (x y : Int32) : Option Int32 := if y = 0 then none else some (x / y)
def oM (x y : Int32) : Option Int32 := if y = 0 then none else some (x - x / y * y)
def oML (x y : Int64) : Option Int64 := if y = 0 then none else some (x - x / y * y)
def loopN {α β : Type} (body : α → Option (α ⊕ β)) : Nat → α → Option β
  | 0, _ => none
  | n + 1, a => match body a with
    | none => none
    | some (.inl b) => loopN body n b
    | some (.inr z) => some z
theorem loopN_k {α β : Type} {body : α → Option (α ⊕ β)} (K : α → Prop) (KE : β → Prop) (step : ∀ a r, body a = some r → (∀ b, r = .inl b → K b) → (∀ b, r = .inr b → KE b) → K a) : ∀ (n : Nat) (a : α) (z : β), loopN body n a = some z → KE z → K a := by
  intro n
  induction n with
  | zero => intro a z h; cases h
  | succ n ih =>
    intro a z h hz
    unfold loopN at h
    cases hb : body a with
    | none => rw [hb] at h; cases h
    | some r =>
      rw [hb] at h
      cases r with
      | inl b => exact step a _ hb (fun c hc => by cases hc; exact ih b z h hz) (fun c hc => by cases hc)
      | inr b =>
        cases h
        exact step a _ hb (fun c hc => by cases hc) (fun c hc => by cases hc; exact hz)
theorem bd_s {α β : Type} {o : Option α} {f : α → Option β} {z : β} (h : o.bind f = some z) : ∃ v, o = some v ∧ f v = some z := by
  cases o with
  | none => cases h
  | some v => exact ⟨v, rfl, h⟩
theorem if_t {α : Type} {c : Prop} {d : Decidable c} {a b : Option α} {z : α} (hc : c) (h : (@ite _ c d a b) = some z) : a = some z := by rw [if_pos hc] at h; exact h
theorem if_f {α : Type} {c : Prop} {d : Decidable c} {a b : Option α} {z : α} (hc : ¬ c) (h : (@ite _ c d a b) = some z) : b = some z := by rw [if_neg hc] at h; exact h
theorem if_g {α : Type} {c : Prop} {d : Decidable c} {v z : α} (h : (@ite _ c d (some v) none) = some z) : c ∧ v = z := by
  by_cases hc : c
  · rw [if_pos hc] at h; exact ⟨hc, Option.some.inj h⟩
  · rw [if_neg hc] at h; cases h
/-- locals by a list -/
def kF : List (Nat × Value) → Nat → Option Value
  | [], _ => none
  | (j, v) :: r, i => bif Nat.beq i j then some v else kF r i
def kFo (ls : Nat → Option Value) : List (Nat × Value) → Prop
  | [] => True
  | (j, v) :: r => ls j = some v ∧ kFo ls r
theorem kFo_s {ls : Nat → Option Value} : ∀ {L : List (Nat × Value)}, kFo ls L → ∀ i v, kF L i = some v → ls i = some v
  | [], _, _, _, h => by cases h
  | (j, w) :: r, hk, i, v, h => by
    unfold kF at h
    cases hb : Nat.beq i j with
    | true => rw [hb] at h; cases h; rw [Nat.eq_of_beq_eq_true hb]; exact hk.1
    | false => rw [hb] at h; exact kFo_s hk.2 i v h
section KN
variable {τ : KHp} {m : Nat} {ad : Nat → Nat} {s : TS} {G : KG} {F : KF} {B : KB} {bc bs pc : Nat} {σ : KHp} {ls ls' : Nat → Option Value} {rest st : List Value} {α : Type} {z : α}
theorem kx_lw (h : ∀ i v, ls i = some v → ls' i = some v) (k : kx G F B bc bs σ pc ls st) : kx G F B bc bs σ pc ls' st := by
  intro p e R s m args below meth c H locs cells slots lsA hR hF hH hS hL hc hs
  exact k p e R s m args below meth c H locs cells slots lsA hR hF hH hS ⟨hL.1, hL.2.1, fun i v hv => hL.2.2 i v (h i v hv)⟩ hc hs
theorem kx_lwF (L : List (Nat × Value)) (h : kFo ls L) (k : kx G F B bc bs σ pc (kF L) st) : kx G F B bc bs σ pc ls st := kx_lw (kFo_s h) k
theorem kN_rc : kx_rc (MP τ m ad s) m "ArcRecorderModel" := kM_rc
theorem kN_m : MP τ m ad s m = some (100, .inr (4, mf ad s.1 s.2.2.2)) := Mp_m
theorem kN_ald {j : Nat} {i : Int32} {f : Int32 → Option α} (hd : Md m ad) (hdg : decode F.2.1 pc = .ok (.iaload, 1)) (h : (gA s j i).bind f = some z) (kk : ∀ v, gA s j i = some v → f v = some z → kx G F B bc bs (MP τ m ad s) (pc + 1) ls (.int v :: rest)) : kx G F B bc bs (MP τ m ad s) pc ls (.int i :: .ref (ad j) :: rest) := by
  obtain ⟨v, e, h⟩ := bd_s h
  obtain ⟨⟨h1, h2, h3⟩, h4⟩ := if_g e
  exact kM_iald hd hdg h1 (nI_clI h2).symm h3 (by rw [h4]; exact kk v e h)
theorem kN_bld {j : Nat} {i : Int32} {f : Int32 → Option α} (hd : Md m ad) (hdg : decode F.2.1 pc = .ok (.baload, 1)) (h : (gB s j i).bind f = some z) (kk : ∀ v, gB s j i = some v → f v = some z → kx G F B bc bs (MP τ m ad s) (pc + 1) ls (.int v :: rest)) : kx G F B bc bs (MP τ m ad s) pc ls (.int i :: .ref (ad j) :: rest) := by
  obtain ⟨v, e, h⟩ := bd_s h
  obtain ⟨⟨h1, h2, h3⟩, h4⟩ := if_g e
  exact kM_bald hd hdg h1 (nI_clI h2).symm h3 (by rw [h4]; exact kk v e h)
theorem kN_fld {j : Nat} {i : Int32} {f : UInt32 → Option α} (hd : Md m ad) (hdg : decode F.2.1 pc = .ok (.faload, 1)) (h : (gR s j i).bind f = some z) (kk : ∀ v, gR s j i = some v → f v = some z → kx G F B bc bs (MP τ m ad s) (pc + 1) ls (.float v :: rest)) : kx G F B bc bs (MP τ m ad s) pc ls (.int i :: .ref (ad j) :: rest) := by
  obtain ⟨v, e, h⟩ := bd_s h
  obtain ⟨⟨h1, h2, h3⟩, h4⟩ := if_g e
  exact kM_fald hd hdg h1 (nI_clI h2).symm h3 (by rw [h4]; exact kk v e h)
theorem kN_ast {j : Nat} {i x : Int32} {f : TS → Option α} (hd : Md m ad) (hdg : decode F.2.1 pc = .ok (.iastore, 1)) (h : (pA s j i x).bind f = some z) (kk : ∀ t, pA s j i x = some t → f t = some z → kx G F B bc bs (MP τ m ad t) (pc + 1) ls rest) : kx G F B bc bs (MP τ m ad s) pc ls (.int x :: .int i :: .ref (ad j) :: rest) := by
  obtain ⟨v, e, h⟩ := bd_s h
  obtain ⟨⟨h1, h2, h3⟩, h4⟩ := if_g e
  refine kM_iast hd hdg h1 (nI_clI h2).symm h3 ?_
  subst h4
  exact kk _ e h
theorem kN_bst {j : Nat} {i x : Int32} {f : TS → Option α} (hd : Md m ad) (hdg : decode F.2.1 pc = .ok (.bastore, 1)) (h : (pB s j i x).bind f = some z) (kk : ∀ t, pB s j i x = some t → f t = some z → kx G F B bc bs (MP τ m ad t) (pc + 1) ls rest) : kx G F B bc bs (MP τ m ad s) pc ls (.int x :: .int i :: .ref (ad j) :: rest) := by
  obtain ⟨v, e, h⟩ := bd_s h
  obtain ⟨⟨h1, h2, h3⟩, h4⟩ := if_g e
  refine kM_bast hd hdg h1 (nI_clI h2).symm h3 rfl ?_
  subst h4
  exact kk _ e h
theorem kN_fst {j : Nat} {i : Int32} {x : UInt32} {f : TS → Option α} (hd : Md m ad) (hdg : decode F.2.1 pc = .ok (.fastore, 1)) (h : (pR s j i x).bind f = some z) (kk : ∀ t, pR s j i x = some t → f t = some z → kx G F B bc bs (MP τ m ad t) (pc + 1) ls rest) : kx G F B bc bs (MP τ m ad s) pc ls (.float x :: .int i :: .ref (ad j) :: rest) := by
  obtain ⟨v, e, h⟩ := bd_s h
  obtain ⟨⟨h1, h2, h3⟩, h4⟩ := if_g e
  refine kM_fast hd hdg h1 (nI_clI h2).symm h3 ?_
  subst h4
  exact kk _ e h
theorem kN_put {idx k : Nat} {v : Int32} {f : TS → Option α} (hdg : decode F.2.1 pc = .ok (.putfield idx, 3)) (hf : kx_fl F.1 idx 4 k) (hfin : (TX6 k).2.2.2 = false ∨ (F.2.2.2.2.1 = true ∧ (TX6 k).1 = F.1 ∧ Cond.fieldLink F.1 idx (TX6 k).1 (TX6 k).2.1 (TX6 k).2.2.1 ∈ lw_all)) (hty : tyX6 k = .int)
    (h : (pI s k v).bind f = some z) (he : (mf ad s.1 s.2.2.2).set k (.int v) = mf ad (up s.1 k v) s.2.2.2) (kk : ∀ t, pI s k v = some t → f t = some z → kx G F B bc bs (MP τ m ad t) (pc + 3) ls rest) : kx G F B bc bs (MP τ m ad s) pc ls (.int v :: .ref m :: rest) := by
  obtain ⟨t, e, h⟩ := bd_s h
  have h4 := Option.some.inj e
  refine kM_put hdg hf hfin (by rw [hty]; rfl) (by rw [hty]; rfl) he ?_
  subst h4
  exact kk _ e h
theorem kN_putZ {idx k : Nat} {v : Int32} {f : TS → Option α} (hdg : decode F.2.1 pc = .ok (.putfield idx, 3)) (hf : kx_fl F.1 idx 4 k) (hfin : (TX6 k).2.2.2 = false ∨ (F.2.2.2.2.1 = true ∧ (TX6 k).1 = F.1 ∧ Cond.fieldLink F.1 idx (TX6 k).1 (TX6 k).2.1 (TX6 k).2.2.1 ∈ lw_all)) (hty : tyX6 k = .boolean) (hfit : fits .boolean (.int v) = true)
    (h : (pZ s k v).bind f = some z) (he : (mf ad s.1 s.2.2.2).set k (.int v) = mf ad (up s.1 k v) s.2.2.2) (kk : ∀ t, pZ s k v = some t → f t = some z → kx G F B bc bs (MP τ m ad t) (pc + 3) ls rest) : kx G F B bc bs (MP τ m ad s) pc ls (.int v :: .ref m :: rest) := by
  obtain ⟨t, e, h⟩ := bd_s h
  obtain ⟨h1, h4⟩ := if_g e
  refine kM_put hdg hf hfin (by rw [hty]; exact h1) (by rw [hty]; exact hfit) he ?_
  subst h4
  exact kk _ e h
theorem kN_putW {idx w : Nat} {f : TS → Option α} (hdg : decode F.2.1 pc = .ok (.putfield idx, 3)) (hf : kx_fl F.1 idx 4 3) (h : (pW s w).bind f = some z) (kk : ∀ t, pW s w = some t → f t = some z → kx G F B bc bs (MP τ m ad t) (pc + 3) ls rest) : kx G F B bc bs (MP τ m ad s) pc ls (.ref (ad w) :: .ref m :: rest) := by
  obtain ⟨t, e, h⟩ := bd_s h
  have h4 := Option.some.inj e
  refine kM_putW (w' := w) hdg hf ?_
  subst h4
  exact kk _ e h
theorem kN_div {x y : Int32} {f : Int32 → Option α} (hdg : decode F.2.1 pc = .ok (.idiv, 1)) (h : (oD x y).bind f = some z) (kk : ∀ v, oD x y = some v → f v = some z → kx G F B bc bs σ (pc + 1) ls (.int v :: rest)) : kx G F B bc bs σ pc ls (.int y :: .int x :: rest) := by
  obtain ⟨v, e, h⟩ := bd_s h
  unfold oD at e
  by_cases hy : y = 0
  · rw [if_pos hy] at e; cases e
  · have e' := e
    rw [if_neg hy] at e'
    refine kx_idiv hdg hy ?_
    rw [Option.some.inj e']
    exact kk v (by unfold oD; exact e) h
theorem kN_rem {x y : Int32} {f : Int32 → Option α} (hdg : decode F.2.1 pc = .ok (.irem, 1)) (h : (oM x y).bind f = some z) (kk : ∀ v, oM x y = some v → f v = some z → kx G F B bc bs σ (pc + 1) ls (.int v :: rest)) : kx G F B bc bs σ pc ls (.int y :: .int x :: rest) := by
  obtain ⟨v, e, h⟩ := bd_s h
  unfold oM at e
  by_cases hy : y = 0
  · rw [if_pos hy] at e; cases e
  · have e' := e
    rw [if_neg hy] at e'
    refine kx_irem hdg hy ?_
    rw [Option.some.inj e']
    exact kk v (by unfold oM; exact e) h
theorem kN_lrem {x y : Int64} {f : Int64 → Option α} (hdg : decode F.2.1 pc = .ok (.lrem, 1)) (h : (oML x y).bind f = some z) (kk : ∀ v, oML x y = some v → f v = some z → kx G F B bc bs σ (pc + 1) ls (.long v :: rest)) : kx G F B bc bs σ pc ls (.long y :: .long x :: rest) := by
  obtain ⟨v, e, h⟩ := bd_s h
  unfold oML at e
  by_cases hy : y = 0
  · rw [if_pos hy] at e; cases e
  · have e' := e
    rw [if_neg hy] at e'
    refine kx_lrem hdg hy ?_
    rw [Option.some.inj e']
    exact kk v (by unfold oML; exact e) h
theorem oF_s {v w : UInt32} (h : oF v = some w) : vf_n32 v ∧ v = w := if_g h
theorem kN_fadd {x y : UInt32} {f : UInt32 → Option α} (hdg : decode F.2.1 pc = .ok (.fadd, 1)) (h : (oF (FP.fadd x y)).bind f = some z) (kk : ∀ v, oF (FP.fadd x y) = some v → f v = some z → kx G F B bc bs σ (pc + 1) ls (.float v :: rest)) : kx G F B bc bs σ pc ls (.float y :: .float x :: rest) := by
  obtain ⟨v, e, h⟩ := bd_s h
  have e2 := oF_s e
  exact kx_fadd hdg e2.1 (by rw [e2.2]; exact kk v e h)
theorem kN_fsub {x y : UInt32} {f : UInt32 → Option α} (hdg : decode F.2.1 pc = .ok (.fsub, 1)) (h : (oF (FP.fsub x y)).bind f = some z) (kk : ∀ v, oF (FP.fsub x y) = some v → f v = some z → kx G F B bc bs σ (pc + 1) ls (.float v :: rest)) : kx G F B bc bs σ pc ls (.float y :: .float x :: rest) := by
  obtain ⟨v, e, h⟩ := bd_s h
  have e2 := oF_s e
  exact kx_fsub hdg e2.1 (by rw [e2.2]; exact kk v e h)
theorem kN_fmul {x y : UInt32} {f : UInt32 → Option α} (hdg : decode F.2.1 pc = .ok (.fmul, 1)) (h : (oF (FP.fmul x y)).bind f = some z) (kk : ∀ v, oF (FP.fmul x y) = some v → f v = some z → kx G F B bc bs σ (pc + 1) ls (.float v :: rest)) : kx G F B bc bs σ pc ls (.float y :: .float x :: rest) := by
  obtain ⟨v, e, h⟩ := bd_s h
  have e2 := oF_s e
  exact kx_fmul hdg e2.1 (by rw [e2.2]; exact kk v e h)
theorem kN_fdiv {x y : UInt32} {f : UInt32 → Option α} (hdg : decode F.2.1 pc = .ok (.fdiv, 1)) (h : (oF (FP.fdiv x y)).bind f = some z) (kk : ∀ v, oF (FP.fdiv x y) = some v → f v = some z → kx G F B bc bs σ (pc + 1) ls (.float v :: rest)) : kx G F B bc bs σ pc ls (.float y :: .float x :: rest) := by
  obtain ⟨v, e, h⟩ := bd_s h
  have e2 := oF_s e
  exact kx_fdiv hdg e2.1 (by rw [e2.2]; exact kk v e h)
theorem kN_zret {v : Int32} {f : Int32 → Option α} (hdg : decode F.2.1 pc = .ok (.ireturn, 1)) (hr : F.2.2.2.1 = some .boolean) (h : (oZ v).bind f = some z) (kk : ∀ w, w = v → f w = some z → B.2.2.2.1 (some (.int v)) σ) : kx G F B bc bs σ pc ls [.int v] := by
  obtain ⟨w, e, h⟩ := bd_s h
  obtain ⟨h1, h4⟩ := if_g e
  exact kx_zret hdg hr h1 (kk w h4.symm h)
end KN
