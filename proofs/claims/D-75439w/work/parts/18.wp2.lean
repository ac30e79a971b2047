set_option maxRecDepth 100000
def jv {κ : Type} (v : κ) (f : κ → Prop) : Prop := f v
def wD (v : UInt64) (f : UInt64 → Prop) : Prop := vf_n64 v ∧ f v
def wAr (σ : KHp) (a : Nat) (nm : String) : Prop := ∃ (t : Nat) (ty : FieldType) (x : vp_A), σ a = some (t, .inl (ty, x)) ∧ "[" ++ ty.toString = nm
def wIn (σ : KHp) (a yes : Nat) (nos : List Nat) (f : Int32 → Prop) : Prop := (wR σ a yes ∧ f 1) ∨ (∃ c, c ∈ nos ∧ wR σ a c ∧ f 0)
def wIf (c p q : Prop) : Prop := (c → p) ∧ (¬ c → q)
theorem w_ift {c p q : Prop} (hc : c) (h : wIf c p q) : p := h.1 hc
theorem w_iff {c p q : Prop} (hc : ¬ c) (h : wIf c p q) : q := h.2 hc
theorem va_cat (o : Option Nat) : (va_rf o).category = 1 := by cases o <;> rfl
section KLS
variable {p : Program} {l : Launch} {e : Env} {R : Room} {s : State} {m : MethodId} {args : Array Value} {below : List Frame} {meth : Method} {c : Code} {locs : List Loc} {cells slots : Nat}
theorem kx_ldcwS0 {T : State} (X : Stand p l e R s m args below meth c T locs cells slots) (hexec : p.tables.exec = Jvm.exec) {own text : String} {index : Nat} {a : Addr} (hown : s.vm.findClass own = some m.cls)
    (hconst : (Cond.stringRef own index text).before args s = true) (hev : (Term.string own index).eval args s none [] s = some (.ref a)) {g : JFrame} (hg : g.method = m) (hdg : decode c.code g.pc = .ok (.ldc_w index, 3)) :
    ∀ target, Steps p.tables e below (T.setTop { g with pc := g.pc + 3, stack := .ref a :: g.stack }) target → Steps p.tables e below (T.setTop g) target := by
  obtain ⟨k, cf, i, a', hk, hcf, hcp, -, hr, hev'⟩ := Cond.stringRef_spec hown hconst
  cases hev.symm.trans hev'
  obtain ⟨k', hk', he⟩ := X.warmed.alike.2.2 _ _ hk
  have hr' : k'.resolved[index]? = some (some (.string a)) := by
    rcases X.warmed.entry hk hk' index with h | ⟨h, -⟩
    · rw [h]; exact hr
    · rw [hr] at h; cases h
  intro target hrest
  subst hg
  jvm_step X.here [hexec, hdg, ldc_w.wp_string (e := e) (s := T) (f := g) X.here.top hk' (by rw [he]; exact hcf) hcp hr']
  exact hrest
end KLS
theorem arrV_any {cI : ClassId} {N : Nat} {f : Nat → Value} {i : Nat} {v : Value} (h : (arrV cI N f).slots[i]? = some v) : ∃ j, v = f j := by
  refine ⟨i, ?_⟩
  simp only [arrV, Array.getElem?_ofFn] at h
  split at h
  · exact (Option.some.inj h).symm
  · cases h
theorem vW_fF {cA : ClassId} {n : Nat} {g : Nat → UInt32} {i : Nat} {v : Value} (h : (vp_cell cA (n, .inr (.inr (.inl g)))).slots[i]? = some v) : fits .float v = true := by
  obtain ⟨j, hj⟩ := arrV_any (f := fun j => .float (g j)) h
  rw [hj]; rfl
theorem vW_fB {cA : ClassId} {n : Nat} {g : Nat → Int32} (hf : ∀ i, fits .byte (.int (g i)) = true) {i : Nat} {v : Value} (h : (vp_cell cA (n, .inl g)).slots[i]? = some v) : fits .byte v = true := by
  obtain ⟨j, hj⟩ := arrV_any (f := fun j => .int (g j)) h
  rw [hj]; exact hf j
theorem vW_fO {cA : ClassId} {n : Nat} {C : String} {g : Nat → Option Nat} {i : Nat} {v : Value} (h : (vp_cell cA (n, .inr (.inr (.inr (.inr g))))).slots[i]? = some v) : fits (.object C) v = true := by
  obtain ⟨j, hj⟩ := arrV_any (f := fun j => va_rf (g j)) h
  rw [hj]
  show fits (.object C) (va_rf (g j)) = true
  cases g j <;> rfl
section KW2
variable {G : KG} {F : KF} {B : KB} {bc bs pc : Nat} {σ : KHp} {ls : Nat → Option Value} {rest st : List Value}
theorem kW_f2d {x : UInt32} {f : UInt64 → Prop} (hdg : decode F.2.1 pc = .ok (.f2d, 1)) (h : wD (FP.f2d x) f) (kk : ∀ v, f v → kx G F B bc bs σ (pc + 1) ls (.double v :: rest)) : kx G F B bc bs σ pc ls (.float x :: rest) := kx_f2d hdg h.1 (kk _ h.2)
theorem kW_castL {idx a : Nat} {C : String} (hdg : decode F.2.1 pc = .ok (.checkcast idx, 3)) (hr : ∃ D, kx_rc σ a D ∧ Cond.castable D C ∈ lw_tbl) (q1 : Cond.classLink F.1 idx C ∈ lw_all) (kk : kx G F B bc bs σ (pc + 3) ls (.ref a :: rest)) : kx G F B bc bs σ pc ls (.ref a :: rest) := by
  obtain ⟨D, h1, h2⟩ := hr
  exact kx_castY hdg h1 q1 h2 kk
theorem kW_in {idx a yes : Nat} {nos : List Nat} {C : String} {T : u_T} {N : Nat} {f : Int32 → Prop} (hdg : decode F.2.1 pc = .ok (.instanceof idx, 3)) (hci : kx_cl[yes]? = some (C, T, N)) (q1 : Cond.classLink F.1 idx C ∈ lw_all) (hn : ∀ c ∈ nos, ∃ (D : String) (T' : u_T) (N' : Nat), kx_cl[c]? = some (D, T', N') ∧ (D, C) ∈ kx_nc) (h : wIn σ a yes nos f) (kk : ∀ v, f v → kx G F B bc bs σ (pc + 3) ls (.int v :: rest)) : kx G F B bc bs σ pc ls (.ref a :: rest) := by
  rcases h with ⟨⟨t, fs, h1⟩, h2⟩ | ⟨c, hc, h1, h2⟩
  · exact kx_instS hdg h1 hci q1 (kk _ h2)
  · obtain ⟨D, T', N', g1, g2⟩ := hn c hc
    exact kx_instNo hdg (wR_rc h1 g1) q1 g2 (kk _ h2)
theorem kx_getE {idx a t ci : Nat} {v : Value} {E : String} (hdg : decode F.2.1 pc = .ok (.getfield idx, 3)) (ho : σ a = some (t, .inr (ci, [v]))) (hc : 100 ≤ ci ∧ kx_el[ci - 100]? = some E) (q1 : Cond.fieldLink F.1 idx "java/lang/Enum" "ordinal" "I" ∈ lw_all) (kk : kx G F B bc bs σ (pc + 3) ls (v :: rest)) : kx G F B bc bs σ pc ls (.ref a :: rest) := by
  intro p e R s m args below meth c H locs cells slots lsA hR hF hH hS hL hc' hs
  have hu := hF.2.2.2.2.2.2.2.2.1
  obtain ⟨cf, k, i, f, cell, h1, h2, h3, h4, h5, h6⟩ := va_OF.moved (kx_al hu) ((kx_el_o hH ho hc).2 v rfl)
  exact W.getf hF.1 hF.2.1 hF.2.2.2.2.2.1 (kx_w hu q1) h1 h2 h3 h4 (v := v) h5 rfl rfl hdg (kk p e R s m args below meth c H locs cells slots lsA hR hF hH hS hL hc' hs)
theorem kx_ldcwS {idx : Nat} {tx : String} {i : Nat} (hdg : decode F.2.1 pc = .ok (.ldc_w idx, 3)) (q : (F.1, idx, tx, i) ∈ kx_str) (kk : kx G F B bc bs σ (pc + 3) ls (.ref (kx_K G i) :: rest)) : kx G F B bc bs σ pc ls rest := by
  intro p e R s m args below meth c H locs cells slots lsA hR hF hH hS hL hc hs T hT X
  have hu := hF.2.2.2.2.2.2.2.2.1
  have hZ := vk_R.warm hu.2 (hu.1.2.2.2.2.2.2.1 _ q)
  obtain ⟨t, a1, b1⟩ := kk p e R s m args below meth c H locs cells slots lsA hR hF hH hS hL hc hs T hT X
  exact ⟨t, kx_ldcwS0 X hF.1 hF.2.2.2.2.2.1 hZ.1 hZ.2 (g := F0 m pc lsA rest) rfl (by rw [hF.2.1]; exact hdg) t a1, b1⟩
theorem kW_gets {idx i : Nat} {C n d ref : String} {f : Option Nat → Prop} (hdg : decode F.2.1 pc = .ok (.getstatic idx, 3)) (q : (C, n, d, .inr (i, false)) ∈ kx_sta) (q1 : Cond.fieldLink F.1 idx ref n d ∈ lw_all) (q2 : ref = C ∨ Cond.sameField ref C n d ∈ lw_all) (h : jv (wSt G i) f) (kk : ∀ o, f o → kx G F B bc bs σ (pc + 3) ls (va_rf o :: rest)) : kx G F B bc bs σ pc ls rest :=
  kx_gets hdg q q1 q2 (kk _ h)
theorem lk_out {ps : List (Int × Int)} {d x : Int} (h : ∀ p ∈ ps, x = p.1 → False) : Op.lookupswitch.offset ps d x = d := by
  induction ps with
  | nil => rfl
  | cons p r ih =>
    obtain ⟨a, o⟩ := p
    rw [Op.lookupswitch.offset_cons, if_neg (fun e => h (a, o) List.mem_cons_self e.symm)]
    exact ih (fun q hq => h q (List.mem_cons_of_mem _ hq))
theorem tbN {x : Int32} {k lo : Nat} (hk : lo + k < 2 ^ 31) (h : ∀ j, j < k → ¬ x = nI (lo + j)) : x.toInt < (lo : Int) ∨ ((lo + k : Nat) : Int) - 1 < x.toInt := by
  by_cases h0 : x < 0
  · left
    have : x.toInt < 0 := by simpa [Int32.lt_iff_toInt_lt] using h0
    omega
  · obtain ⟨m, hm, rfl⟩ := nI_of h0
    rw [nI_toInt hm]
    by_cases h1 : m < lo
    · left; omega
    · by_cases h2 : m < lo + k
      · exact absurd (by rw [show lo + (m - lo) = m by omega]) (h (m - lo) (by omega))
      · right; omega
theorem kW_jI {k : Int32 → KHp → Prop} {r : (Int32 → KHp → Prop) → Prop} (pc' : Nat) (st' : List Value) (h : jn k r) (k1 : ∀ v σ', k v σ' → kx G F B bc bs σ' pc' ls (.int v :: st')) (k2 : ∀ kk : Int32 → KHp → Prop, (∀ v σ', kk v σ' → kx G F B bc bs σ' pc' ls (.int v :: st')) → r kk → kx G F B bc bs σ pc ls st) : kx G F B bc bs σ pc ls st := k2 k k1 h
theorem kW_jIa {k : Int32 → KHp → Nat → Nat → Prop} {r : (Int32 → KHp → Nat → Nat → Prop) → Prop} (pc' : Nat) (st' : List Value) (h : jn k r) (k1 : ∀ v σ' b1 b2, k v σ' b1 b2 → kx G F B b1 b2 σ' pc' ls (.int v :: st')) (k2 : ∀ kk : Int32 → KHp → Nat → Nat → Prop, (∀ v σ' b1 b2, kk v σ' b1 b2 → kx G F B b1 b2 σ' pc' ls (.int v :: st')) → r kk → kx G F B bc bs σ pc ls st) : kx G F B bc bs σ pc ls st := k2 k k1 h
theorem kW_jF {k : UInt32 → KHp → Prop} {r : (UInt32 → KHp → Prop) → Prop} (pc' : Nat) (st' : List Value) (h : jn k r) (k1 : ∀ v σ', k v σ' → kx G F B bc bs σ' pc' ls (.float v :: st')) (k2 : ∀ kk : UInt32 → KHp → Prop, (∀ v σ', kk v σ' → kx G F B bc bs σ' pc' ls (.float v :: st')) → r kk → kx G F B bc bs σ pc ls st) : kx G F B bc bs σ pc ls st := k2 k k1 h
theorem kW_jFa {k : UInt32 → KHp → Nat → Nat → Prop} {r : (UInt32 → KHp → Nat → Nat → Prop) → Prop} (pc' : Nat) (st' : List Value) (h : jn k r) (k1 : ∀ v σ' b1 b2, k v σ' b1 b2 → kx G F B b1 b2 σ' pc' ls (.float v :: st')) (k2 : ∀ kk : UInt32 → KHp → Nat → Nat → Prop, (∀ v σ' b1 b2, kk v σ' b1 b2 → kx G F B b1 b2 σ' pc' ls (.float v :: st')) → r kk → kx G F B bc bs σ pc ls st) : kx G F B bc bs σ pc ls st := k2 k k1 h
theorem kW_jL {k : Int64 → KHp → Prop} {r : (Int64 → KHp → Prop) → Prop} (pc' : Nat) (st' : List Value) (h : jn k r) (k1 : ∀ v σ', k v σ' → kx G F B bc bs σ' pc' ls (.long v :: st')) (k2 : ∀ kk : Int64 → KHp → Prop, (∀ v σ', kk v σ' → kx G F B bc bs σ' pc' ls (.long v :: st')) → r kk → kx G F B bc bs σ pc ls st) : kx G F B bc bs σ pc ls st := k2 k k1 h
theorem kW_jLa {k : Int64 → KHp → Nat → Nat → Prop} {r : (Int64 → KHp → Nat → Nat → Prop) → Prop} (pc' : Nat) (st' : List Value) (h : jn k r) (k1 : ∀ v σ' b1 b2, k v σ' b1 b2 → kx G F B b1 b2 σ' pc' ls (.long v :: st')) (k2 : ∀ kk : Int64 → KHp → Nat → Nat → Prop, (∀ v σ' b1 b2, kk v σ' b1 b2 → kx G F B b1 b2 σ' pc' ls (.long v :: st')) → r kk → kx G F B bc bs σ pc ls st) : kx G F B bc bs σ pc ls st := k2 k k1 h
theorem kW_jD {k : UInt64 → KHp → Prop} {r : (UInt64 → KHp → Prop) → Prop} (pc' : Nat) (st' : List Value) (h : jn k r) (k1 : ∀ v σ', k v σ' → kx G F B bc bs σ' pc' ls (.double v :: st')) (k2 : ∀ kk : UInt64 → KHp → Prop, (∀ v σ', kk v σ' → kx G F B bc bs σ' pc' ls (.double v :: st')) → r kk → kx G F B bc bs σ pc ls st) : kx G F B bc bs σ pc ls st := k2 k k1 h
theorem kW_jDa {k : UInt64 → KHp → Nat → Nat → Prop} {r : (UInt64 → KHp → Nat → Nat → Prop) → Prop} (pc' : Nat) (st' : List Value) (h : jn k r) (k1 : ∀ v σ' b1 b2, k v σ' b1 b2 → kx G F B b1 b2 σ' pc' ls (.double v :: st')) (k2 : ∀ kk : UInt64 → KHp → Nat → Nat → Prop, (∀ v σ' b1 b2, kk v σ' b1 b2 → kx G F B b1 b2 σ' pc' ls (.double v :: st')) → r kk → kx G F B bc bs σ pc ls st) : kx G F B bc bs σ pc ls st := k2 k k1 h
theorem kW_jO {k : Option Nat → KHp → Prop} {r : (Option Nat → KHp → Prop) → Prop} (pc' : Nat) (st' : List Value) (h : jn k r) (k1 : ∀ v σ', k v σ' → kx G F B bc bs σ' pc' ls (va_rf v :: st')) (k2 : ∀ kk : Option Nat → KHp → Prop, (∀ v σ', kk v σ' → kx G F B bc bs σ' pc' ls (va_rf v :: st')) → r kk → kx G F B bc bs σ pc ls st) : kx G F B bc bs σ pc ls st := k2 k k1 h
theorem kW_jOa {k : Option Nat → KHp → Nat → Nat → Prop} {r : (Option Nat → KHp → Nat → Nat → Prop) → Prop} (pc' : Nat) (st' : List Value) (h : jn k r) (k1 : ∀ v σ' b1 b2, k v σ' b1 b2 → kx G F B b1 b2 σ' pc' ls (va_rf v :: st')) (k2 : ∀ kk : Option Nat → KHp → Nat → Nat → Prop, (∀ v σ' b1 b2, kk v σ' b1 b2 → kx G F B b1 b2 σ' pc' ls (va_rf v :: st')) → r kk → kx G F B bc bs σ pc ls st) : kx G F B bc bs σ pc ls st := k2 k k1 h
theorem kW_jN {k : KHp → Prop} {r : (KHp → Prop) → Prop} (pc' : Nat) (st' : List Value) (h : jn k r) (k1 : ∀ σ', k σ' → kx G F B bc bs σ' pc' ls (st')) (k2 : ∀ kk : KHp → Prop, (∀ σ', kk σ' → kx G F B bc bs σ' pc' ls (st')) → r kk → kx G F B bc bs σ pc ls st) : kx G F B bc bs σ pc ls st := k2 k k1 h
theorem kW_jNa {k : KHp → Nat → Nat → Prop} {r : (KHp → Nat → Nat → Prop) → Prop} (pc' : Nat) (st' : List Value) (h : jn k r) (k1 : ∀ σ' b1 b2, k σ' b1 b2 → kx G F B b1 b2 σ' pc' ls (st')) (k2 : ∀ kk : KHp → Nat → Nat → Prop, (∀ σ' b1 b2, kk σ' b1 b2 → kx G F B b1 b2 σ' pc' ls (st')) → r kk → kx G F B bc bs σ pc ls st) : kx G F B bc bs σ pc ls st := k2 k k1 h
theorem kW_jl {A : Type} {k : A → KHp → Prop} {r : (A → KHp → Prop) → Prop} (pc' : Nat) (LS : A → List (Nat × Value)) (h : jn k r) (k1 : ∀ v σ', k v σ' → kx G F B bc bs σ' pc' (kF (LS v)) []) (k2 : ∀ kk : A → KHp → Prop, (∀ v σ', kk v σ' → kx G F B bc bs σ' pc' (kF (LS v)) []) → r kk → kx G F B bc bs σ pc ls st) : kx G F B bc bs σ pc ls st := k2 k k1 h
theorem kW_jla {A : Type} {k : A → KHp → Nat → Nat → Prop} {r : (A → KHp → Nat → Nat → Prop) → Prop} (pc' : Nat) (LS : A → List (Nat × Value)) (h : jn k r) (k1 : ∀ v σ' b1 b2, k v σ' b1 b2 → kx G F B b1 b2 σ' pc' (kF (LS v)) []) (k2 : ∀ kk : A → KHp → Nat → Nat → Prop, (∀ v σ' b1 b2, kk v σ' b1 b2 → kx G F B b1 b2 σ' pc' (kF (LS v)) []) → r kk → kx G F B bc bs σ pc ls st) : kx G F B bc bs σ pc ls st := k2 k k1 h
theorem kW_clF {idx a : Nat} {f : Nat → Nat → KHp → Prop} (hdg : decode F.2.1 pc = .ok (.invokevirtual idx, 3)) (q1 : Cond.methodLink F.1 idx ⟨"[F", "clone", "()Ljava/lang/Object;"⟩ ∈ lw_all) (q2 : Cond.sameMethod "[F" "java/lang/Object" "clone" "()Ljava/lang/Object;" ∈ lw_all) (q3 : Cond.native ⟨"java/lang/Object", "clone", "()Ljava/lang/Object;"⟩ ∈ lw_all) (q4 : Cond.instanceMethod ⟨"java/lang/Object", "clone", "()Ljava/lang/Object;"⟩ ∈ lw_all)
    (q5 : Cond.selects "[F" ⟨"[F", "clone", "()Ljava/lang/Object;"⟩ ⟨"java/lang/Object", "clone", "()Ljava/lang/Object;"⟩ ∈ lw_all) (q6 : Cond.castable "[F" "java/lang/Cloneable" ∈ lw_tbl) (hd : 2 ≤ B.1) (hw : (rest.map fun v => v.category).sum ≤ 8) (h : wClF bc bs σ a f)
    (kk : ∀ N q σ', f N q σ' → kx G F B (bc - 1) (bs - N) σ' (pc + 3) ls (.ref q :: rest)) : kx G F B bc bs σ pc ls (.ref a :: rest) := by
  obtain ⟨t, n, g, h1, h2, h3, t', h4, h5⟩ := h
  exact kx_clone t' hdg h1 (by rfl) q1 q2 q3 q4 q5 q6 (fun cA i v hv => vW_fF hv) hd hw h2 h3 (fun q hq => kk n q _ (h5 q hq))
theorem kW_clB {idx a : Nat} {f : Nat → Nat → KHp → Prop} (hdg : decode F.2.1 pc = .ok (.invokevirtual idx, 3)) (q1 : Cond.methodLink F.1 idx ⟨"[B", "clone", "()Ljava/lang/Object;"⟩ ∈ lw_all) (q2 : Cond.sameMethod "[B" "java/lang/Object" "clone" "()Ljava/lang/Object;" ∈ lw_all) (q3 : Cond.native ⟨"java/lang/Object", "clone", "()Ljava/lang/Object;"⟩ ∈ lw_all) (q4 : Cond.instanceMethod ⟨"java/lang/Object", "clone", "()Ljava/lang/Object;"⟩ ∈ lw_all)
    (q5 : Cond.selects "[B" ⟨"[B", "clone", "()Ljava/lang/Object;"⟩ ⟨"java/lang/Object", "clone", "()Ljava/lang/Object;"⟩ ∈ lw_all) (q6 : Cond.castable "[B" "java/lang/Cloneable" ∈ lw_tbl) (hd : 2 ≤ B.1) (hw : (rest.map fun v => v.category).sum ≤ 8) (h : wClB bc bs σ a f)
    (kk : ∀ N q σ', f N q σ' → kx G F B (bc - 1) (bs - N) σ' (pc + 3) ls (.ref q :: rest)) : kx G F B bc bs σ pc ls (.ref a :: rest) := by
  obtain ⟨t, n, g, h1, hf, h2, h3, t', h4, h5⟩ := h
  exact kx_clone t' hdg h1 (by rfl) q1 q2 q3 q4 q5 q6 (fun cA i v hv => vW_fB hf hv) hd hw h2 h3 (fun q hq => kk n q _ (h5 q hq))
theorem kW_clO {idx a : Nat} {f : Nat → Nat → KHp → Prop} (hdg : decode F.2.1 pc = .ok (.invokevirtual idx, 3)) (q1 : Cond.methodLink F.1 idx ⟨"[LArcRecorder$Feature;", "clone", "()Ljava/lang/Object;"⟩ ∈ lw_all) (q2 : Cond.sameMethod "[LArcRecorder$Feature;" "java/lang/Object" "clone" "()Ljava/lang/Object;" ∈ lw_all) (q3 : Cond.native ⟨"java/lang/Object", "clone", "()Ljava/lang/Object;"⟩ ∈ lw_all) (q4 : Cond.instanceMethod ⟨"java/lang/Object", "clone", "()Ljava/lang/Object;"⟩ ∈ lw_all)
    (q5 : Cond.selects "[LArcRecorder$Feature;" ⟨"[LArcRecorder$Feature;", "clone", "()Ljava/lang/Object;"⟩ ⟨"java/lang/Object", "clone", "()Ljava/lang/Object;"⟩ ∈ lw_all) (q6 : Cond.castable "[LArcRecorder$Feature;" "java/lang/Cloneable" ∈ lw_tbl) (hd : 2 ≤ B.1) (hw : (rest.map fun v => v.category).sum ≤ 8) (h : wClO bc bs σ "ArcRecorder$Feature" a f)
    (kk : ∀ N q σ', f N q σ' → kx G F B (bc - 1) (bs - N) σ' (pc + 3) ls (.ref q :: rest)) : kx G F B bc bs σ pc ls (.ref a :: rest) := by
  obtain ⟨t, n, g, h1, h2, h3, t', h4, h5⟩ := h
  exact kx_clone t' hdg h1 (by rfl) q1 q2 q3 q4 q5 q6 (fun cA i v hv => vW_fO hv) hd hw h2 h3 (fun q hq => kk n q _ (h5 q hq))
end KW2
def loopW1 {A0 : Type} (body : (KHp → A0 → Prop) → KHp → A0 → Prop) : Nat → KHp → A0 → Prop
  | 0, _, _ => False
  | n + 1, σ, x0 => body (loopW1 body n) σ x0
theorem loopW1_k {A0 : Type} {body : (KHp → A0 → Prop) → KHp → A0 → Prop} (K : KHp → A0 → Prop) (step : ∀ kI : KHp → A0 → Prop, (∀ σ x0, kI σ x0 → K σ x0) → ∀ σ x0, body kI σ x0 → K σ x0) : ∀ (n : Nat), ∀ σ x0, loopW1 body n σ x0 → K σ x0 := by
  intro n
  induction n with
  | zero => intro σ x0 h; exact h.elim
  | succ n ih => intro σ x0 h; exact step _ ih σ x0 h
def loopW2 {A0 A1 : Type} (body : (KHp → A0 → A1 → Prop) → KHp → A0 → A1 → Prop) : Nat → KHp → A0 → A1 → Prop
  | 0, _, _, _ => False
  | n + 1, σ, x0, x1 => body (loopW2 body n) σ x0 x1
theorem loopW2_k {A0 A1 : Type} {body : (KHp → A0 → A1 → Prop) → KHp → A0 → A1 → Prop} (K : KHp → A0 → A1 → Prop) (step : ∀ kI : KHp → A0 → A1 → Prop, (∀ σ x0 x1, kI σ x0 x1 → K σ x0 x1) → ∀ σ x0 x1, body kI σ x0 x1 → K σ x0 x1) : ∀ (n : Nat), ∀ σ x0 x1, loopW2 body n σ x0 x1 → K σ x0 x1 := by
  intro n
  induction n with
  | zero => intro σ x0 x1 h; exact h.elim
  | succ n ih => intro σ x0 x1 h; exact step _ ih σ x0 x1 h
def loopW3 {A0 A1 A2 : Type} (body : (KHp → A0 → A1 → A2 → Prop) → KHp → A0 → A1 → A2 → Prop) : Nat → KHp → A0 → A1 → A2 → Prop
  | 0, _, _, _, _ => False
  | n + 1, σ, x0, x1, x2 => body (loopW3 body n) σ x0 x1 x2
theorem loopW3_k {A0 A1 A2 : Type} {body : (KHp → A0 → A1 → A2 → Prop) → KHp → A0 → A1 → A2 → Prop} (K : KHp → A0 → A1 → A2 → Prop) (step : ∀ kI : KHp → A0 → A1 → A2 → Prop, (∀ σ x0 x1 x2, kI σ x0 x1 x2 → K σ x0 x1 x2) → ∀ σ x0 x1 x2, body kI σ x0 x1 x2 → K σ x0 x1 x2) : ∀ (n : Nat), ∀ σ x0 x1 x2, loopW3 body n σ x0 x1 x2 → K σ x0 x1 x2 := by
  intro n
  induction n with
  | zero => intro σ x0 x1 x2 h; exact h.elim
  | succ n ih => intro σ x0 x1 x2 h; exact step _ ih σ x0 x1 x2 h
def loopW4 {A0 A1 A2 A3 : Type} (body : (KHp → A0 → A1 → A2 → A3 → Prop) → KHp → A0 → A1 → A2 → A3 → Prop) : Nat → KHp → A0 → A1 → A2 → A3 → Prop
  | 0, _, _, _, _, _ => False
  | n + 1, σ, x0, x1, x2, x3 => body (loopW4 body n) σ x0 x1 x2 x3
theorem loopW4_k {A0 A1 A2 A3 : Type} {body : (KHp → A0 → A1 → A2 → A3 → Prop) → KHp → A0 → A1 → A2 → A3 → Prop} (K : KHp → A0 → A1 → A2 → A3 → Prop) (step : ∀ kI : KHp → A0 → A1 → A2 → A3 → Prop, (∀ σ x0 x1 x2 x3, kI σ x0 x1 x2 x3 → K σ x0 x1 x2 x3) → ∀ σ x0 x1 x2 x3, body kI σ x0 x1 x2 x3 → K σ x0 x1 x2 x3) : ∀ (n : Nat), ∀ σ x0 x1 x2 x3, loopW4 body n σ x0 x1 x2 x3 → K σ x0 x1 x2 x3 := by
  intro n
  induction n with
  | zero => intro σ x0 x1 x2 x3 h; exact h.elim
  | succ n ih => intro σ x0 x1 x2 x3 h; exact step _ ih σ x0 x1 x2 x3 h
