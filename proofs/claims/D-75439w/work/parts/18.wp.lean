set_option maxRecDepth 100000
/-! predicate transformers over the heap: what the component's and the JDK's methods do -/
abbrev cAr : Type := (Nat → Int32) ⊕ (Nat → Int64) ⊕ (Nat → UInt32) ⊕ (Nat → UInt64) ⊕ (Nat → Option Nat)
def wU (o : Option Nat) (f : Nat → Prop) : Prop := ∃ a, o = some a ∧ f a
def wR (σ : KHp) (a c : Nat) : Prop := ∃ t fs, σ a = some (t, .inr (c, fs))
def wGI (σ : KHp) (a : Nat) (cs : List Nat) (k : Nat) (f : Int32 → Prop) : Prop := ∃ t c fs w, σ a = some (t, .inr (c, fs)) ∧ c ∈ cs ∧ fs[k]? = some (.int w) ∧ f w
def wGJ (σ : KHp) (a : Nat) (cs : List Nat) (k : Nat) (f : Int64 → Prop) : Prop := ∃ t c fs w, σ a = some (t, .inr (c, fs)) ∧ c ∈ cs ∧ fs[k]? = some (.long w) ∧ f w
def wGF (σ : KHp) (a : Nat) (cs : List Nat) (k : Nat) (f : UInt32 → Prop) : Prop := ∃ t c fs w, σ a = some (t, .inr (c, fs)) ∧ c ∈ cs ∧ fs[k]? = some (.float w) ∧ f w
def wGO (σ : KHp) (a : Nat) (cs : List Nat) (k : Nat) (f : Option Nat → Prop) : Prop := ∃ t c fs w, σ a = some (t, .inr (c, fs)) ∧ c ∈ cs ∧ fs[k]? = some (va_rf w) ∧ f w
def wP (σ : KHp) (a : Nat) (cs : List Nat) (k : Nat) (v : Value) (f : KHp → Prop) : Prop := ∃ t c fs, σ a = some (t, .inr (c, fs)) ∧ c ∈ cs ∧ t ≠ 0 ∧ f (kU σ a (t, .inr (c, fs.set k v)))
def wPZ (σ : KHp) (a : Nat) (cs : List Nat) (k : Nat) (v : Int32) (f : KHp → Prop) : Prop := (v = 0 ∨ v = 1) ∧ wP σ a cs k (.int v) f
def wPB (σ : KHp) (a : Nat) (cs : List Nat) (k : Nat) (v : Int32) (f : KHp → Prop) : Prop := (narrow .byte (.int v) = .int v ∧ fits .byte (.int v) = true) ∧ wP σ a cs k (.int v) f
def wLI (σ : KHp) (a : Nat) (i : Int32) (f : Int32 → Prop) : Prop := ∃ t n g, σ a = some (t, .inl (.int, n, .inl g)) ∧ vp_in i n ∧ f (g i.toNatClampNeg)
def wLB (σ : KHp) (a : Nat) (i : Int32) (f : Int32 → Prop) : Prop := ∃ t ty n g, σ a = some (t, .inl (ty, n, .inl g)) ∧ (ty = .byte ∨ ty = .boolean) ∧ vp_in i n ∧ f (g i.toNatClampNeg)
def wLJ (σ : KHp) (a : Nat) (i : Int32) (f : Int64 → Prop) : Prop := ∃ t n g, σ a = some (t, .inl (.long, n, .inr (.inl g))) ∧ vp_in i n ∧ f (g i.toNatClampNeg)
def wLF (σ : KHp) (a : Nat) (i : Int32) (f : UInt32 → Prop) : Prop := ∃ t n g, σ a = some (t, .inl (.float, n, .inr (.inr (.inl g)))) ∧ vp_in i n ∧ f (g i.toNatClampNeg)
def wLD (σ : KHp) (a : Nat) (i : Int32) (f : UInt64 → Prop) : Prop := ∃ t n g, σ a = some (t, .inl (.double, n, .inr (.inr (.inr (.inl g))))) ∧ vp_in i n ∧ f (g i.toNatClampNeg)
def wLO (σ : KHp) (a : Nat) (i : Int32) (f : Option Nat → Prop) : Prop := ∃ t C n g, σ a = some (t, .inl (.object C, n, .inr (.inr (.inr (.inr g))))) ∧ vp_in i n ∧ f (g i.toNatClampNeg)
def wSI (σ : KHp) (a : Nat) (i x : Int32) (f : KHp → Prop) : Prop := ∃ t n g, σ a = some (t, .inl (.int, n, .inl g)) ∧ t ≠ 0 ∧ vp_in i n ∧ f (kU σ a (t, .inl (.int, n, .inl (upd g i.toNatClampNeg x))))
def wSB (σ : KHp) (a : Nat) (i x : Int32) (f : KHp → Prop) : Prop := ∃ t ty n g, σ a = some (t, .inl (ty, n, .inl g)) ∧ (ty = .byte ∨ ty = .boolean) ∧ t ≠ 0 ∧ vp_in i n ∧ f (kU σ a (t, .inl (ty, n, .inl (upd g i.toNatClampNeg (vp_nar ty x)))))
def wSJ (σ : KHp) (a : Nat) (i : Int32) (x : Int64) (f : KHp → Prop) : Prop := ∃ t n g, σ a = some (t, .inl (.long, n, .inr (.inl g))) ∧ t ≠ 0 ∧ vp_in i n ∧ f (kU σ a (t, .inl (.long, n, .inr (.inl (vp_updL g i.toNatClampNeg x)))))
def wSF (σ : KHp) (a : Nat) (i : Int32) (x : UInt32) (f : KHp → Prop) : Prop := ∃ t n g, σ a = some (t, .inl (.float, n, .inr (.inr (.inl g)))) ∧ t ≠ 0 ∧ vp_in i n ∧ f (kU σ a (t, .inl (.float, n, .inr (.inr (.inl (vf_upd g i.toNatClampNeg x))))))
def wSD (σ : KHp) (a : Nat) (i : Int32) (x : UInt64) (f : KHp → Prop) : Prop := ∃ t n g, σ a = some (t, .inl (.double, n, .inr (.inr (.inr (.inl g))))) ∧ t ≠ 0 ∧ vp_in i n ∧ f (kU σ a (t, .inl (.double, n, .inr (.inr (.inr (.inl (vf_upd g i.toNatClampNeg x)))))))
def wSO (σ : KHp) (a : Nat) (i : Int32) (x : Option Nat) (f : KHp → Prop) : Prop := ∃ t E n g, σ a = some (t, .inl (.object E, n, .inr (.inr (.inr (.inr g))))) ∧ t ≠ 0 ∧ vp_in i n ∧ (∀ v, x = some v → ∃ C, kx_rc σ v C ∧ (C = E ∨ Cond.castable C E ∈ lw_tbl)) ∧ f (kU σ a (t, .inl (.object E, n, .inr (.inr (.inr (.inr (va_up g i.toNatClampNeg x)))))))
def wLen (σ : KHp) (a : Nat) (f : Int32 → Prop) : Prop := ∃ (t n : Nat) (ty : FieldType) (x : cAr), σ a = some (t, .inl (ty, n, x)) ∧ f (nI n)
def wN (bc bs : Nat) (σ : KHp) (c : Nat) (fs : List Value) (f : Nat → KHp → Prop) : Prop := 1 ≤ bc ∧ fs.length ≤ bs ∧ ∃ t, t ≠ 0 ∧ ∀ q, σ q = none → f q (kU σ q (t, .inr (c, fs)))
def wNA (bc bs : Nat) (σ : KHp) (ty : FieldType) (x : cAr) (n : Int32) (f : Nat → Nat → KHp → Prop) : Prop := ∃ N, n = nI N ∧ N * componentBytes ty ≤ 536870912 ∧ 1 ≤ bc ∧ N ≤ bs ∧ ∃ t, t ≠ 0 ∧ ∀ q, σ q = none → f N q (kU σ q (t, .inl (ty, N, x)))
def wNQ (bc bs : Nat) (σ : KHp) (C : String) (n : Int32) (f : Nat → Nat → KHp → Prop) : Prop := ∃ N, n = nI N ∧ N * 4 ≤ 536870912 ∧ 1 ≤ bc ∧ N ≤ bs ∧ ∃ t, t ≠ 0 ∧ ∀ q, σ q = none → f N q (kU σ q (t, .inl (.object C, N, .inr (.inr (.inr (.inr (fun _ => none)))))))
def wC (bc bs : Nat) (p : Nat → Nat → Prop) : Prop := ∃ c1 s1, c1 ≤ bc ∧ s1 ≤ bs ∧ p c1 s1
def wClF (bc bs : Nat) (σ : KHp) (a : Nat) (f : Nat → Nat → KHp → Prop) : Prop := ∃ t n g, σ a = some (t, .inl (.float, n, .inr (.inr (.inl g)))) ∧ 1 ≤ bc ∧ n ≤ bs ∧ ∃ t', t' ≠ 0 ∧ ∀ q, σ q = none → f n q (kU σ q (t', .inl (.float, n, .inr (.inr (.inl g)))))
def wClB (bc bs : Nat) (σ : KHp) (a : Nat) (f : Nat → Nat → KHp → Prop) : Prop := ∃ t n g, σ a = some (t, .inl (.byte, n, .inl g)) ∧ (∀ i, fits .byte (.int (g i)) = true) ∧ 1 ≤ bc ∧ n ≤ bs ∧ ∃ t', t' ≠ 0 ∧ ∀ q, σ q = none → f n q (kU σ q (t', .inl (.byte, n, .inl g)))
def wClO (bc bs : Nat) (σ : KHp) (E : String) (a : Nat) (f : Nat → Nat → KHp → Prop) : Prop := ∃ t n g, σ a = some (t, .inl (.object E, n, .inr (.inr (.inr (.inr g))))) ∧ 1 ≤ bc ∧ n ≤ bs ∧ ∃ t', t' ≠ 0 ∧ ∀ q, σ q = none → f n q (kU σ q (t', .inl (.object E, n, .inr (.inr (.inr (.inr g))))))
def wCpI (σ : KHp) (a0 : Nat) (sp : Int32) (a : Nat) (dp n : Int32) (f : KHp → Prop) : Prop := ∃ t0 t ty n0 n1 g h, σ a0 = some (t0, .inl (ty, n0, .inl g)) ∧ σ a = some (t, .inl (ty, n1, .inl h)) ∧ t ≠ 0 ∧ refKind ty = false ∧ ¬ sp < 0 ∧ ¬ dp < 0 ∧ ¬ n < 0 ∧ sp.toNatClampNeg + n.toNatClampNeg ≤ n0 ∧ dp.toNatClampNeg + n.toNatClampNeg ≤ n1 ∧ (∀ i, i < n.toNatClampNeg → fits ty (.int (g (sp.toNatClampNeg + i))) = true) ∧ f (kU σ a (t, .inl (ty, n1, .inl (va_cpy g h sp.toNatClampNeg dp.toNatClampNeg n.toNatClampNeg))))
def wCpO (σ : KHp) (a0 : Nat) (sp : Int32) (a : Nat) (dp n : Int32) (f : KHp → Prop) : Prop := ∃ t0 t E0 E1 n0 n1 g h, σ a0 = some (t0, .inl (.object E0, n0, .inr (.inr (.inr (.inr g))))) ∧ σ a = some (t, .inl (.object E1, n1, .inr (.inr (.inr (.inr h))))) ∧ t ≠ 0 ∧ ¬ sp < 0 ∧ ¬ dp < 0 ∧ ¬ n < 0 ∧ sp.toNatClampNeg + n.toNatClampNeg ≤ n0 ∧ dp.toNatClampNeg + n.toNatClampNeg ≤ n1 ∧ (∀ i, i < n.toNatClampNeg → ∀ y, g (sp.toNatClampNeg + i) = some y → ∃ C, kx_rc σ y C ∧ (C = E1 ∨ Cond.castable C E1 ∈ lw_tbl)) ∧ f (kU σ a (t, .inl (.object E1, n1, .inr (.inr (.inr (.inr (va_cpy g h sp.toNatClampNeg dp.toNatClampNeg n.toNatClampNeg)))))))
def wCp (σ : KHp) (a0 : Nat) (sp : Int32) (a : Nat) (dp n : Int32) (f : KHp → Prop) : Prop := wCpI σ a0 sp a dp n f ∨ wCpO σ a0 sp a dp n f
def jn {κ : Type} (k : κ) (r : κ → Prop) : Prop := r k
/-- the constants are there -/
def KK (G : KG) (σ : KHp) : Prop := kx_g G ∧ ∀ a o, kx_k G a = some o → σ a = some o
def wSt (G : KG) (i : Nat) : Option Nat := if kx_K G i = 0 then none else some (kx_K G i - 1)
def wF (v : UInt32) (f : UInt32 → Prop) : Prop := vf_n32 v ∧ f v
section KW
variable {G : KG} {F : KF} {B : KB} {bc bs pc : Nat} {σ : KHp} {ls : Nat → Option Value} {rest st : List Value}
theorem va_rfs (o : Option Nat) : va_rf o = .null ∨ ∃ a, va_rf o = .ref a := va_rfc o
theorem kx_aloadO {i : Nat} {o : Option Nat} (hdg : decode F.2.1 pc = .ok (.aload i, 2)) (hl : ls i = some (va_rf o)) (k : kx G F B bc bs σ (pc + 2) ls (va_rf o :: rest)) : kx G F B bc bs σ pc ls rest := by
  cases o with
  | none => exact kx_aloadN hdg hl k
  | some a => exact kx_aload hdg hl k
theorem kx_aload_nO {k : Fin 4} {i : Nat} {o : Option Nat} (hdg : decode F.2.1 pc = .ok (.aload_n k, 1)) (hi : (k : Nat) = i) (hl : ls i = some (va_rf o)) (kk : kx G F B bc bs σ (pc + 1) ls (va_rf o :: rest)) : kx G F B bc bs σ pc ls rest := by
  cases o with
  | none => exact kx_aload_nN hdg hi hl kk
  | some a => exact kx_aload_n hdg hi hl kk
theorem kx_astoreO {i : Nat} {o : Option Nat} (hdg : decode F.2.1 pc = .ok (.astore i, 2)) (hn : i < F.2.2.1) (kk : kx G F B bc bs σ (pc + 2) (kL ls i (va_rf o)) rest) : kx G F B bc bs σ pc ls (va_rf o :: rest) := by
  cases o with
  | none => exact kx_astoreN hdg hn kk
  | some a => exact kx_astore hdg hn kk
theorem kx_astore_nO {k : Fin 4} {i : Nat} {o : Option Nat} (hdg : decode F.2.1 pc = .ok (.astore_n k, 1)) (hi : (k : Nat) = i) (hn : i < F.2.2.1) (kk : kx G F B bc bs σ (pc + 1) (kL ls i (va_rf o)) rest) : kx G F B bc bs σ pc ls (va_rf o :: rest) := by
  cases o with
  | none => exact kx_astore_nN hdg hi hn kk
  | some a => exact kx_astore_n hdg hi hn kk
theorem kx_ifnullO {o : Option Nat} {off : Int} {tgt : Nat} (hdg : decode F.2.1 pc = .ok (.ifnull off, 3)) (ht : (pc : Int) + off = (tgt : Int)) (k1 : o = none → kx G F B bc bs σ tgt ls rest) (k2 : ¬ o = none → kx G F B bc bs σ (pc + 3) ls rest) : kx G F B bc bs σ pc ls (va_rf o :: rest) := by
  cases o with
  | none => exact kx_ifnullN hdg ht (k1 rfl)
  | some a => exact kx_ifnull hdg (k2 (fun h => by cases h))
theorem kx_ifnonnullO {o : Option Nat} {off : Int} {tgt : Nat} (hdg : decode F.2.1 pc = .ok (.ifnonnull off, 3)) (ht : (pc : Int) + off = (tgt : Int)) (k1 : o = none → kx G F B bc bs σ (pc + 3) ls rest) (k2 : ¬ o = none → kx G F B bc bs σ tgt ls rest) : kx G F B bc bs σ pc ls (va_rf o :: rest) := by
  cases o with
  | none => exact kx_ifnonnullN hdg (k1 rfl)
  | some a => exact kx_ifnonnull hdg ht (k2 (fun h => by cases h))
/-! fields -/
theorem kf1 {own : String} {idx c k : Nat} (h : kx_fl own idx c k) : ∀ c' ∈ [c], kx_fl own idx c' k := fun c' hc => by rw [List.mem_singleton.mp hc]; exact h
theorem kfc {own : String} {idx c k : Nat} {l : List Nat} (h : kx_fl own idx c k) (h2 : ∀ c' ∈ l, kx_fl own idx c' k) : ∀ c' ∈ c :: l, kx_fl own idx c' k := fun c' hc => by
  rcases List.mem_cons.mp hc with rfl | hc
  · exact h
  · exact h2 c' hc
theorem kW_gI {idx k a : Nat} {cs : List Nat} {f : Int32 → Prop} (hdg : decode F.2.1 pc = .ok (.getfield idx, 3)) (hf : ∀ c ∈ cs, kx_fl F.1 idx c k) (h : wGI σ a cs k f) (kk : ∀ v, f v → kx G F B bc bs σ (pc + 3) ls (.int v :: rest)) : kx G F B bc bs σ pc ls (.ref a :: rest) := by
  obtain ⟨t, c, fs, w, h1, h2, h3, h4⟩ := h
  exact kx_getf hdg (hf c h2) h1 h3 (kk w h4)
theorem kW_gJ {idx k a : Nat} {cs : List Nat} {f : Int64 → Prop} (hdg : decode F.2.1 pc = .ok (.getfield idx, 3)) (hf : ∀ c ∈ cs, kx_fl F.1 idx c k) (h : wGJ σ a cs k f) (kk : ∀ v, f v → kx G F B bc bs σ (pc + 3) ls (.long v :: rest)) : kx G F B bc bs σ pc ls (.ref a :: rest) := by
  obtain ⟨t, c, fs, w, h1, h2, h3, h4⟩ := h
  exact kx_getf hdg (hf c h2) h1 h3 (kk w h4)
theorem kW_gF {idx k a : Nat} {cs : List Nat} {f : UInt32 → Prop} (hdg : decode F.2.1 pc = .ok (.getfield idx, 3)) (hf : ∀ c ∈ cs, kx_fl F.1 idx c k) (h : wGF σ a cs k f) (kk : ∀ v, f v → kx G F B bc bs σ (pc + 3) ls (.float v :: rest)) : kx G F B bc bs σ pc ls (.ref a :: rest) := by
  obtain ⟨t, c, fs, w, h1, h2, h3, h4⟩ := h
  exact kx_getf hdg (hf c h2) h1 h3 (kk w h4)
theorem kW_gO {idx k a : Nat} {cs : List Nat} {f : Option Nat → Prop} (hdg : decode F.2.1 pc = .ok (.getfield idx, 3)) (hf : ∀ c ∈ cs, kx_fl F.1 idx c k) (h : wGO σ a cs k f) (kk : ∀ v, f v → kx G F B bc bs σ (pc + 3) ls (va_rf v :: rest)) : kx G F B bc bs σ pc ls (.ref a :: rest) := by
  obtain ⟨t, c, fs, w, h1, h2, h3, h4⟩ := h
  exact kx_getf hdg (hf c h2) h1 h3 (kk w h4)
/-- what putting v into field k of an object of class c asks -/
def kx_pfl (F : KF) (idx c k : Nat) (v : Value) : Prop := ∃ (C : String) (T : u_T) (N : Nat) (ty : Nat → FieldType), kx_ci c C T N ty ∧ kx_fl F.1 idx c k ∧ ((T k).2.2.2 = false ∨ (F.2.2.2.2.1 = true ∧ (T k).1 = F.1 ∧ Cond.fieldLink F.1 idx (T k).1 (T k).2.1 (T k).2.2.1 ∈ lw_all)) ∧ narrow (ty k) v = v ∧ fits (ty k) v = true
theorem kp1 {F : KF} {idx c k : Nat} {v : Value} (h : kx_pfl F idx c k v) : ∀ c' ∈ [c], kx_pfl F idx c' k v := fun c' hc => by rw [List.mem_singleton.mp hc]; exact h
theorem kpc {F : KF} {idx c k : Nat} {v : Value} {l : List Nat} (h : kx_pfl F idx c k v) (h2 : ∀ c' ∈ l, kx_pfl F idx c' k v) : ∀ c' ∈ c :: l, kx_pfl F idx c' k v := fun c' hc => by
  rcases List.mem_cons.mp hc with rfl | hc
  · exact h
  · exact h2 c' hc
theorem kW_p {idx k a : Nat} {cs : List Nat} {v : Value} {f : KHp → Prop} (hdg : decode F.2.1 pc = .ok (.putfield idx, 3)) (hf : ∀ c ∈ cs, kx_pfl F idx c k v) (h : wP σ a cs k v f) (kk : ∀ σ', f σ' → kx G F B bc bs σ' (pc + 3) ls rest) : kx G F B bc bs σ pc ls (v :: .ref a :: rest) := by
  obtain ⟨t, c, fs, h1, h2, h3, h4⟩ := h
  obtain ⟨C, T, N, ty, g1, g2, g3, g4, g5⟩ := hf c h2
  exact kx_putf hdg g1 g2 h1 h3 g3 g4 g5 (kk _ h4)
theorem kW_pZ {idx k a : Nat} {cs : List Nat} {v : Int32} {f : KHp → Prop} (hdg : decode F.2.1 pc = .ok (.putfield idx, 3)) (hf : ∀ c ∈ cs, kx_pfl F idx c k (.int 0)) (hf1 : ∀ c ∈ cs, kx_pfl F idx c k (.int 1)) (h : wPZ σ a cs k v f) (kk : ∀ σ', f σ' → kx G F B bc bs σ' (pc + 3) ls rest) : kx G F B bc bs σ pc ls (.int v :: .ref a :: rest) := by
  obtain ⟨hv, h⟩ := h
  rcases hv with rfl | rfl
  · exact kW_p hdg hf h kk
  · exact kW_p hdg hf1 h kk
/-! arrays -/
theorem kW_lI {a : Nat} {i : Int32} {f : Int32 → Prop} (hdg : decode F.2.1 pc = .ok (.iaload, 1)) (h : wLI σ a i f) (kk : ∀ v, f v → kx G F B bc bs σ (pc + 1) ls (.int v :: rest)) : kx G F B bc bs σ pc ls (.int i :: .ref a :: rest) := by
  obtain ⟨t, n, g, h1, h2, h3⟩ := h
  exact kx_iald hdg h1 h2 (kk _ h3)
theorem kW_lB {a : Nat} {i : Int32} {f : Int32 → Prop} (hdg : decode F.2.1 pc = .ok (.baload, 1)) (h : wLB σ a i f) (kk : ∀ v, f v → kx G F B bc bs σ (pc + 1) ls (.int v :: rest)) : kx G F B bc bs σ pc ls (.int i :: .ref a :: rest) := by
  obtain ⟨t, ty, n, g, h1, hty, h2, h3⟩ := h
  rcases hty with rfl | rfl
  · exact kx_bald hdg h1 h2 (kk _ h3)
  · exact kx_zald hdg h1 h2 (kk _ h3)
theorem kW_lJ {a : Nat} {i : Int32} {f : Int64 → Prop} (hdg : decode F.2.1 pc = .ok (.laload, 1)) (h : wLJ σ a i f) (kk : ∀ v, f v → kx G F B bc bs σ (pc + 1) ls (.long v :: rest)) : kx G F B bc bs σ pc ls (.int i :: .ref a :: rest) := by
  obtain ⟨t, n, g, h1, h2, h3⟩ := h
  exact kx_lald hdg h1 h2 (kk _ h3)
theorem kW_lF {a : Nat} {i : Int32} {f : UInt32 → Prop} (hdg : decode F.2.1 pc = .ok (.faload, 1)) (h : wLF σ a i f) (kk : ∀ v, f v → kx G F B bc bs σ (pc + 1) ls (.float v :: rest)) : kx G F B bc bs σ pc ls (.int i :: .ref a :: rest) := by
  obtain ⟨t, n, g, h1, h2, h3⟩ := h
  exact kx_fald hdg h1 h2 (kk _ h3)
theorem kW_lD {a : Nat} {i : Int32} {f : UInt64 → Prop} (hdg : decode F.2.1 pc = .ok (.daload, 1)) (h : wLD σ a i f) (kk : ∀ v, f v → kx G F B bc bs σ (pc + 1) ls (.double v :: rest)) : kx G F B bc bs σ pc ls (.int i :: .ref a :: rest) := by
  obtain ⟨t, n, g, h1, h2, h3⟩ := h
  exact kx_dald hdg h1 h2 (kk _ h3)
theorem kW_lO {a : Nat} {i : Int32} {f : Option Nat → Prop} (hdg : decode F.2.1 pc = .ok (.aaload, 1)) (h : wLO σ a i f) (kk : ∀ v, f v → kx G F B bc bs σ (pc + 1) ls (va_rf v :: rest)) : kx G F B bc bs σ pc ls (.int i :: .ref a :: rest) := by
  obtain ⟨t, C, n, g, h1, h2, h3⟩ := h
  exact kx_aald hdg h1 h2 (kk _ h3)
theorem kW_sI {a : Nat} {i x : Int32} {f : KHp → Prop} (hdg : decode F.2.1 pc = .ok (.iastore, 1)) (h : wSI σ a i x f) (kk : ∀ σ', f σ' → kx G F B bc bs σ' (pc + 1) ls rest) : kx G F B bc bs σ pc ls (.int x :: .int i :: .ref a :: rest) := by
  obtain ⟨t, n, g, h1, h2, h3, h4⟩ := h
  exact kx_iast hdg h1 h2 h3 (kk _ h4)
theorem kW_sB {a : Nat} {i x : Int32} {f : KHp → Prop} (hdg : decode F.2.1 pc = .ok (.bastore, 1)) (h : wSB σ a i x f) (kk : ∀ σ', f σ' → kx G F B bc bs σ' (pc + 1) ls rest) : kx G F B bc bs σ pc ls (.int x :: .int i :: .ref a :: rest) := by
  obtain ⟨t, ty, n, g, h1, hty, h2, h3, h4⟩ := h
  rcases hty with rfl | rfl
  · exact kx_bast hdg h1 h2 h3 (kk _ h4)
  · exact kx_zast hdg h1 h2 h3 (kk _ h4)
theorem kW_sJ {a : Nat} {i : Int32} {x : Int64} {f : KHp → Prop} (hdg : decode F.2.1 pc = .ok (.lastore, 1)) (h : wSJ σ a i x f) (kk : ∀ σ', f σ' → kx G F B bc bs σ' (pc + 1) ls rest) : kx G F B bc bs σ pc ls (.long x :: .int i :: .ref a :: rest) := by
  obtain ⟨t, n, g, h1, h2, h3, h4⟩ := h
  exact kx_last hdg h1 h2 h3 (kk _ h4)
theorem kW_sF {a : Nat} {i : Int32} {x : UInt32} {f : KHp → Prop} (hdg : decode F.2.1 pc = .ok (.fastore, 1)) (h : wSF σ a i x f) (kk : ∀ σ', f σ' → kx G F B bc bs σ' (pc + 1) ls rest) : kx G F B bc bs σ pc ls (.float x :: .int i :: .ref a :: rest) := by
  obtain ⟨t, n, g, h1, h2, h3, h4⟩ := h
  exact kx_fast hdg h1 h2 h3 (kk _ h4)
theorem kW_sD {a : Nat} {i : Int32} {x : UInt64} {f : KHp → Prop} (hdg : decode F.2.1 pc = .ok (.dastore, 1)) (h : wSD σ a i x f) (kk : ∀ σ', f σ' → kx G F B bc bs σ' (pc + 1) ls rest) : kx G F B bc bs σ pc ls (.double x :: .int i :: .ref a :: rest) := by
  obtain ⟨t, n, g, h1, h2, h3, h4⟩ := h
  exact kx_dast hdg h1 h2 h3 (kk _ h4)
theorem kW_sO {a : Nat} {i : Int32} {x : Option Nat} {f : KHp → Prop} (hdg : decode F.2.1 pc = .ok (.aastore, 1)) (h : wSO σ a i x f) (kk : ∀ σ', f σ' → kx G F B bc bs σ' (pc + 1) ls rest) : kx G F B bc bs σ pc ls (va_rf x :: .int i :: .ref a :: rest) := by
  obtain ⟨t, E, n, g, h1, h2, h3, h5, h4⟩ := h
  cases x with
  | none => exact kx_aastN hdg h1 h2 h3 (kk _ h4)
  | some v =>
    obtain ⟨C, g1, g2⟩ := h5 v rfl
    exact kx_aast hdg h1 h2 h3 g1 g2 (kk _ h4)
theorem kW_len {a : Nat} {f : Int32 → Prop} (hdg : decode F.2.1 pc = .ok (.arraylength, 1)) (h : wLen σ a f) (kk : ∀ v, f v → kx G F B bc bs σ (pc + 1) ls (.int v :: rest)) : kx G F B bc bs σ pc ls (.ref a :: rest) := by
  obtain ⟨t, n, ty, x, h1, h2⟩ := h
  exact kx_alen hdg h1 rfl (kk _ h2)
/-! new things -/
theorem kW_new {idx ci N : Nat} {C : String} {T : u_T} {ty : Nat → FieldType} {fs : List Value} {f : Nat → KHp → Prop} (hdg : decode F.2.1 pc = .ok (.new idx, 3)) (hci : kx_ci ci C T N ty) (q1 : Cond.classLink F.1 idx C ∈ lw_all) (q2 : Cond.instantiable C N ∈ lw_all) (q3 : Cond.initialized C ∈ lw_all) (hfs : (List.range N).map (fun j => defaultValue (ty j)) = fs) (h : wN bc bs σ ci fs f)
    (kk : ∀ q σ', f q σ' → kx G F B (bc - 1) (bs - N) σ' (pc + 3) ls (.ref q :: rest)) : kx G F B bc bs σ pc ls rest := by
  obtain ⟨h1, h2, t, h3, h4⟩ := h
  have hN : N = fs.length := by rw [← hfs]; simp
  exact kx_new t hdg hci q1 q2 q3 hfs h1 (by omega) (fun q hq => kk q _ (h4 q hq))
theorem kW_newa {atype : ArrayType} {ty : FieldType} {n : Int32} {x : cAr} {f : Nat → Nat → KHp → Prop} (hdg : decode F.2.1 pc = .ok (.newarray atype, 2)) (hty : newarray.typeOf atype = ty) (q1 : Cond.arrayClass (newarray.typeOf atype) ∈ lw_all) (ha : ∀ N, ∀ cA : ClassId, vp_cell cA (N, x) = arrV cA N (fun _ => defaultValue ty)) (h : wNA bc bs σ ty x n f)
    (kk : ∀ N q σ', f N q σ' → kx G F B (bc - 1) (bs - N) σ' (pc + 2) ls (.ref q :: rest)) : kx G F B bc bs σ pc ls (.int n :: rest) := by
  obtain ⟨N, h0, h5, h1, h2, t, h3, h4⟩ := h
  exact kx_newa t hdg hty q1 (ha N) h0 h5 h1 h2 (fun q hq => kk N q _ (h4 q hq))
theorem kW_newq {idx : Nat} {C : String} {n : Int32} {f : Nat → Nat → KHp → Prop} (hdg : decode F.2.1 pc = .ok (.anewarray idx, 3)) (q1 : Cond.classLink F.1 idx C ∈ lw_all) (q2 : Cond.arrayOver (.object C) ∈ lw_tbl) (h : wNQ bc bs σ C n f)
    (kk : ∀ N q σ', f N q σ' → kx G F B (bc - 1) (bs - N) σ' (pc + 3) ls (.ref q :: rest)) : kx G F B bc bs σ pc ls (.int n :: rest) := by
  obtain ⟨N, h0, h5, h1, h2, t, h3, h4⟩ := h
  exact kx_newq t hdg q1 q2 h0 h5 h1 h2 (fun q hq => kk N q _ (h4 q hq))
theorem wR_rc {a c : Nat} {C : String} {T : u_T} {N : Nat} (h : wR σ a c) (hc : kx_cl[c]? = some (C, T, N)) : kx_rc σ a C := by
  obtain ⟨t, fs, h⟩ := h
  exact ⟨t, c, fs, h, Or.inl ⟨T, N, hc⟩⟩
theorem wR_rcE {a c : Nat} {C : String} (h : wR σ a c) (h1 : 100 ≤ c) (hc : kx_el[c - 100]? = some C) : kx_rc σ a C := by
  obtain ⟨t, fs, h⟩ := h
  exact ⟨t, c, fs, h, Or.inr ⟨h1, hc⟩⟩
theorem kW_cpy {idx a0 a : Nat} {sp dp n : Int32} {f : KHp → Prop} (hdg : decode F.2.1 pc = .ok (.invokestatic idx, 3)) (lk : kx_lc F.1 idx) (hd : 2 ≤ B.1) (hw : (rest.map fun v => v.category).sum ≤ 8) (h : wCp σ a0 sp a dp n f) (kk : ∀ σ', f σ' → kx G F B bc bs σ' (pc + 3) ls rest) : kx G F B bc bs σ pc ls (.int n :: .int dp :: .ref a :: .int sp :: .ref a0 :: rest) := by
  rcases h with h | h
  · obtain ⟨t0, t, ty, n0, n1, g, g', h1, h2, h3, h4, h5, h6, h7, h8, h9, h10, h11⟩ := h
    exact kx_copyi hdg lk h1 h2 h3 h4 h5 h6 h7 h8 h9 h10 hd hw (kk _ h11)
  · obtain ⟨t0, t, E0, E1, n0, n1, g, g', h1, h2, h3, h5, h6, h7, h8, h9, h10, h11⟩ := h
    exact kx_copyq hdg lk h1 h2 h3 h5 h6 h7 h8 h9 h10 hd hw (kk _ h11)
theorem jn_i {κ : Type} {k : κ} {r : κ → Prop} (h : jn k r) : ∃ k', k' = k ∧ r k' := ⟨k, rfl, h⟩
theorem kW_fadd {x y : UInt32} {f : UInt32 → Prop} (hdg : decode F.2.1 pc = .ok (.fadd, 1)) (h : wF (FP.fadd x y) f) (kk : ∀ v, f v → kx G F B bc bs σ (pc + 1) ls (.float v :: rest)) : kx G F B bc bs σ pc ls (.float y :: .float x :: rest) := kx_fadd hdg h.1 (kk _ h.2)
theorem kW_fsub {x y : UInt32} {f : UInt32 → Prop} (hdg : decode F.2.1 pc = .ok (.fsub, 1)) (h : wF (FP.fsub x y) f) (kk : ∀ v, f v → kx G F B bc bs σ (pc + 1) ls (.float v :: rest)) : kx G F B bc bs σ pc ls (.float y :: .float x :: rest) := kx_fsub hdg h.1 (kk _ h.2)
theorem kW_fmul {x y : UInt32} {f : UInt32 → Prop} (hdg : decode F.2.1 pc = .ok (.fmul, 1)) (h : wF (FP.fmul x y) f) (kk : ∀ v, f v → kx G F B bc bs σ (pc + 1) ls (.float v :: rest)) : kx G F B bc bs σ pc ls (.float y :: .float x :: rest) := kx_fmul hdg h.1 (kk _ h.2)
theorem kW_fdiv {x y : UInt32} {f : UInt32 → Prop} (hdg : decode F.2.1 pc = .ok (.fdiv, 1)) (h : wF (FP.fdiv x y) f) (kk : ∀ v, f v → kx G F B bc bs σ (pc + 1) ls (.float v :: rest)) : kx G F B bc bs σ pc ls (.float y :: .float x :: rest) := kx_fdiv hdg h.1 (kk _ h.2)
end KW
