set_option maxRecDepth 100000
section KLF
variable {p : Program} {l : Launch} {e : Env} {R : Room} {s : State} {m : MethodId} {args : Array Value} {below : List Frame} {meth : Method} {c : Code} {locs : List Loc} {cells slots : Nat}
theorem kx_ldcwF0 {T : State} (X : Stand p l e R s m args below meth c T locs cells slots) (hexec : p.tables.exec = Jvm.exec) {own : String} {index : Nat} {b : UInt32} (hown : s.vm.findClass own = some m.cls)
    (hconst : (Cond.constantFloat own index b).before args s = true) {g : JFrame} (hg : g.method = m) (hdg : decode c.code g.pc = .ok (.ldc_w index, 3)) :
    ∀ target, Steps p.tables e below (T.setTop { g with pc := g.pc + 3, stack := .float b :: g.stack }) target → Steps p.tables e below (T.setTop g) target := by
  obtain ⟨k, cf, hk, hcf, hcp⟩ := Cond.constantFloat_spec hown hconst
  obtain ⟨k', hk', he⟩ := X.warmed.alike.2.2 _ _ hk
  intro target hrest
  subst hg
  jvm_step X.here [hexec, hdg, ldc_w.wp_float (s := T) (f := g) X.here.top hk' (by rw [he]; exact hcf) hcp]
  exact hrest
end KLF
theorem kx_ofF {l : Launch} {y : MethodName} {ws ws' : List Cond} {rm : Room} {Pc : Array Value → State → Prop} {Qc : Array Value → State → Outcome → State → Prop} {XC : String → Addr → State → State → Prop} {mc ms : Nat} {free : Addr → Prop} {cc : ByteArray} {maxL : Nat} {ret : Option FieldType}
    (hy : plainFor y = true) (hw : ws = Cond.code y cc maxL ret :: ws')
    (body : ∀ p e s m args below meth c s₁, BodyLoose p l y (headSpec ws rm) cc maxL ret e s m args below meth c s₁ → c.maxLocals = maxL → (∀ x ∈ c.exceptionTable.toList, False) → Pc args s →
      W p l e (headSpec ws rm).room s m args below meth c s.heap [] 0 0 (vx_MQ below Qc XC args s mc ms free) (entryFrame m args maxL)) : vx_Met l y ws rm Pc Qc XC mc ms free := by
  refine MetFree.of_bodySF (code := cc) (maxLocals := maxL) (ret := ret) hy ?_ ?_
  · intro args s m h hn
    obtain ⟨meth, c, h1, h2, h3, h4, h5, h6, -, -⟩ := Cond.code_spec hn (atoms_spec (ws := ws) h _ (by rw [hw]; exact List.mem_cons_self))
    exact ⟨meth, c, h1, h2, h3, h4, h5, h6⟩
  · intro p e s m args below meth c s₁ B hml hP _
    have hh0 : s₁.heap = s.heap := by rw [B.state]; rfl
    have ht : ∀ x ∈ c.exceptionTable.toList, False := by
      obtain ⟨meth9, c9, h1, h2, -, -, -, -, h7, -⟩ := Cond.code_spec B.named (atoms_spec (ws := ws) B.pre _ (by rw [hw]; exact List.mem_cons_self))
      cases Option.some.inj (h1.symm.trans B.method)
      cases Option.some.inj (h2.symm.trans (Stand.of_body B).code)
      intro x hx
      rw [Array.isEmpty_iff.mp h7] at hx
      cases hx
    obtain ⟨t, a1, o, b1, b2, b3⟩ := body p e s m args below meth c s₁ B hml ht hP s₁ hh0 (Stand.of_body B)
    exact ⟨t, o, a1, b1, b2, b3⟩
section KN2
variable {τ : KHp} {m : Nat} {ad : Nat → Nat} {s : TS} {G : KG} {F : KF} {B : KB} {bc bs pc : Nat} {σ : KHp} {ls ls' : Nat → Option Value} {rest st : List Value} {α : Type} {z : α}
theorem kx_ldcwf {idx : Nat} {v : UInt32} (hdg : decode F.2.1 pc = .ok (.ldc_w idx, 3)) (q1 : Cond.constantFloat F.1 idx v ∈ lw_all) (kk : kx G F B bc bs σ (pc + 3) ls (.float v :: rest)) : kx G F B bc bs σ pc ls rest := by
  intro p e R s m args below meth c H locs cells slots lsA hR hF hH hS hL hc hs T hT X
  obtain ⟨t, a, b⟩ := kk p e R s m args below meth c H locs cells slots lsA hR hF hH hS hL hc hs T hT X
  exact ⟨t, kx_ldcwF0 X hF.1 hF.2.2.2.2.2.1 (kx_w hF.2.2.2.2.2.2.2.2.1 q1) (g := F0 m pc lsA rest) rfl (by rw [hF.2.1]; exact hdg) t a, b⟩
theorem kN_j (σ' : KHp) (pc' : Nat) (st' : List Value) (k : kx G F B bc bs σ' pc' ls st') (h : kx G F B bc bs σ' pc' ls st' → kx G F B bc bs σ pc ls st) : kx G F B bc bs σ pc ls st := h k
theorem jnI {s : TS} {v : Int32} {r : TS × Int32} (h : some (s, v) = some r) (k : kx G F B bc bs (MP τ m ad r.1) pc ls (.int r.2 :: rest)) : kx G F B bc bs (MP τ m ad s) pc ls (.int v :: rest) := by cases h; exact k
theorem jnF {s : TS} {v : UInt32} {r : TS × UInt32} (h : some (s, v) = some r) (k : kx G F B bc bs (MP τ m ad r.1) pc ls (.float r.2 :: rest)) : kx G F B bc bs (MP τ m ad s) pc ls (.float v :: rest) := by cases h; exact k
theorem jnS {s r : TS} (h : some s = some r) (k : kx G F B bc bs (MP τ m ad r) pc ls st) : kx G F B bc bs (MP τ m ad s) pc ls st := by cases h; exact k
theorem rtI {v : Int32} {z : TS × Int32} (h : (s, v) = z) : some (Value.int v) = some (.int z.2) ∧ MP τ m ad s = MP τ m ad z.1 := by cases h; exact ⟨rfl, rfl⟩
theorem rtF {v : UInt32} {z : TS × UInt32} (h : (s, v) = z) : some (Value.float v) = some (.float z.2) ∧ MP τ m ad s = MP τ m ad z.1 := by cases h; exact ⟨rfl, rfl⟩
theorem rtJ {v : Int64} {z : TS × Int64} (h : (s, v) = z) : some (Value.long v) = some (.long z.2) ∧ MP τ m ad s = MP τ m ad z.1 := by cases h; exact ⟨rfl, rfl⟩
theorem rtV {z : TS} (h : s = z) : (none : Option Value) = none ∧ MP τ m ad s = MP τ m ad z := by cases h; exact ⟨rfl, rfl⟩
theorem tb_n {x : Int32} {k : Nat} (hk : k < 2 ^ 31) (h : ∀ j, j < k → ¬ x = nI j) : x.toInt < 0 ∨ (k : Int) - 1 < x.toInt := by
  by_cases h0 : x < 0
  · left; simpa [Int32.lt_iff_toInt_lt] using h0
  · right
    obtain ⟨j, hj, rfl⟩ := nI_of h0
    by_cases hjk : j < k
    · exact absurd rfl (h j hjk)
    · rw [nI_toInt hj]; omega
theorem tb3 {x : Int32} (h0 : ¬ x = (0 : Int32)) (h1 : ¬ x = (1 : Int32)) (h2 : ¬ x = (2 : Int32)) : x.toInt < 0 ∨ (2 : Int) < x.toInt :=
  tb_n (k := 3) (by decide) (fun j hj => by match j, hj with | 0, _ => exact h0 | 1, _ => exact h1 | 2, _ => exact h2)
theorem tb7 {x : Int32} (h0 : ¬ x = (0 : Int32)) (h1 : ¬ x = (1 : Int32)) (h2 : ¬ x = (2 : Int32)) (h3 : ¬ x = (3 : Int32)) (h4 : ¬ x = (4 : Int32)) (h5 : ¬ x = (5 : Int32)) (h6 : ¬ x = (6 : Int32)) : x.toInt < 0 ∨ (6 : Int) < x.toInt :=
  tb_n (k := 7) (by decide) (fun j hj => by match j, hj with | 0, _ => exact h0 | 1, _ => exact h1 | 2, _ => exact h2 | 3, _ => exact h3 | 4, _ => exact h4 | 5, _ => exact h5 | 6, _ => exact h6)
theorem kx_mkF {y : MethodName} {cc : ByteArray} {nL : Nat} {ret : Option FieldType} {d mc ms : Nat} {As : List Value} {Q : KQ} {X : KX} (hy : plainFor y = true) (hn : (lg_sl As).length ≤ nL)
    (body : kx G (y.cls, cc, nL, ret, decide (y.name = "<init>"), []) (d, mc, ms, Q, X) mc ms σ 0 (kx_a As) []) : kx_c G y (ws_ y cc nL ret) d mc ms As σ Q X := by
  refine kx_ofF (cc := cc) (maxL := nL) (ret := ret) hy rfl ?_
  intro p e s m args below meth c s₁ Bd hml htab hv
  obtain ⟨rfl, hu, hH⟩ := hv
  rw [lg_entry_eq]
  have hl := lv_entry As (n := nL) hn
  refine body p e _ s m As.toArray below meth c s.heap [] 0 0 _ ⟨Nat.le_refl _, Nat.le_refl _, rfl, rfl⟩ ⟨Bd.exec, Bd.bytes, hml, Bd.returns, Bd.notSynchronized, findClass_of_methodNamed Bd.named, fun h => ?_, ?_, hu, hH.1⟩ hH (fun q h => nomatch h) ⟨hl.1, hl.2.1, fun i v hi => ?_⟩ (Nat.le_of_eq (Nat.zero_add _)) (Nat.le_of_eq (Nat.zero_add _))
  · exact (name_of_methodNamed Bd.named Bd.method).1.trans (of_decide_eq_true h)
  · cases hc : c.exceptionTable.toList with
    | nil => rfl
    | cons x l => exact (htab x (by rw [hc]; exact List.mem_cons_self)).elim
  · refine hl.2.2 (i, v) ?_
    unfold kx_a at hi
    generalize lv_args 0 As = l at hi
    induction l with
    | nil => simp at hi
    | cons q l ih =>
      obtain ⟨j, w⟩ := q
      rw [List.lookup_cons] at hi
      by_cases h : i = j
      · subst h
        simp at hi
        subst hi
        exact List.mem_cons_self
      · have h9 : (i == j) = false := by simpa using h
        rw [h9] at hi
        exact List.mem_cons_of_mem _ (ih hi)
theorem kx_mk3F {y : MethodName} {cc : ByteArray} {nL : Nat} {ret : Option FieldType} {ini : Bool} {d mc ms : Nat} {As : List Value} {Q0 : KQ} {X0 : KX} (hy : plainFor y = true) (hn : (lg_sl As).length ≤ nL) (hi : ini = true → y.name = "<init>")
    (body : ∀ (Q : KQ) (X : KX), (∀ v σ', Q0 v σ' → Q v σ') → (∀ E q σ', X0 E q σ' → X E q σ') → kx G (y.cls, cc, nL, ret, ini, []) (d, mc, ms, Q, X) mc ms σ 0 (kx_a As) []) : kx_c G y (ws_ y cc nL ret) d mc ms As σ Q0 X0 := by
  refine kx_mkF hy hn fun p e R s m args below meth c H locs cells slots lsA hR hF => ?_
  obtain ⟨a1, a2, a3, a4, a5, a6, a7, a8⟩ := hF
  exact body Q0 X0 (fun _ _ h => h) (fun _ _ _ h => h) p e R s m args below meth c H locs cells slots lsA hR ⟨a1, a2, a3, a4, a5, a6, fun h => a7 (decide_eq_true (hi h)), a8⟩
end KN2
/-! min, and what strings answer -/
def pmin (x y : Int32) : Int32 := if y < x then y else x
/-- a string at a, of n bytes f -/
def isStr (σ : KHp) (a n : Nat) (f : Nat → Int32) : Prop := ∃ (t t' b : Nat) (h z : Int32), σ a = some (t, .inr (20, [.ref b, .int 0, .int h, .int z])) ∧ σ b = some (t', .inl (.byte, n, .inl f)) ∧ n < 2 ^ 31
def ktx : List (List Int32) := [kx_tx0, kx_tx1, kx_tx2, kx_tx3, kx_tx4, kx_tx5, kx_tx6, kx_tx7, kx_tx8, kx_tx9, kx_tx10, kx_tx11, kx_tx12, kx_tx13, kx_tx14, kx_tx15, kx_tx16, kx_tx17, kx_tx18, kx_tx19, kx_tx20, kx_tx21, kx_tx22, kx_tx23, kx_tx24, kx_tx25, kx_tx26, kx_tx27, kx_tx28, kx_tx29, kx_tx30, kx_tx31, kx_tx32, kx_tx33]
def ktl (i : Nat) : List Int32 := ktx.getD (i - 20) []
def slen (i : Nat) : Option Int32 := if 20 ≤ i ∧ i ≤ 53 then some (nI (ktl i).length) else none
def sat (i : Nat) (k : Int32) : Option Int32 := if (20 ≤ i ∧ i ≤ 53) ∧ ¬ k < 0 ∧ k.toNatClampNeg < (ktl i).length then some ((ktl i).getD k.toNatClampNeg 0) else none
theorem mJ_min {G : KG} {σ : KHp} {x y : Int32} : kx_c G yJ12_min (ws_ yJ12_min cJ12_min 2 (Option.some Jvm.ClassFile.FieldType.int)) 1 0 0 [.int x, .int y] σ (fun rv σ' => rv = some (.int (pmin x y)) ∧ σ' = σ) kx_n := by
  refine kx_mk3F (ini := false) (by decide +kernel) (Nat.le_of_ble_eq_true rfl) (fun h => by cases h) (fun Q X hQ hX => ?_)
  refine kx_iload_n dJ12_min_0 rfl rfl ?_
  refine kx_iload_n dJ12_min_1 rfl rfl ?_
  refine kx_icmp_gt (tgt := 9) dJ12_min_2 (by decide) (fun c2 => ?_) (fun c2 => ?_)
  · skip
    refine kx_iload_n dJ12_min_9 rfl rfl ?_
    exact kx_iret dJ12_min_10 rfl (hQ _ _ ⟨by unfold pmin; first | rw [if_pos c2] | rw [if_neg c2], rfl⟩)
  · skip
    refine kx_iload_n dJ12_min_5 rfl rfl ?_
    refine kx_goto (tgt := 10) dJ12_min_6 (by decide) ?_
    exact kx_iret dJ12_min_10 rfl (hQ _ _ ⟨by unfold pmin; first | rw [if_pos c2] | rw [if_neg c2], rfl⟩)
theorem kS_con {G : KG} {σ : KHp} (hg : kx_g G) (hk : ∀ a o, kx_k G a = some o → σ a = some o) {i : Nat} (h : 20 ≤ i ∧ i ≤ 53) : isStr σ (kx_K G i) (ktl i).length (fun j => (ktl i).getD j 0) := by
  obtain ⟨h1, h2⟩ := h
  have hh : i = 20 ∨ i = 21 ∨ i = 22 ∨ i = 23 ∨ i = 24 ∨ i = 25 ∨ i = 26 ∨ i = 27 ∨ i = 28 ∨ i = 29 ∨ i = 30 ∨ i = 31 ∨ i = 32 ∨ i = 33 ∨ i = 34 ∨ i = 35 ∨ i = 36 ∨ i = 37 ∨ i = 38 ∨ i = 39 ∨ i = 40 ∨ i = 41 ∨ i = 42 ∨ i = 43 ∨ i = 44 ∨ i = 45 ∨ i = 46 ∨ i = 47 ∨ i = 48 ∨ i = 49 ∨ i = 50 ∨ i = 51 ∨ i = 52 ∨ i = 53 := by omega
  rcases hh with rfl | rfl | rfl | rfl | rfl | rfl | rfl | rfl | rfl | rfl | rfl | rfl | rfl | rfl | rfl | rfl | rfl | rfl | rfl | rfl | rfl | rfl | rfl | rfl | rfl | rfl | rfl | rfl | rfl | rfl | rfl | rfl | rfl | rfl
  · exact ⟨_, _, _, _, _, hk _ _ (kx_cv hg kk_20), hk _ _ (kx_cv hg kk_120), by decide⟩
  · exact ⟨_, _, _, _, _, hk _ _ (kx_cv hg kk_21), hk _ _ (kx_cv hg kk_121), by decide⟩
  · exact ⟨_, _, _, _, _, hk _ _ (kx_cv hg kk_22), hk _ _ (kx_cv hg kk_122), by decide⟩
  · exact ⟨_, _, _, _, _, hk _ _ (kx_cv hg kk_23), hk _ _ (kx_cv hg kk_123), by decide⟩
  · exact ⟨_, _, _, _, _, hk _ _ (kx_cv hg kk_24), hk _ _ (kx_cv hg kk_124), by decide⟩
  · exact ⟨_, _, _, _, _, hk _ _ (kx_cv hg kk_25), hk _ _ (kx_cv hg kk_125), by decide⟩
  · exact ⟨_, _, _, _, _, hk _ _ (kx_cv hg kk_26), hk _ _ (kx_cv hg kk_126), by decide⟩
  · exact ⟨_, _, _, _, _, hk _ _ (kx_cv hg kk_27), hk _ _ (kx_cv hg kk_127), by decide⟩
  · exact ⟨_, _, _, _, _, hk _ _ (kx_cv hg kk_28), hk _ _ (kx_cv hg kk_128), by decide⟩
  · exact ⟨_, _, _, _, _, hk _ _ (kx_cv hg kk_29), hk _ _ (kx_cv hg kk_129), by decide⟩
  · exact ⟨_, _, _, _, _, hk _ _ (kx_cv hg kk_30), hk _ _ (kx_cv hg kk_130), by decide⟩
  · exact ⟨_, _, _, _, _, hk _ _ (kx_cv hg kk_31), hk _ _ (kx_cv hg kk_131), by decide⟩
  · exact ⟨_, _, _, _, _, hk _ _ (kx_cv hg kk_32), hk _ _ (kx_cv hg kk_132), by decide⟩
  · exact ⟨_, _, _, _, _, hk _ _ (kx_cv hg kk_33), hk _ _ (kx_cv hg kk_133), by decide⟩
  · exact ⟨_, _, _, _, _, hk _ _ (kx_cv hg kk_34), hk _ _ (kx_cv hg kk_134), by decide⟩
  · exact ⟨_, _, _, _, _, hk _ _ (kx_cv hg kk_35), hk _ _ (kx_cv hg kk_135), by decide⟩
  · exact ⟨_, _, _, _, _, hk _ _ (kx_cv hg kk_36), hk _ _ (kx_cv hg kk_136), by decide⟩
  · exact ⟨_, _, _, _, _, hk _ _ (kx_cv hg kk_37), hk _ _ (kx_cv hg kk_137), by decide⟩
  · exact ⟨_, _, _, _, _, hk _ _ (kx_cv hg kk_38), hk _ _ (kx_cv hg kk_138), by decide⟩
  · exact ⟨_, _, _, _, _, hk _ _ (kx_cv hg kk_39), hk _ _ (kx_cv hg kk_139), by decide⟩
  · exact ⟨_, _, _, _, _, hk _ _ (kx_cv hg kk_40), hk _ _ (kx_cv hg kk_140), by decide⟩
  · exact ⟨_, _, _, _, _, hk _ _ (kx_cv hg kk_41), hk _ _ (kx_cv hg kk_141), by decide⟩
  · exact ⟨_, _, _, _, _, hk _ _ (kx_cv hg kk_42), hk _ _ (kx_cv hg kk_142), by decide⟩
  · exact ⟨_, _, _, _, _, hk _ _ (kx_cv hg kk_43), hk _ _ (kx_cv hg kk_143), by decide⟩
  · exact ⟨_, _, _, _, _, hk _ _ (kx_cv hg kk_44), hk _ _ (kx_cv hg kk_144), by decide⟩
  · exact ⟨_, _, _, _, _, hk _ _ (kx_cv hg kk_45), hk _ _ (kx_cv hg kk_145), by decide⟩
  · exact ⟨_, _, _, _, _, hk _ _ (kx_cv hg kk_46), hk _ _ (kx_cv hg kk_146), by decide⟩
  · exact ⟨_, _, _, _, _, hk _ _ (kx_cv hg kk_47), hk _ _ (kx_cv hg kk_147), by decide⟩
  · exact ⟨_, _, _, _, _, hk _ _ (kx_cv hg kk_48), hk _ _ (kx_cv hg kk_148), by decide⟩
  · exact ⟨_, _, _, _, _, hk _ _ (kx_cv hg kk_49), hk _ _ (kx_cv hg kk_149), by decide⟩
  · exact ⟨_, _, _, _, _, hk _ _ (kx_cv hg kk_50), hk _ _ (kx_cv hg kk_150), by decide⟩
  · exact ⟨_, _, _, _, _, hk _ _ (kx_cv hg kk_51), hk _ _ (kx_cv hg kk_151), by decide⟩
  · exact ⟨_, _, _, _, _, hk _ _ (kx_cv hg kk_52), hk _ _ (kx_cv hg kk_152), by decide⟩
  · exact ⟨_, _, _, _, _, hk _ _ (kx_cv hg kk_53), hk _ _ (kx_cv hg kk_153), by decide⟩
theorem c255 (x : Int32) : ((x &&& 255).toUInt32 % 65536).toInt32 = x &&& 255 := by
  have h : (x &&& 255).toUInt32 % 65536 = (x &&& 255).toUInt32 := by
    apply UInt32.toNat_inj.mp
    rw [UInt32.toNat_mod]
    refine Nat.mod_eq_of_lt ?_
    have h1 : (x &&& 255).toUInt32 = x.toUInt32 &&& 255 := rfl
    rw [h1, UInt32.toNat_and]
    exact Nat.lt_of_le_of_lt Nat.and_le_right (by decide)
  rw [h]
  rfl
theorem mJ_coder {G : KG} {σ : KHp} {a n : Nat} {f : Nat → Int32} (hs : isStr σ a n f) : kx_c G yJ9_coder (ws_ yJ9_coder cJ9_coder 1 (Option.some Jvm.ClassFile.FieldType.byte)) 1 0 0 [.ref a] σ (fun rv σ' => rv = some (.int 0) ∧ σ' = σ) kx_n := by
  have hs0 := hs
  obtain ⟨t, t2, b, hh, hz, h1, h2, h3⟩ := hs
  refine kx_mk3 (ini := false) (by decide) (Nat.le_of_ble_eq_true rfl) (fun h => by cases h) (fun Q X hQ hX => ?_)
  refine kx_gets dJ9_coder_0 kt_java_lang_String_COMPACT_STRINGS q397 (Or.inl rfl) ?_
  refine kx_if_eq (tgt := 13) dJ9_coder_3 (by decide) (fun c3 => (show False from absurd c3 (show ¬ (1 : Int32) = 0 by decide)).elim) (fun c3 => ?_)
  refine kx_aload_n dJ9_coder_6 rfl rfl ?_
  refine kx_getf dJ9_coder_7 fl_J9_15_J9 (by assumption) rfl ?_
  refine kx_goto (tgt := 14) dJ9_coder_10 (by decide) ?_
  exact kx_zret dJ9_coder_14 rfl (rfl) (hQ _ _ ⟨rfl, rfl⟩)
theorem mJ_isLatin1 {G : KG} {σ : KHp} {a n : Nat} {f : Nat → Int32} (hs : isStr σ a n f) : kx_c G yJ9_isLatin1 (ws_ yJ9_isLatin1 cJ9_isLatin1 1 (Option.some Jvm.ClassFile.FieldType.boolean)) 1 0 0 [.ref a] σ (fun rv σ' => rv = some (.int 1) ∧ σ' = σ) kx_n := by
  have hs0 := hs
  obtain ⟨t, t2, b, hh, hz, h1, h2, h3⟩ := hs
  refine kx_mk3 (ini := false) (by decide) (Nat.le_of_ble_eq_true rfl) (fun h => by cases h) (fun Q X hQ hX => ?_)
  refine kx_gets dJ9_isLatin1_0 kt_java_lang_String_COMPACT_STRINGS q397 (Or.inl rfl) ?_
  refine kx_if_eq (tgt := 17) dJ9_isLatin1_3 (by decide) (fun c3 => (show False from absurd c3 (show ¬ (1 : Int32) = 0 by decide)).elim) (fun c3 => ?_)
  refine kx_aload_n dJ9_isLatin1_6 rfl rfl ?_
  refine kx_getf dJ9_isLatin1_7 fl_J9_15_J9 (by assumption) rfl ?_
  refine kx_if_ne (tgt := 17) dJ9_isLatin1_10 (by decide) (fun c10 => (show False from c10 rfl).elim) (fun c10 => ?_)
  refine kx_iconst (v := 1) dJ9_isLatin1_13 (by decide) ?_
  refine kx_goto (tgt := 18) dJ9_isLatin1_14 (by decide) ?_
  exact kx_zret dJ9_isLatin1_18 rfl (rfl) (hQ _ _ ⟨rfl, rfl⟩)
theorem mJ_length {G : KG} {σ : KHp} {a n : Nat} {f : Nat → Int32} (hs : isStr σ a n f) : kx_c G yJ9_length (ws_ yJ9_length cJ9_length 1 (Option.some Jvm.ClassFile.FieldType.int)) 2 0 0 [.ref a] σ (fun rv σ' => rv = some (.int (nI n)) ∧ σ' = σ) kx_n := by
  have hs0 := hs
  obtain ⟨t, t2, b, hh, hz, h1, h2, h3⟩ := hs
  refine kx_mk3 (ini := false) (by decide) (Nat.le_of_ble_eq_true rfl) (fun h => by cases h) (fun Q X hQ hX => ?_)
  refine kx_aload_n dJ9_length_0 rfl rfl ?_
  refine kx_getf dJ9_length_1 fl_J9_9_J9 (by assumption) rfl ?_
  refine kx_alen dJ9_length_4 (by assumption) rfl ?_
  refine kx_aload_n dJ9_length_5 rfl rfl ?_
  refine kx_callV dJ9_length_6 lk_J9_335 (mJ_coder hs0) rfl (⟨_, _, _, h1, Or.inl ⟨_, _, rfl⟩⟩) rfl (Nat.le_of_ble_eq_true rfl) (Nat.le_of_ble_eq_true rfl) (Nat.le_of_ble_eq_true rfl) (Nat.le_of_ble_eq_true rfl) (Nat.le_of_ble_eq_true rfl) (fun _ _ _ h => h.elim) (fun v6 σ6 hq => ?_)
  obtain ⟨rfl, rfl⟩ := hq
  refine kx_ishr dJ9_length_9 ?_
  exact kx_iret dJ9_length_10 rfl (hQ _ _ ⟨by rw [show (0 : Int32) &&& 31 = 0 from rfl, Int32.shiftRight_zero], rfl⟩)
theorem mJ_chkIx0 {G : KG} {σ : KHp} {i n : Nat} {v : Value} (hv : v = .null ∨ ∃ a, v = .ref a) (hi : i < n) (hn : n < 2 ^ 31) : kx_c G yJ14_checkIndex (ws_ yJ14_checkIndex cJ14_checkIndex 3 (Option.some Jvm.ClassFile.FieldType.int)) 1 0 0 [.int (nI i), .int (nI n), v] σ (fun rv σ' => rv = some (.int (nI i)) ∧ σ' = σ) kx_n := by
  refine kx_mk3 (ini := false) (by decide) (by rcases hv with rfl | ⟨a, rfl⟩ <;> exact Nat.le_of_ble_eq_true rfl) (fun h => by cases h) (fun Q X hQ hX => ?_)
  refine kx_iload_n dJ14_checkIndex_0 rfl rfl ?_
  refine kx_if_lt (tgt := 9) dJ14_checkIndex_1 (by decide) (fun c1 => (show False from nI_pos (Nat.lt_trans hi hn) c1).elim) (fun c1 => ?_)
  refine kx_iload_n dJ14_checkIndex_4 rfl rfl ?_
  refine kx_iload_n dJ14_checkIndex_5 rfl rfl ?_
  refine kx_icmp_lt (tgt := 16) dJ14_checkIndex_6 (by decide) (fun c6 => ?_) (fun c6 => (show False from c6 (nI_lt hi hn)).elim)
  refine kx_iload_n dJ14_checkIndex_16 rfl rfl ?_
  exact kx_iret dJ14_checkIndex_17 rfl (hQ _ _ ⟨rfl, rfl⟩)
theorem va_rfc (o : Option Nat) : va_rf o = .null ∨ ∃ a, va_rf o = .ref a := by cases o with | none => exact Or.inl rfl | some a => exact Or.inr ⟨_, rfl⟩
theorem mJ_chkIx {G : KG} {σ : KHp} {i n : Nat} (hi : i < n) (hn : n < 2 ^ 31) : kx_c G yJ9_checkIndex (ws_ yJ9_checkIndex cJ9_checkIndex 2 (Option.none : Option Jvm.ClassFile.FieldType)) 2 0 0 [.int (nI i), .int (nI n)] σ (fun rv σ' => rv = none ∧ σ' = σ) kx_n := by
  refine kx_mk3 (ini := false) (by decide) (Nat.le_of_ble_eq_true rfl) (fun h => by cases h) (fun Q X hQ hX => ?_)
  refine kx_iload_n dJ9_checkIndex_0 rfl rfl ?_
  refine kx_iload_n dJ9_checkIndex_1 rfl rfl ?_
  refine kx_gets dJ9_checkIndex_2 kt_jdk_internal_util_Preconditions_SIOOBE_FORMATTER q375 (Or.inl rfl) ?_
  refine kx_callS dJ9_checkIndex_5 lk_J9_1059 (mJ_chkIx0 (v := kx_sv G (.inr (400, false))) (va_rfc _) hi hn) rfl rfl (Nat.le_of_ble_eq_true rfl) (Nat.le_of_ble_eq_true rfl) (Nat.le_of_ble_eq_true rfl) (Nat.le_of_ble_eq_true rfl) (Nat.le_of_ble_eq_true rfl) (fun _ _ _ h => h.elim) (fun v5 σ5 hq => ?_)
  obtain ⟨rfl, rfl⟩ := hq
  refine kx_pop dJ9_checkIndex_8 rfl ?_
  exact kx_vret dJ9_checkIndex_9 rfl (hQ _ _ ⟨rfl, rfl⟩)
theorem mJ_latCharAt {G : KG} {σ : KHp} {b t2 n i : Nat} {f : Nat → Int32} (h2 : σ b = some (t2, .inl (.byte, n, .inl f))) (hn : n < 2 ^ 31) (hi : i < n) : kx_c G yJ15_charAt (ws_ yJ15_charAt cJ15_charAt 2 (Option.some Jvm.ClassFile.FieldType.char)) 3 0 0 [.ref b, .int (nI i)] σ (fun rv σ' => rv = some (.int (f i &&& 255)) ∧ σ' = σ) kx_n := by
  refine kx_mk3 (ini := false) (by decide) (Nat.le_of_ble_eq_true rfl) (fun h => by cases h) (fun Q X hQ hX => ?_)
  refine kx_iload_n dJ15_charAt_0 rfl rfl ?_
  refine kx_aload_n dJ15_charAt_1 rfl rfl ?_
  refine kx_alen dJ15_charAt_2 (by assumption) rfl ?_
  refine kx_callS dJ15_charAt_3 lk_J15_9 (mJ_chkIx hi hn) rfl rfl (Nat.le_of_ble_eq_true rfl) (Nat.le_of_ble_eq_true rfl) (Nat.le_of_ble_eq_true rfl) (Nat.le_of_ble_eq_true rfl) (Nat.le_of_ble_eq_true rfl) (fun _ _ _ h => h.elim) (fun v3 σ3 hq => ?_)
  obtain ⟨rfl, rfl⟩ := hq
  refine kx_aload_n dJ15_charAt_6 rfl rfl ?_
  refine kx_iload_n dJ15_charAt_7 rfl rfl ?_
  refine kx_bald dJ15_charAt_8 (by assumption) (vp_in_nI hi hn) ?_
  rw [nI_clamp (Nat.lt_trans hi hn)]
  refine kx_sipush (v := 255) dJ15_charAt_9 (by decide) ?_
  refine kx_iand dJ15_charAt_12 ?_
  refine kx_i2c dJ15_charAt_13 (c255 _) ?_
  exact kx_zret dJ15_charAt_14 rfl (congrArg Value.int (c255 _)) (hQ _ _ ⟨rfl, rfl⟩)
theorem mJ_charAt {G : KG} {σ : KHp} {a n i : Nat} {f : Nat → Int32} (hs : isStr σ a n f) (hi : i < n) : kx_c G yJ9_charAt (ws_ yJ9_charAt cJ9_charAt 2 (Option.some Jvm.ClassFile.FieldType.char)) 4 0 0 [.ref a, .int (nI i)] σ (fun rv σ' => rv = some (.int (f i &&& 255)) ∧ σ' = σ) kx_n := by
  have hs0 := hs
  obtain ⟨t, t2, b, hh, hz, h1, h2, h3⟩ := hs
  refine kx_mk3 (ini := false) (by decide) (Nat.le_of_ble_eq_true rfl) (fun h => by cases h) (fun Q X hQ hX => ?_)
  refine kx_aload_n dJ9_charAt_0 rfl rfl ?_
  refine kx_callV dJ9_charAt_1 lk_J9_492 (mJ_isLatin1 hs0) rfl (⟨_, _, _, h1, Or.inl ⟨_, _, rfl⟩⟩) rfl (Nat.le_of_ble_eq_true rfl) (Nat.le_of_ble_eq_true rfl) (Nat.le_of_ble_eq_true rfl) (Nat.le_of_ble_eq_true rfl) (Nat.le_of_ble_eq_true rfl) (fun _ _ _ h => h.elim) (fun v1 σ1 hq => ?_)
  obtain ⟨rfl, rfl⟩ := hq
  refine kx_if_eq (tgt := 16) dJ9_charAt_4 (by decide) (fun c4 => (show False from absurd c4 (show ¬ (1 : Int32) = 0 by decide)).elim) (fun c4 => ?_)
  refine kx_aload_n dJ9_charAt_7 rfl rfl ?_
  refine kx_getf dJ9_charAt_8 fl_J9_9_J9 (by assumption) rfl ?_
  refine kx_iload_n dJ9_charAt_11 rfl rfl ?_
  refine kx_callS dJ9_charAt_12 lk_J9_495 (mJ_latCharAt h2 h3 hi) rfl rfl (Nat.le_of_ble_eq_true rfl) (Nat.le_of_ble_eq_true rfl) (Nat.le_of_ble_eq_true rfl) (Nat.le_of_ble_eq_true rfl) (Nat.le_of_ble_eq_true rfl) (fun _ _ _ h => h.elim) (fun v12 σ12 hq => ?_)
  obtain ⟨rfl, rfl⟩ := hq
  exact kx_zret dJ9_charAt_15 rfl (congrArg Value.int (c255 _)) (hQ _ _ ⟨rfl, rfl⟩)
theorem ktx_b {i j : Nat} : (ktl i).getD j 0 &&& 255 = (ktl i).getD j 0 := by
  have h : ∀ l ∈ ktx, ∀ x ∈ l, x &&& 255 = x := by decide +kernel
  have h2 : ∀ l : List Int32, (∀ x ∈ l, x &&& 255 = x) → l.getD j 0 &&& 255 = l.getD j 0 := by
    intro l hl
    rw [List.getD_eq_getElem?_getD]
    cases hx : l[j]? with
    | none => rfl
    | some x => exact hl x (List.mem_of_getElem? hx)
  refine h2 _ ?_
  unfold ktl
  rw [List.getD_eq_getElem?_getD]
  cases hx : ktx[i - 20]? with
  | none => intro x hx; cases hx
  | some l => exact h l (List.mem_of_getElem? hx)
theorem mJ_slen {G : KG} {σ : KHp} {i : Nat} {v : Int32} (hg : kx_g G) (hk : ∀ a o, kx_k G a = some o → σ a = some o) (e : slen i = some v) : kx_c G yJ9_length (ws_ yJ9_length cJ9_length 1 (Option.some Jvm.ClassFile.FieldType.int)) 2 0 0 [.ref (kx_K G i)] σ (fun rv σ' => rv = some (.int v) ∧ σ' = σ) kx_n := by
  obtain ⟨h, rfl⟩ := if_g e
  exact mJ_length (kS_con hg hk h)
theorem mJ_sat {G : KG} {σ : KHp} {i : Nat} {k v : Int32} (hg : kx_g G) (hk : ∀ a o, kx_k G a = some o → σ a = some o) (e : sat i k = some v) : kx_c G yJ9_charAt (ws_ yJ9_charAt cJ9_charAt 2 (Option.some Jvm.ClassFile.FieldType.char)) 4 0 0 [.ref (kx_K G i), .int k] σ (fun rv σ' => rv = some (.int v) ∧ σ' = σ) kx_n := by
  obtain ⟨⟨h1, h2, h3⟩, rfl⟩ := if_g e
  have h4 := mJ_charAt (G := G) (kS_con hg hk h1) h3
  rw [nI_clI h2, ktx_b] at h4
  exact h4
theorem isStr_rc {σ : KHp} {a n : Nat} {f : Nat → Int32} (h : isStr σ a n f) : kx_rc σ a "java/lang/String" := by
  obtain ⟨t, t', b, hh, z, h1, -⟩ := h
  exact ⟨_, _, _, h1, Or.inl ⟨_, _, rfl⟩⟩
theorem kS_rc {G : KG} {σ : KHp} {i : Nat} {v : Int32} (hg : kx_g G) (hk : ∀ a o, kx_k G a = some o → σ a = some o) (e : slen i = some v) : kx_rc σ (kx_K G i) "java/lang/String" := isStr_rc (kS_con hg hk (if_g e).1)
theorem kS_rc2 {G : KG} {σ : KHp} {i : Nat} {k v : Int32} (hg : kx_g G) (hk : ∀ a o, kx_k G a = some o → σ a = some o) (e : sat i k = some v) : kx_rc σ (kx_K G i) "java/lang/String" := isStr_rc (kS_con hg hk (if_g e).1.1)

