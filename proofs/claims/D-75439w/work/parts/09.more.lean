set_option maxRecDepth 100000
section KXM
variable {G : KG} {F : KF} {B : KB} {bc bs : Nat} {σ : KHp} {pc : Nat} {ls : Nat → Option Value} {rest st : List Value}
theorem kx_lcmp {x y : Int64} (hdg : decode F.2.1 pc = .ok (.lcmp, 1)) (kk : kx G F B bc bs σ (pc + 1) ls (.int (lg_cmp x y) :: rest)) : kx G F B bc bs σ pc ls (.long y :: .long x :: rest) := by
  intro p e R s m args below meth c H locs cells slots lsA hR hF hH hS hL hc hs
  exact W.lcmp hF.1 hF.2.1 hdg (kk p e R s m args below meth c H locs cells slots lsA hR hF hH hS hL hc hs)
/-- the constants are in every heap -/
theorem kx_know (k : kx_g G → (∀ a o, kx_k G a = some o → σ a = some o) → kx G F B bc bs σ pc ls st) : kx G F B bc bs σ pc ls st := by
  intro p e R s m args below meth c H locs cells slots lsA hR hF hH hS hL hc hs
  exact k hF.2.2.2.2.2.2.2.2.1.1 hH.2.2.2 p e R s m args below meth c H locs cells slots lsA hR hF hH hS hL hc hs
theorem kx_cv (hg : kx_g G) {r : Nat × ((Nat → Nat) → (FieldType × vp_A) ⊕ (Nat × List Value))} (h : r ∈ kx_con) : kx_k G (kx_K G r.1) = some (0, r.2 (kx_K G)) := hg.2.2.2.2.2.2.2.2.2.1 r h
theorem kx_dist (hg : kx_g G) {r : Nat × Nat} (h : r ∈ kx_ne) : kx_K G r.1 ≠ kx_K G r.2 := hg.2.2.2.2.2.2.2.2.2.2.2 r h
/-- any marks: they are ours -/
theorem kx_mark {a t t' : Nat} {o : (FieldType × vp_A) ⊕ (Nat × List Value)} (ho : σ a = some (t, o)) (ht : t ≠ 0) (k : kx G F B bc bs (kU σ a (t', o)) pc ls st) : kx G F B bc bs σ pc ls st := by
  intro p e R s m args below meth c H locs cells slots lsA hR hF hH hS hL hc hs
  exact k p e R s m args below meth c H locs cells slots lsA hR hF (kx_h_set hF.2.2.2.2.2.2.2.2.1.1 hH ho ht (hH.2.2.1 a _ ho).1 rfl (fun _ _ => rfl)) hS hL hc hs
/-- an object known to lie there is no constant's, or is one: at most what H says; two lookups at one address agree -/
theorem kx_ldcS {idx : Nat} {tx : String} {i : Nat} (hdg : decode F.2.1 pc = .ok (.ldc idx, 2)) (q : (F.1, idx, tx, i) ∈ kx_str) (kk : kx G F B bc bs σ (pc + 2) ls (.ref (kx_K G i) :: rest)) : kx G F B bc bs σ pc ls rest := by
  intro p e R s m args below meth c H locs cells slots lsA hR hF hH hS hL hc hs
  have hu := hF.2.2.2.2.2.2.2.2.1
  exact va_ldcS hF.1 hF.2.1 hF.2.2.2.2.2.1 (vk_R.warm hu.2 (hu.1.2.2.2.2.2.2.1 _ q)) hdg (kk p e R s m args below meth c H locs cells slots lsA hR hF hH hS hL hc hs)
theorem kx_ldcM {idx : Nat} {C : String} {i : Nat} (hdg : decode F.2.1 pc = .ok (.ldc idx, 2)) (q1 : Cond.classLink F.1 idx C ∈ lw_all) (q : (C, i) ∈ kx_mir) (kk : kx G F B bc bs σ (pc + 2) ls (.ref (kx_K G i) :: rest)) : kx G F B bc bs σ pc ls rest := by
  intro p e R s m args below meth c H locs cells slots lsA hR hF hH hS hL hc hs
  have hu := hF.2.2.2.2.2.2.2.2.1
  exact va_ldcM hF.1 hF.2.1 hF.2.2.2.2.2.1 (kx_w hu q1) (va_Mi.moved (kx_al hu) (hu.1.2.2.2.2.2.2.2.2.2.2.1 _ q)) hdg (kk p e R s m args below meth c H locs cells slots lsA hR hF hH hS hL hc hs)
theorem kx_gets {idx : Nat} {C n d ref : String} {v : Int32 ⊕ (Nat × Bool)} (hdg : decode F.2.1 pc = .ok (.getstatic idx, 3)) (q : (C, n, d, v) ∈ kx_sta) (q1 : Cond.fieldLink F.1 idx ref n d ∈ lw_all) (q2 : ref = C ∨ Cond.sameField ref C n d ∈ lw_all) (kk : kx G F B bc bs σ (pc + 3) ls (kx_sv G v :: rest)) : kx G F B bc bs σ pc ls rest := by
  intro p e R s m args below meth c H locs cells slots lsA hR hF hH hS hL hc hs T hT X
  have hu := hF.2.2.2.2.2.2.2.2.1
  have hz := hF.2.2.2.2.2.2.2.2.2
  have hS' := kx_S X hT hS
  have hZ0 := hu.1.2.2.2.2.2.2.2.1 _ q
  have hZ1 : va_Z C n d (kx_sv G v) (fun q => kx_z G ≤ q) (kx_s G) s.heap := va_Z.kept hZ0 (fun a h1 h2 => by
    have h3 : a < kx_z G := Nat.not_le.mp h2
    rw [← hS'.2.1 a (Nat.lt_of_lt_of_le h3 hz) h2]
    exact hH.2.1 a h3)
  exact va_gets hF.1 hF.2.1 (va_Z.moved (kx_al hu) hZ1) hS' hF.2.2.2.2.2.1 (kx_w hu q1) (kx_same hu q2) hdg (kk p e R s m args below meth c H locs cells slots lsA hR hF hH hS hL hc hs) T hT X
/-- checkcast: to the object's own class, to a class or face above, of an array -/
theorem kx_castS {idx a t ci : Nat} {fs : List Value} {C : String} {T : u_T} {N : Nat} (hdg : decode F.2.1 pc = .ok (.checkcast idx, 3)) (ho : σ a = some (t, .inr (ci, fs))) (hci : kx_cl[ci]? = some (C, T, N)) (q1 : Cond.classLink F.1 idx C ∈ lw_all) (kk : kx G F B bc bs σ (pc + 3) ls (.ref a :: rest)) : kx G F B bc bs σ pc ls (.ref a :: rest) := by
  intro p e R s m args below meth c H locs cells slots lsA hR hF hH hS hL hc hs
  have hu := hF.2.2.2.2.2.2.2.2.1
  exact va_castS hF.1 hF.2.1 hF.2.2.2.2.2.1 (kx_w hu q1) ((kx_Kn hu).1 ci _ hci).2 (kx_recv hu hH ⟨t, ci, fs, ho, Or.inl ⟨T, N, hci⟩⟩) hdg (kk p e R s m args below meth c H locs cells slots lsA hR hF hH hS hL hc hs)
theorem kx_castY {idx a : Nat} {C nm : String} (hdg : decode F.2.1 pc = .ok (.checkcast idx, 3)) (hrc : kx_rc σ a C) (q1 : Cond.classLink F.1 idx nm ∈ lw_all) (q2 : Cond.castable C nm ∈ lw_tbl) (kk : kx G F B bc bs σ (pc + 3) ls (.ref a :: rest)) : kx G F B bc bs σ pc ls (.ref a :: rest) := by
  intro p e R s m args below meth c H locs cells slots lsA hR hF hH hS hL hc hs
  have hu := hF.2.2.2.2.2.2.2.2.1
  exact va_castY hF.1 hF.2.1 hF.2.2.2.2.2.1 (kx_w hu q1) (kx_nC hu q2) (kx_recv hu hH hrc) hdg (kk p e R s m args below meth c H locs cells slots lsA hR hF hH hS hL hc hs)
theorem kx_castA {idx a t : Nat} {ty : FieldType} {x : vp_A} {nm : String} (hdg : decode F.2.1 pc = .ok (.checkcast idx, 3)) (ho : σ a = some (t, .inl (ty, x))) (hnm : "[" ++ ty.toString = nm) (q1 : Cond.classLink F.1 idx nm ∈ lw_all) (kk : kx G F B bc bs σ (pc + 3) ls (.ref a :: rest)) : kx G F B bc bs σ pc ls (.ref a :: rest) := by
  intro p e R s m args below meth c H locs cells slots lsA hR hF hH hS hL hc hs
  have hu := hF.2.2.2.2.2.2.2.2.1
  obtain ⟨cA, h1, h2, h3⟩ := (hH.2.2.1 a _ ho).1
  have h4 : s.vm.findClass nm = some cA := by
    subst hnm
    have h5 := va_RA.moved (kx_al hu) h3
    cases ty with
    | object C => exact h5.choose_spec.choose_spec.2.2.2
    | _ => exact h5
  exact va_castA hF.1 hF.2.1 hF.2.2.2.2.2.1 (kx_w hu q1) (kx_P1 (D := G.2.1) (x := .inl (cA, _)) h1) 0 rfl h4 hdg (kk p e R s m args below meth c H locs cells slots lsA hR hF hH hS hL hc hs)
theorem kx_instS {idx a t ci : Nat} {fs : List Value} {C : String} {T : u_T} {N : Nat} (hdg : decode F.2.1 pc = .ok (.instanceof idx, 3)) (ho : σ a = some (t, .inr (ci, fs))) (hci : kx_cl[ci]? = some (C, T, N)) (q1 : Cond.classLink F.1 idx C ∈ lw_all) (kk : kx G F B bc bs σ (pc + 3) ls (.int 1 :: rest)) : kx G F B bc bs σ pc ls (.ref a :: rest) := by
  intro p e R s m args below meth c H locs cells slots lsA hR hF hH hS hL hc hs
  have hu := hF.2.2.2.2.2.2.2.2.1
  exact va_instS hF.1 hF.2.1 hF.2.2.2.2.2.1 (kx_w hu q1) ((kx_Kn hu).1 ci _ hci).2 (kx_recv hu hH ⟨t, ci, fs, ho, Or.inl ⟨T, N, hci⟩⟩) hdg (kk p e R s m args below meth c H locs cells slots lsA hR hF hH hS hL hc hs)
theorem kx_instNo {idx a : Nat} {C nm : String} (hdg : decode F.2.1 pc = .ok (.instanceof idx, 3)) (hrc : kx_rc σ a C) (q1 : Cond.classLink F.1 idx nm ∈ lw_all) (q2 : (C, nm) ∈ kx_nc) (kk : kx G F B bc bs σ (pc + 3) ls (.int 0 :: rest)) : kx G F B bc bs σ pc ls (.ref a :: rest) := by
  intro p e R s m args below meth c H locs cells slots lsA hR hF hH hS hL hc hs
  have hu := hF.2.2.2.2.2.2.2.2.1
  exact va_instNo hF.1 hF.2.1 hF.2.2.2.2.2.1 (kx_w hu q1) (va_Nc.moved (kx_al hu) (hu.1.2.2.2.2.2.2.2.2.1 _ q2)) (kx_recv hu hH hrc) hdg (kk p e R s m args below meth c H locs cells slots lsA hR hF hH hS hL hc hs)
/-- aastore -/
theorem kx_aast {a t n v : Nat} {E C : String} {f : Nat → Option Nat} {i : Int32} (hdg : decode F.2.1 pc = .ok (.aastore, 1)) (ho : σ a = some (t, .inl (.object E, n, .inr (.inr (.inr (.inr f)))))) (ht : t ≠ 0) (hin : vp_in i n) (hrc : kx_rc σ v C) (hca : C = E ∨ Cond.castable C E ∈ lw_tbl)
    (kk : kx G F B bc bs (kU σ a (t, .inl (.object E, n, .inr (.inr (.inr (.inr (va_up f i.toNatClampNeg (some v)))))))) (pc + 1) ls rest) : kx G F B bc bs σ pc ls (.ref v :: .int i :: .ref a :: rest) := by
  intro p e R s m args below meth c H locs cells slots lsA hR hF hH hS hL hc hs
  have hu := hF.2.2.2.2.2.2.2.2.1
  have hlt : i.toNatClampNeg < n := Nat.not_le.mp fun q => hin (Or.inr q)
  have h0 : ¬ i < 0 := fun q => hin (Or.inl q)
  obtain ⟨cellV, g1, g2, g3⟩ := kx_recv hu hH hrc
  obtain ⟨cA, h1, h2, h3⟩ := (hH.2.2.1 a _ ho).1
  obtain ⟨kA, comp, k1, k2, k3, -⟩ := va_RA.moved (ty := .object E) (kx_al hu) h3
  obtain ⟨kV, hkV, -⟩ := Vm.findClass_spec g3
  obtain ⟨kC, hkC, -⟩ := Vm.findClass_spec k3
  have hasg : s.vm.assignable cellV.cls comp = true := by
    rcases hca with rfl | hca
    · cases k3.symm.trans g3
      exact va_asg _ _
    · obtain ⟨c0, t1, f1, f2, f3⟩ := Cond.castable_spec (va_Nw.use (A := args) rfl (kx_nC hu hca))
      cases g3.symm.trans f1
      cases k3.symm.trans f2
      exact f3
  refine W.aast hF.1 hF.2.1 h1 (fun q h => by cases h) (fun h => by cases h) k1 k2 rfl hkC ⟨h0, by show _ < (arrV _ _ _).slots.size; rw [arrV_size]; exact hlt⟩ g1 (fun q h => by rw [h] at g2; cases g2) hkV hasg rfl rfl hdg fun H1 e1 z oq => ?_
  refine kk p e R s m args below meth c H1 _ cells slots lsA hR hF (kx_h_set hu.1 hH ho ht ⟨cA, ?_, h2, h3⟩ z oq) (kx_ap hS (kx_new_z hH ho ht)) hL hc hs
  show H1[a]? = some (vp_cell _ _)
  rw [e1]
  rw [vp_cell_q, vp_cell_q, arrV_store]
  congr 2
  funext q
  by_cases hq : q = i.toNatClampNeg
  · subst hq
    simp [updV, va_up, va_rf]
  · simp [updV, va_up, hq]
theorem kx_aastN {a t n : Nat} {E : String} {f : Nat → Option Nat} {i : Int32} (hdg : decode F.2.1 pc = .ok (.aastore, 1)) (ho : σ a = some (t, .inl (.object E, n, .inr (.inr (.inr (.inr f)))))) (ht : t ≠ 0) (hin : vp_in i n)
    (kk : kx G F B bc bs (kU σ a (t, .inl (.object E, n, .inr (.inr (.inr (.inr (va_up f i.toNatClampNeg none))))))) (pc + 1) ls rest) : kx G F B bc bs σ pc ls (.null :: .int i :: .ref a :: rest) := by
  intro p e R s m args below meth c H locs cells slots lsA hR hF hH hS hL hc hs
  have hu := hF.2.2.2.2.2.2.2.2.1
  obtain ⟨cA, h1, h2, h3⟩ := (hH.2.2.1 a _ ho).1
  refine va_WaastN (C := E) hF.1 hF.2.1 h1 (arrOfT_moved (kx_al hu) h2 n (fun j => va_rf (f j))) (fun q => by cases q) (by show ¬ (i < 0 ∨ (arrV _ _ _).slots.size ≤ _); rw [arrV_size]; exact hin) rfl rfl hdg fun H1 e1 z oq => ?_
  refine kk p e R s m args below meth c H1 _ cells slots lsA hR hF (kx_h_set hu.1 hH ho ht ⟨cA, ?_, h2, h3⟩ z oq) (kx_ap hS (kx_new_z hH ho ht)) hL hc hs
  show H1[a]? = some (vp_cell _ _)
  rw [e1]
  rw [vp_cell_q, vp_cell_q, arrV_store]
  congr 2
  funext q
  by_cases hq : q = i.toNatClampNeg
  · subst hq
    simp [updV, va_up, va_rf]
  · simp [updV, va_up, hq]
/-- 'throw new E()' -/
theorem kx_throw0 {cls : String} {names : List String} {ik ic : Nat} (hcls : Bundle.fit cls = true) (hnames : ∀ n ∈ names, Bundle.fit n = true) (hn9 : names.length ≤ 4)
    (q1 : Cond.classLink F.1 ik cls ∈ lw_all) (q2 : Cond.initialized cls ∈ lw_all) (q3 : ∀ w ∈ vx_at0 F.1 ic cls names, w ∈ lw_all ∨ (w ∈ lw_tbl ∧ ∃ C T, w = .castable C T) ∨ (w ∈ lw_tbl ∧ ∃ y, w = .declares y))
    (hgood : ∀ w ∈ Cond.classLink F.1 ik cls :: Cond.initialized cls :: vx_at0 F.1 ic cls names, vx_ot w = true)
    (d0 : decode F.2.1 pc = .ok (.new ik, 3)) (d3 : decode F.2.1 (pc + 3) = .ok (.dup, 1)) (d4 : decode F.2.1 (pc + 4) = .ok (.invokespecial ic, 3)) (d7 : decode F.2.1 (pc + 7) = .ok (.athrow, 1))
    (hh : F.2.2.2.2.2 = []) (hd : 8 ≤ B.1) (hw : (rest.map fun v => v.category).sum ≤ 8) (hbc : 1 ≤ bc) (hbs : 6 ≤ bs) (h : ∀ q, B.2.2.2.2 cls q σ) : kx G F B bc bs σ pc ls rest := by
  intro p e R s m args below meth c H locs cells slots lsA hR hF hH hS hL hc hs T hT X
  have hu := hF.2.2.2.2.2.2.2.2.1
  have hz := hF.2.2.2.2.2.2.2.2.2
  have hS' := kx_S X hT hS
  have htb : c.exceptionTable.toList = [] := by rw [hF.2.2.2.2.2.2.2.1, hh]; rfl
  have keep : ∀ a : Nat, a < (kx_s G).heap.size → ¬ kx_z G ≤ a → s.heap[a]? = (kx_s G).heap[a]? := fun a h1 h2 => by
    have h3 : a < kx_z G := Nat.not_le.mp h2
    rw [← hS'.2.1 a (Nat.lt_of_lt_of_le h3 hz) h2]
    exact hH.2.1 a h3
  obtain ⟨r1, r2, r3, r4⟩ := hR
  refine vx_throw0 (A := fun q => kx_z G ≤ q) (names := names) (ik := ik) (ic := ic) hF.1 hF.2.1 hu.1.1 hF.2.2.2.2.2.1 hcls hnames (kx_w hu q1) (kx_w hu q2) (fun w hw => ?_) hgood (vx_Zq.moved (kx_al hu) (hu.1.2.2.2.1.kept keep)) (vx_Zq.moved (kx_al hu) (hu.1.2.2.2.2.1.kept keep)) hS' (hL.1.trans hF.2.2.1.symm) d0 d3 d4 d7 (fun x hx => by rw [htb] at hx; cases hx)
    (by omega) (by omega) (by omega) (by omega) hF.2.2.2.2.1 (fun q9 t _ h1 h2 => ⟨σ, ?_, h q9⟩) hS (by omega) (by omega) T hT X
  · rcases q3 w hw with h1 | ⟨h1, C, T', rfl⟩ | ⟨h1, y, rfl⟩
    · exact kx_w hu h1
    · exact va_Nw.use rfl (kx_nC hu h1)
    · exact va_Nw.use rfl (kx_nD hu h1)
  · refine ⟨Nat.le_trans hH.1 h1, fun q hq => by rw [h2 q (Nat.lt_of_lt_of_le hq hH.1)]; exact hH.2.1 q hq, fun a o ho => ⟨kx_at_kept (hH.2.2.1 a o ho).1 (h2 a (kx_lt_h hH ho)), (hH.2.2.1 a o ho).2⟩, hH.2.2.2⟩
/-- caught here: the rows ahead don't take it -/
theorem kx_catch {E name : String} {q : Addr} (pre : List ExceptionTableEntry) (x : ExceptionTableEntry) (suf : List ExceptionTableEntry) (hsplit : tableOf F.2.2.2.2.2 = pre ++ x :: suf)
    (hpass : ∀ z ∈ pre, covers z pc = false ∨ (z.catchType ≠ 0 ∧ ∃ nm : String, Cond.classLink F.1 z.catchType nm ∈ lw_all ∧ (E, nm) ∈ kx_nc)) (hx : covers x pc = true) (h0 : x.catchType ≠ 0)
    (q1 : Cond.classLink F.1 x.catchType name ∈ lw_all) (q2 : Cond.castable E name ∈ lw_tbl) (kk : kx G F B bc bs σ x.handlerPc ls [.ref q]) : kx_t G F B bc bs σ pc ls E q := by
  intro p e R s m args below meth c H locs cells slots lsA rest ce hR hF hH hS hL hc hs h1 h2 h3
  have hu := hF.2.2.2.2.2.2.2.2.1
  refine vx_catch hF.2.2.2.2.2.1 pre x suf (by rw [hF.2.2.2.2.2.2.2.1]; exact hsplit) (fun z hz => ?_) hx h0 (kx_w hu q1) (va_Nw.use rfl (kx_nC hu q2)) h1 h2 h3 (kk p e R s m args below meth c H locs cells slots lsA hR hF hH hS hL hc hs)
  rcases hpass z hz with h | ⟨g1, nm, g2, g3⟩
  · exact Or.inl h
  · exact Or.inr ⟨g1, nm, kx_w hu g2, va_Nc.moved (kx_al hu) (hu.1.2.2.2.2.2.2.2.2.1 _ g3)⟩
/-- not caught here, past rows that name others -/
theorem kx_pass {E : String} {q : Addr} (hpass : ∀ z ∈ tableOf F.2.2.2.2.2, covers z pc = false ∨ (z.catchType ≠ 0 ∧ ∃ nm : String, Cond.classLink F.1 z.catchType nm ∈ lw_all ∧ (E, nm) ∈ kx_nc)) (h : B.2.2.2.2 E q σ) : kx_t G F B bc bs σ pc ls E q := by
  intro p e R s m args below meth c H locs cells slots lsA rest ce hR hF hH hS hL hc hs h1 h2 h3
  have hu := hF.2.2.2.2.2.2.2.2.1
  refine vx_outP hF.2.2.2.2.2.1 hF.2.2.2.2.1 (fun z hz => ?_) h1 h2 h3 (fun t ht hW => ⟨σ, by rw [ht]; exact hH, h⟩) hS (by omega) (by omega)
  rw [hF.2.2.2.2.2.2.2.1] at hz
  rcases hpass z hz with h | ⟨g1, nm, g2, g3⟩
  · exact Or.inl h
  · exact Or.inr ⟨g1, nm, kx_w hu g2, va_Nc.moved (kx_al hu) (hu.1.2.2.2.2.2.2.2.2.1 _ g3)⟩
/-- an array's clone -/
theorem kx_clone {idx a t : Nat} (t' : Nat) {ty : FieldType} {x : vp_A} {ad : String} (hdg : decode F.2.1 pc = .ok (.invokevirtual idx, 3)) (ho : σ a = some (t, .inl (ty, x))) (hnm : "[" ++ ty.toString = ad)
    (q1 : Cond.methodLink F.1 idx ⟨ad, "clone", "()Ljava/lang/Object;"⟩ ∈ lw_all) (q2 : Cond.sameMethod ad "java/lang/Object" "clone" "()Ljava/lang/Object;" ∈ lw_all) (q3 : Cond.native ⟨"java/lang/Object", "clone", "()Ljava/lang/Object;"⟩ ∈ lw_all) (q4 : Cond.instanceMethod ⟨"java/lang/Object", "clone", "()Ljava/lang/Object;"⟩ ∈ lw_all)
    (q5 : Cond.selects ad ⟨ad, "clone", "()Ljava/lang/Object;"⟩ ⟨"java/lang/Object", "clone", "()Ljava/lang/Object;"⟩ ∈ lw_all) (q6 : Cond.castable ad "java/lang/Cloneable" ∈ lw_tbl)
    (hfit : ∀ (cA : ClassId) (i : Nat) (v : Value), (vp_cell cA x).slots[i]? = some v → fits ty v = true) (hd : 2 ≤ B.1) (hw : (rest.map fun v => v.category).sum ≤ 8) (hbc : 1 ≤ bc) (hbs : x.1 ≤ bs)
    (kk : ∀ q, σ q = none → kx G F B (bc - 1) (bs - x.1) (kU σ q (t', .inl (ty, x))) (pc + 3) ls (.ref q :: rest)) : kx G F B bc bs σ pc ls (.ref a :: rest) := by
  intro p e R s m args below meth c H locs cells slots lsA hR hF hH hS hL hc hs
  have hu := hF.2.2.2.2.2.2.2.2.1
  obtain ⟨r1, r2, r3, r4⟩ := id hR
  obtain ⟨cA, h1, h2, h3⟩ := (hH.2.2.1 a _ ho).1
  have h4 : s.vm.findClass ad = some cA := by
    subst hnm
    have h5 := va_RA.moved (kx_al hu) h3
    cases ty with
    | object C => exact h5.choose_spec.choose_spec.2.2.2
    | _ => exact h5
  have hsz : (vp_cell cA x).slots.size = x.1 := by
    obtain ⟨n, f | f | f | f | f⟩ := x <;> exact arrV_size _ _ _
  have hvm0 : (vp_cell cA x).vm = .none := by
    obtain ⟨n, f | f | f | f | f⟩ := x <;> rfl
  have hcl0 : (vp_cell cA x).cls = cA := by
    obtain ⟨n, f | f | f | f | f⟩ := x <;> rfl
  have hcellE : ({ cls := (vp_cell cA x).cls, slots := (vp_cell cA x).slots } : Cell) = vp_cell cA x := by
    obtain ⟨n, f | f | f | f | f⟩ := x <;> rfl
  obtain ⟨c0, t0', f1, f2, f3⟩ := Cond.castable_spec (va_Nw.use (A := args) rfl (kx_nC hu q6))
  cases h4.symm.trans f1
  intro T hT X
  have hcellT : T.heap[a]? = some (vp_cell cA x) := by rw [hT]; exact h1
  have hAr := arrOfT_moved (kx_al hu) h2
  obtain ⟨-, kA, hkA, comp, hkind⟩ := State.isArrayOf_alike X.warmed.alike (hAr 0 (fun _ => .null))
  obtain ⟨-, kS, hkS, compS, hkindS⟩ := hAr 0 (fun _ => .null)
  obtain ⟨vm', X', st⟩ := X.cloneArray hF.1 hF.2.2.2.2.2.1 (kx_w hu q1) (kx_w hu q2) (kx_w hu q3) (kx_w hu q4) (kx_w hu q5) (a := a) (cell := vp_cell cA x) hcellT (fun k h => by rw [hvm0] at h; cases h) (by rw [hvm0]; exact fun h => by cases h) (by rw [hcl0]; exact h4) f2 (by rw [hcl0]; exact f3)
    (fun i v hv => by
      rw [hcl0]
      have hk' : T.vm.classes[cA]? = some kA := hkA
      simpa [State.fitsSlot, State.slotType?, hk', hkind] using hfit cA i v hv)
    (g := F0 m pc lsA (.ref a :: rest)) rfl (by rw [hF.2.2.1]; exact hL.1) rfl (by rw [hF.2.1]; exact hdg) (by omega) (by show 2 * 0 + _ + 14 ≤ _; omega) (by omega) (by rw [hsz]; omega) (hloader := by rw [hcl0]; exact Vm.clonesLoader_of_array hkS hkindS)
  rw [hcellE, hsz] at X'
  generalize hH1 : H.push (vp_cell cA x) = H1
  have z1 : H1.size = H.size + 1 := by rw [← hH1, Array.size_push]
  have e1 : H1[H.size]? = some (vp_cell cA x) := by rw [← hH1, Array.getElem?_push_size]
  have o1 : ∀ q : Nat, q < H.size → H1[q]? = H[q]? := fun q hq => by rw [← hH1, Array.getElem?_push, if_neg (Nat.ne_of_lt hq)]
  obtain ⟨t9, b1, b2⟩ := kk H.size (kx_fresh hH) p e R s m args below meth c H1 locs (cells + 1) (slots + x.1) lsA hR hF (kx_h_new hu.1 hH ⟨cA, e1, h2, h3⟩ z1 o1) hS hL (by omega) (by omega)
    ((T.setVm vm').pushCell (vp_cell cA x)) (by rw [← hH1, ← hT]; rfl) X'
  refine ⟨t9, st t9 ?_, b2⟩
  rw [hcellE, hT]
  exact b1
theorem kx_nn (z : Int32) (hz : ¬ z < 0) : z.toInt = (z.toNatClampNeg : Int) := by
  have hz0 : (0 : Int) ≤ z.toInt := by
    have := Int32.not_lt.mp hz
    simpa using Int32.le_iff_toInt_le.mp this
  show z.toInt = ((z.toInt.toNat : Nat) : Int)
  omega
theorem kx_ap2 {locs L : List Loc} {a : Nat} (hS : ∀ q ∈ locs, kx_z G ≤ q.base) (ha : kx_z G ≤ a) (hL : ∀ q ∈ L, q.base = a) : ∀ q ∈ locs ++ L, kx_z G ≤ q.base := fun q hq => (List.mem_append.mp hq).elim (hS q) (fun h => by rw [hL q h]; exact ha)
theorem kx_nfw : nativeFrameWords "java/lang/System" "arraycopy" 5 + 11 ≤ 64 := by decide +kernel
def kx_lc (own : String) (idx : Nat) : Prop := Cond.methodLink own idx arraycopyName ∈ lw_all ∧ Cond.native arraycopyName ∈ lw_all ∧ Cond.static arraycopyName ∈ lw_all ∧ Cond.initialized "java/lang/System" ∈ lw_all
theorem kx_copyi {idx a a0 t t0 n0 n1 : Nat} {ty : FieldType} {f g : Nat → Int32} {sp dp n : Int32} (hdg : decode F.2.1 pc = .ok (.invokestatic idx, 3)) (lk : kx_lc F.1 idx) (ho0 : σ a0 = some (t0, .inl (ty, n0, .inl f))) (ho : σ a = some (t, .inl (ty, n1, .inl g))) (ht : t ≠ 0) (hprim : refKind ty = false)
    (h1 : ¬ sp < 0) (h2 : ¬ dp < 0) (h3 : ¬ n < 0) (h4 : sp.toNatClampNeg + n.toNatClampNeg ≤ n0) (h5 : dp.toNatClampNeg + n.toNatClampNeg ≤ n1) (hfit : ∀ i, i < n.toNatClampNeg → fits ty (.int (f (sp.toNatClampNeg + i))) = true) (hd : 2 ≤ B.1) (hw : (rest.map fun v => v.category).sum ≤ 8)
    (kk : kx G F B bc bs (kU σ a (t, .inl (ty, n1, .inl (va_cpy f g sp.toNatClampNeg dp.toNatClampNeg n.toNatClampNeg)))) (pc + 3) ls rest) : kx G F B bc bs σ pc ls (.int n :: .int dp :: .ref a :: .int sp :: .ref a0 :: rest) := by
  intro p e R s m args below meth c H locs cells slots lsA hR hF hH hS hL hc hs
  have hu := hF.2.2.2.2.2.2.2.2.1
  obtain ⟨r1, r2, r3, r4⟩ := id hR
  obtain ⟨l1, l2, l3, l4⟩ := lk
  obtain ⟨c0, hc0, hA0, hB0⟩ := (hH.2.2.1 a0 _ ho0).1
  obtain ⟨c1, hc1, hA1, hB1⟩ := (hH.2.2.1 a _ ho).1
  intro T hT X
  obtain ⟨-, k0, hk0, cm0, hkk0⟩ := arrOfT_moved (kx_al hu) hA0 n0 (fun j => .int (f j))
  obtain ⟨-, k1, hk1, cm1, hkk1⟩ := arrOfT_moved (kx_al hu) hA1 n1 (fun j => .int (g j))
  have hnf := kx_nfw
  obtain ⟨vm', X', step⟩ := X.arraycopy hF.1 hF.2.2.2.2.2.1 (kx_w hu l1) (kx_w hu l2) (kx_w hu l3) (kx_w hu l4) (src := a0) (dst := a) (cs := vp_cell c0 (n0, .inl f)) (cd := vp_cell c1 (n1, .inl g)) (srcPos := sp) (destPos := dp) (n := n) (by rw [hT]; exact hc0) (by rw [hT]; exact hc1)
    (fun _ h => by cases h) (fun _ h => by cases h) (fun h => by cases h) (fun h => by cases h) hk0 hk1 hkk0 hkk1 (by simp [hprim]) h1 h2 h3
    (by rw [kx_nn sp h1, kx_nn n h3]; show ¬ _ > ((arrV c0 n0 (fun j => .int (f j))).slots.size : Int); rw [arrV_size]; omega)
    (by rw [kx_nn dp h2, kx_nn n h3]; show ¬ _ > ((arrV c1 n1 (fun j => .int (g j))).slots.size : Int); rw [arrV_size]; omega)
    (fun vm₁ _ i hi => by
      have e : (vp_cell c0 (n0, .inl f)).slots.getD (sp.toNatClampNeg + i) .null = .int (f (sp.toNatClampNeg + i)) := by
        show (arrV c0 n0 (fun j => .int (f j))).slots.getD _ _ = _
        rw [Array.getD_eq_getD_getElem?, arrV_read _ _ (by omega)]
        rfl
      refine ⟨?_, ?_⟩
      · rw [e]
        exact hfit i hi
      · rw [e]
        exact trivial)
    (g := F0 m pc lsA (.int n :: .int dp :: .ref a :: .int sp :: .ref a0 :: rest)) rfl (by rw [hF.2.2.1]; exact hL.1) (rest := rest) rfl (by rw [hF.2.1]; exact hdg) (by omega) (by show 2 * 0 + _ + _ ≤ _; omega)
  have e1 : copied (vp_cell c0 (n0, .inl f)) (vp_cell c1 (n1, .inl g)) sp dp n = vp_cell c1 (n1, .inl (va_cpy f g sp.toNatClampNeg dp.toNatClampNeg n.toNatClampNeg)) := va_copied (fun z => .int z) c0 c1 f g h4
  rw [e1] at X' step
  have hl : a < H.size := (Array.getElem?_eq_some_iff.mp hc1).1
  generalize hcv : vp_cell c1 (n1, .inl (va_cpy f g sp.toNatClampNeg dp.toNatClampNeg n.toNatClampNeg)) = cv at X' step
  have hheap : ((T.setVm vm').setCell a cv).heap = H.setIfInBounds a cv := by rw [← hT]; rfl
  have oq : ∀ q : Nat, q ≠ a → (H.setIfInBounds a cv)[q]? = H[q]? := fun q hq => by simp [Array.getElem?_setIfInBounds, Ne.symm hq]
  obtain ⟨t9, a1, b1⟩ := kk p e R s m args below meth c (H.setIfInBounds a cv) _ cells slots lsA hR hF (kx_h_set hu.1 hH ho ht ⟨c1, by rw [hcv]; simp [Array.getElem?_setIfInBounds, hl], hA1, hB1⟩ (by simp) oq) (kx_ap2 hS (kx_new_z hH ho ht) (fun q hq => by
      obtain ⟨z, -, hz⟩ := List.mem_map.mp hq
      rw [← hz])) hL hc hs _ hheap X'
  exact ⟨t9, step t9 a1, b1⟩
theorem kx_copyq {idx a a0 t t0 n0 n1 : Nat} {E0 E1 : String} {f g : Nat → Option Nat} {sp dp n : Int32} (hdg : decode F.2.1 pc = .ok (.invokestatic idx, 3)) (lk : kx_lc F.1 idx) (ho0 : σ a0 = some (t0, .inl (.object E0, n0, .inr (.inr (.inr (.inr f)))))) (ho : σ a = some (t, .inl (.object E1, n1, .inr (.inr (.inr (.inr g)))))) (ht : t ≠ 0)
    (h1 : ¬ sp < 0) (h2 : ¬ dp < 0) (h3 : ¬ n < 0) (h4 : sp.toNatClampNeg + n.toNatClampNeg ≤ n0) (h5 : dp.toNatClampNeg + n.toNatClampNeg ≤ n1) (hel : ∀ i, i < n.toNatClampNeg → ∀ y, f (sp.toNatClampNeg + i) = some y → ∃ C, kx_rc σ y C ∧ (C = E1 ∨ Cond.castable C E1 ∈ lw_tbl)) (hd : 2 ≤ B.1) (hw : (rest.map fun v => v.category).sum ≤ 8)
    (kk : kx G F B bc bs (kU σ a (t, .inl (.object E1, n1, .inr (.inr (.inr (.inr (va_cpy f g sp.toNatClampNeg dp.toNatClampNeg n.toNatClampNeg))))))) (pc + 3) ls rest) : kx G F B bc bs σ pc ls (.int n :: .int dp :: .ref a :: .int sp :: .ref a0 :: rest) := by
  intro p e R s m args below meth c H locs cells slots lsA hR hF hH hS hL hc hs
  have hu := hF.2.2.2.2.2.2.2.2.1
  obtain ⟨r1, r2, r3, r4⟩ := id hR
  obtain ⟨l1, l2, l3, l4⟩ := lk
  obtain ⟨c0, hc0, hA0, hB0⟩ := (hH.2.2.1 a0 _ ho0).1
  obtain ⟨c1, hc1, hA1, hB1⟩ := (hH.2.2.1 a _ ho).1
  intro T hT X
  obtain ⟨-, k0, hk0, cm0, hkk0⟩ := arrOfT_moved (kx_al hu) hA0 n0 (fun j => va_rf (f j))
  obtain ⟨-, k1, hk1, cm1, hkk1⟩ := arrOfT_moved (kx_al hu) hA1 n1 (fun j => va_rf (g j))
  have hnf := kx_nfw
  obtain ⟨vm', X', step⟩ := X.arraycopy hF.1 hF.2.2.2.2.2.1 (kx_w hu l1) (kx_w hu l2) (kx_w hu l3) (kx_w hu l4) (src := a0) (dst := a) (cs := vp_cell c0 (n0, .inr (.inr (.inr (.inr f))))) (cd := vp_cell c1 (n1, .inr (.inr (.inr (.inr g))))) (srcPos := sp) (destPos := dp) (n := n) (by rw [hT]; exact hc0) (by rw [hT]; exact hc1)
    (fun _ h => by cases h) (fun _ h => by cases h) (fun h => by cases h) (fun h => by cases h) hk0 hk1 hkk0 hkk1 rfl h1 h2 h3
    (by rw [kx_nn sp h1, kx_nn n h3]; show ¬ _ > ((arrV c0 n0 (fun j => va_rf (f j))).slots.size : Int); rw [arrV_size]; omega)
    (by rw [kx_nn dp h2, kx_nn n h3]; show ¬ _ > ((arrV c1 n1 (fun j => va_rf (g j))).slots.size : Int); rw [arrV_size]; omega)
    (fun vm₁ hal i hi => by
      have e : (vp_cell c0 (n0, .inr (.inr (.inr (.inr f))))).slots.getD (sp.toNatClampNeg + i) .null = va_rf (f (sp.toNatClampNeg + i)) := by
        show (arrV c0 n0 (fun j => va_rf (f j))).slots.getD _ _ = _
        rw [Array.getD_eq_getD_getElem?, arrV_read _ _ (by omega)]
        rfl
      rw [e]
      cases hy : f (sp.toNatClampNeg + i) with
      | none => exact ⟨rfl, trivial⟩
      | some y =>
        obtain ⟨C, hrc, hca⟩ := hel i hi y hy
        obtain ⟨cellV, g1, g2, g3⟩ := kx_recv hu hH hrc
        obtain ⟨kA, comp, r1, r2, r3, -⟩ := va_RA.moved (ty := .object E1) (kx_al hu) hB1
        cases hk1.symm.trans r1
        cases hkk1.symm.trans r2
        obtain ⟨kC, hkC, -⟩ := Vm.findClass_spec g3
        obtain ⟨kE, hkE, -⟩ := Vm.findClass_spec r3
        obtain ⟨kC', hkC', -⟩ := hal.2.2 _ _ hkC
        obtain ⟨kE', hkE', -⟩ := hal.2.2 _ _ hkE
        have hasg : s.vm.assignable cellV.cls cm1 = true := by
          rcases hca with rfl | hca
          · cases r3.symm.trans g3
            exact va_asg _ _
          · obtain ⟨c0, t1, f1, f2, f3⟩ := Cond.castable_spec (va_Nw.use (A := args) rfl (kx_nC hu hca))
            cases g3.symm.trans f1
            cases r3.symm.trans f2
            exact f3
        refine ⟨rfl, cellV, (show T.heap[y]? = some cellV by rw [hT]; exact g1), (fun q h => by rw [h] at g2; cases g2), ⟨kC', hkC'⟩, ?_, ?_⟩
        · exact ⟨kE', hkE'⟩
        · show vm₁.assignable _ _ = true
          rw [hal.assignable]
          exact hasg)
    (g := F0 m pc lsA (.int n :: .int dp :: .ref a :: .int sp :: .ref a0 :: rest)) rfl (by rw [hF.2.2.1]; exact hL.1) (rest := rest) rfl (by rw [hF.2.1]; exact hdg) (by omega) (by show 2 * 0 + _ + _ ≤ _; omega)
  have e1 : copied (vp_cell c0 (n0, .inr (.inr (.inr (.inr f))))) (vp_cell c1 (n1, .inr (.inr (.inr (.inr g))))) sp dp n = vp_cell c1 (n1, .inr (.inr (.inr (.inr (va_cpy f g sp.toNatClampNeg dp.toNatClampNeg n.toNatClampNeg))))) := by
    rw [vp_cell_q, vp_cell_q, vp_cell_q]
    exact va_copied (fun z => va_rf z) c0 c1 f g h4
  rw [e1] at X' step
  have hl : a < H.size := (Array.getElem?_eq_some_iff.mp hc1).1
  generalize hcv : vp_cell c1 (n1, .inr (.inr (.inr (.inr (va_cpy f g sp.toNatClampNeg dp.toNatClampNeg n.toNatClampNeg))))) = cv at X' step
  have hheap : ((T.setVm vm').setCell a cv).heap = H.setIfInBounds a cv := by rw [← hT]; rfl
  have oq : ∀ q : Nat, q ≠ a → (H.setIfInBounds a cv)[q]? = H[q]? := fun q hq => by simp [Array.getElem?_setIfInBounds, Ne.symm hq]
  obtain ⟨t9, a1, b1⟩ := kk p e R s m args below meth c (H.setIfInBounds a cv) _ cells slots lsA hR hF (kx_h_set hu.1 hH ho ht ⟨c1, by rw [hcv]; simp [Array.getElem?_setIfInBounds, hl], hA1, hB1⟩ (by simp) oq) (kx_ap2 hS (kx_new_z hH ho ht) (fun q hq => by
      obtain ⟨z, -, hz⟩ := List.mem_map.mp hq
      rw [← hz])) hL hc hs _ hheap X'
  exact ⟨t9, step t9 a1, b1⟩
end KXM
section KXN
variable {G : KG} {F : KF} {B : KB} {bc bs : Nat} {σ : KHp} {pc : Nat} {ls : Nat → Option Value} {rest st : List Value}
def kx_lIN (own : String) (idx : Nat) (y : MethodName) (b : ByteArray) (L : Nat) (n : Nat) : Prop := kx_ok y n ∧ y.name = "<init>" ∧ (∃ h, Cond.methodLinkNest own idx y h ∈ lw_tbl) ∧ Cond.instanceMethod y ∈ lw_all ∧ Cond.initialized y.cls ∈ lw_all ∧ Cond.code y b L none ∈ lw_all
/-- a private method of the class above: x of owner, called on an object of class C -/
def kx_lP (own : String) (idx : Nat) (C : String) (x : MethodName) (b : ByteArray) (L : Nat) (r : Option FieldType) (n : Nat) : Prop := kx_ok x n ∧ Cond.methodLink own idx x ∈ lw_all ∧ Cond.sameMethod x.cls x.cls x.name x.desc ∈ lw_all ∧ (∃ k, Cond.instantiable C k ∈ lw_all) ∧ (Cond.privateMethod x ∈ lw_tbl) ∧ Cond.instanceMethod x ∈ lw_all ∧ Cond.initialized x.cls ∈ lw_all ∧ Cond.code x b L r ∈ lw_all
theorem kx_selP {C : String} {y : MethodName} {s : State} {args : Array Value} {n : Nat} (hy : y.cls ≠ "java/lang/invoke/MethodHandle" ∧ y.cls ≠ "java/lang/invoke/VarHandle")
    (hins : (Cond.instantiable C n).before args s = true) (hpriv : (Cond.privateMethod y).before args s = true) (hinst : (Cond.instanceMethod y).before args s = true) (hsm : (Cond.sameMethod y.cls y.cls y.name y.desc).before args s = true) :
    (Cond.selects C y y).before args s = true := by
  obtain ⟨c, k, hc, hk, -, hniab, -, -⟩ := Cond.instantiable_spec hins
  obtain ⟨cn, ck, r1, hcn, hck, hni, hf, hn1⟩ := Cond.sameMethod_found hsm
  obtain ⟨mk, methM, hnamed, hmethM, -, -⟩ := Cond.instanceMethod_spec hinst
  have hfound : s.methodFound? y.cls y.name y.desc = some mk := State.methodFound?_of_named hnamed hy
  have hcls : mk.cls = cn := Option.some.inj ((findClass_of_methodNamed hnamed).symm.trans hcn)
  have hsel : selectMethod {} s.vm c mk = .method mk := selectMethod_private hmethM (Cond.privateMethod_at hpriv mk methM hnamed hmethM)
  simp only [Cond.before, Cond.holds, Cond.value, hc, hfound, hnamed, hsel, hcls, hck]
  simp; exact hni
section CALL
variable {y x : MethodName} {b : ByteArray} {L n d mc ms idx a : Nat} {r : Option FieldType} {hh : List (Nat × Nat × Nat × Nat)} {As : List Value} {Q : KQ} {X : KX} {C owner : String}
theorem kx_callIN (hdg : decode F.2.1 pc = .ok (.invokespecial idx, 3)) (lk : kx_lIN F.1 idx y b L n) (hC : kx_c G y (ws_ y b L none) d mc ms (.ref a :: As) σ Q X) (hn : As.length = n) (hst : st = As.reverse ++ .ref a :: rest)
    (hw : (rest.map fun v => v.category).sum ≤ 8) (hL9 : L ≤ 45) (hd : d + 1 ≤ B.1) (hmc : mc ≤ bc) (hms : ms ≤ bs)
    (k9 : ∀ E q σ', X E q σ' → kx_t G F B (bc - mc) (bs - ms) σ' pc ls E q) (kk : ∀ v σ', Q v σ' → kx G F B (bc - mc) (bs - ms) σ' (pc + 3) ls (v.toList ++ rest)) : kx G F B bc bs σ pc ls st := by
  intro p e R s m args below meth c H locs cells slots lsA hR hF hH hS hL hc hs
  have hu := hF.2.2.2.2.2.2.2.2.1
  obtain ⟨h0, h6, ⟨h, h1⟩, h2, h3, h4⟩ := lk
  exact kx_run (vx_runIN (S := ⟨hF.1, hF.2.1, hF.2.2.1, hF.2.2.2.2.2.1, kx_ws hu⟩) hC ⟨va_cnB n (kx_ws hu) (lw_meth h4) rfl rfl rfl (kx_nM hu h1) (kx_w hu h3) h0 (kx_room hR hL9 hd), h6, kx_w hu h2⟩ ⟨kx_blind, kx_pre hu hH⟩ rfl hn hL.1 hst (by simpa using hw) hdg (kx_fit hR hc hs hmc hms)) hR hF hS hL hc hs hmc hms k9 kk
theorem kx_callP (hdg : decode F.2.1 pc = .ok (.invokevirtual idx, 3)) (lk : kx_lP F.1 idx C x b L r n) (hC : kx_c G x (ws_ x b L r) d mc ms (.ref a :: As) σ Q X) (hn : As.length = n) (hrc : kx_rc σ a C) (hst : st = As.reverse ++ .ref a :: rest)
    (hw : (rest.map fun v => v.category).sum ≤ 8) (hL9 : L ≤ 45) (hd : d + 1 ≤ B.1) (hmc : mc ≤ bc) (hms : ms ≤ bs)
    (k9 : ∀ E q σ', X E q σ' → kx_t G F B (bc - mc) (bs - ms) σ' pc ls E q) (kk : ∀ v σ', Q v σ' → kx G F B (bc - mc) (bs - ms) σ' (pc + 3) ls (v.toList ++ rest)) : kx G F B bc bs σ pc ls st := by
  intro p e R s m args below meth c H locs cells slots lsA hR hF hH hS hL hc hs
  have hu := hF.2.2.2.2.2.2.2.2.1
  obtain ⟨h0, h1, h2, ⟨k, h3⟩, h4, h5, h6, h7⟩ := lk
  have hsel : (Cond.selects C x x).before args s = true := by
    obtain ⟨⟨-, ⟨A0, g1⟩, -⟩, g2⟩ := hu
    exact word_at g2 (good_of_word rfl) (kx_selP ⟨h0.1, h0.2.1⟩ (g1 _ (lw_all_tbl h3)) (g1 _ h4) (g1 _ (lw_all_tbl h5)) (g1 _ (lw_all_tbl h2)))
  have hT : GoodIn (Cond.selects C x x :: lw_all) (va_wsU F.1 idx C x.cls x x (ws_ x b L r)) := by
    intro w hw
    rcases List.mem_append.mp hw with hw | hw
    · simp only [List.mem_cons, List.not_mem_nil, or_false] at hw
      rcases hw with e | e | e | e | e
      · rw [e]; exact ⟨List.mem_cons_of_mem _ h1, (lw_self _ h1).2⟩
      · rw [e]; exact ⟨List.mem_cons_of_mem _ h2, (lw_self _ h2).2⟩
      · rw [e]; exact ⟨List.mem_cons_self, good_of_word rfl⟩
      · rw [e]; exact ⟨List.mem_cons_of_mem _ h5, (lw_self _ h5).2⟩
      · rw [e]; exact ⟨List.mem_cons_of_mem _ h6, (lw_self _ h6).2⟩
    · exact ⟨List.mem_cons_of_mem _ (lw_meth h7 w hw).1, (lw_meth h7 w hw).2⟩
  have hts : ∀ w ∈ Cond.selects C x x :: lw_all, w.before args s = true := fun w hw => (List.mem_cons.mp hw).elim (fun e => by rw [e]; exact hsel) (fun e => kx_w hu e)
  exact kx_run (vx_runU (S := ⟨hF.1, hF.2.1, hF.2.2.1, hF.2.2.2.2.2.1, hts⟩) hC (va_cwU n hts hT rfl rfl rfl rfl h0 (kx_room hR hL9 hd)) ⟨kx_blind, kx_recv hu hH hrc, kx_pre hu hH⟩ rfl hn hL.1 hst (by simpa using hw) hdg (kx_fit hR hc hs hmc hms)) hR hF hS hL hc hs hmc hms k9 kk
end CALL
/-- getClass of an array -/
theorem kx_getCA {idx a t i : Nat} {ty : FieldType} {x : vp_A} {C : String} (hdg : decode F.2.1 pc = .ok (.invokevirtual idx, 3)) (ho : σ a = some (t, .inl (ty, x))) (hnm : "[" ++ ty.toString = C) (q : (C, i) ∈ kx_mir)
    (q1 : Cond.methodLink F.1 idx ⟨"java/lang/Object", "getClass", "()Ljava/lang/Class;"⟩ ∈ lw_all) (q2 : Cond.declares ⟨"java/lang/Object", "getClass", "()Ljava/lang/Class;"⟩ ∈ lw_tbl) (q3 : Cond.selects C ⟨"java/lang/Object", "getClass", "()Ljava/lang/Class;"⟩ ⟨"java/lang/Object", "getClass", "()Ljava/lang/Class;"⟩ ∈ lw_all)
    (q4 : Cond.instanceMethod ⟨"java/lang/Object", "getClass", "()Ljava/lang/Class;"⟩ ∈ lw_all) (q5 : Cond.native ⟨"java/lang/Object", "getClass", "()Ljava/lang/Class;"⟩ ∈ lw_all) (hd : 2 ≤ B.1) (hw : (rest.map fun v => v.category).sum ≤ 8)
    (kk : kx G F B bc bs σ (pc + 3) ls (.ref (kx_K G i) :: rest)) : kx G F B bc bs σ pc ls (.ref a :: rest) := by
  intro p e R s m args below meth c H locs cells slots lsA hR hF hH hS hL hc hs
  have hu := hF.2.2.2.2.2.2.2.2.1
  obtain ⟨r1, r2, r3, r4⟩ := id hR
  obtain ⟨cA, h1, h2, h3⟩ := (hH.2.2.1 a _ ho).1
  have h4 : s.vm.findClass C = some cA := by
    subst hnm
    have h5 := va_RA.moved (kx_al hu) h3
    cases ty with
    | object C => exact h5.choose_spec.choose_spec.2.2.2
    | _ => exact h5
  refine va_getC hF.1 hF.2.1 (hF.2.2.1.trans hL.1.symm) hF.2.2.2.2.2.1 (kx_w hu q1) (va_Nw.use rfl (kx_nD hu q2)) (kx_w hu q3) (kx_w hu q4) (kx_w hu q5) (va_Mi.moved (kx_al hu) (hu.1.2.2.2.2.2.2.2.2.2.2.1 _ q)) ⟨_, h1, ?_, ?_⟩ (by omega) (by omega) hdg (kk p e R s m args below meth c H locs cells slots lsA hR hF hH hS hL hc hs)
  · obtain ⟨n, f | f | f | f | f⟩ := x <;> rfl
  · rw [h4]
    obtain ⟨n, f | f | f | f | f⟩ := x <;> rfl
/-- a contract out of a frame's body, by the frame's own name -/
theorem kx_mk2 {y : MethodName} {cc : ByteArray} {nL : Nat} {ret : Option FieldType} {ini : Bool} {d mc ms : Nat} {As : List Value} {Q : KQ} {X : KX} (hy : plainName y.cls = true) (hn : (lg_sl As).length ≤ nL) (hi : ini = true → y.name = "<init>")
    (body : kx G (y.cls, cc, nL, ret, ini, []) (d, mc, ms, Q, X) mc ms σ 0 (kx_a As) []) : kx_c G y (ws_ y cc nL ret) d mc ms As σ Q X := by
  refine kx_mk hy hn fun p e R s m args below meth c H locs cells slots lsA hR hF => ?_
  obtain ⟨a1, a2, a3, a4, a5, a6, a7, a8⟩ := hF
  exact body p e R s m args below meth c H locs cells slots lsA hR ⟨a1, a2, a3, a4, a5, a6, fun h => a7 (decide_eq_true (hi h)), a8⟩
theorem kx_mk2W {y : MethodName} {cc : ByteArray} {nL : Nat} {ret : Option FieldType} {ini : Bool} {hh : List (Nat × Nat × Nat × Nat)} {d mc ms : Nat} {As : List Value} {Q : KQ} {X : KX} (hy : plainName y.cls = true) (hn : (lg_sl As).length ≤ nL) (hi : ini = true → y.name = "<init>")
    (body : kx G (y.cls, cc, nL, ret, ini, hh) (d, mc, ms, Q, X) mc ms σ 0 (kx_a As) []) : kx_c G y (wsW_ y cc nL ret hh) d mc ms As σ Q X := by
  refine kx_mkW hy hn fun p e R s m args below meth c H locs cells slots lsA hR hF => ?_
  obtain ⟨a1, a2, a3, a4, a5, a6, a7, a8⟩ := hF
  exact body p e R s m args below meth c H locs cells slots lsA hR ⟨a1, a2, a3, a4, a5, a6, fun h => a7 (decide_eq_true (hi h)), a8⟩
/-- what a contract says may be weakened -/
theorem kx_c_mono {y : MethodName} {ws : List Cond} {d mc ms : Nat} {As : List Value} {Q Q' : KQ} {X X' : KX} (h : kx_c G y ws d mc ms As σ Q X) (hQ : ∀ v σ', Q v σ' → Q' v σ') (hX : ∀ E q σ', X E q σ' → X' E q σ') : kx_c G y ws d mc ms As σ Q' X' := by
  intro p e ha hc hk s m args below hf happ hP hK
  obtain ⟨n, o, h1, h2, h3, h4⟩ := h p e ha hc hk s m args below hf happ hP hK
  refine ⟨n, o, h1, h2, h3, ?_⟩
  rcases h4 with ⟨⟨v, σ', e1, e2, e3⟩, h5⟩ | ⟨q, e1, E, ce, L, ⟨σ', e2, e3⟩, h5⟩
  · exact Or.inl ⟨⟨v, σ', e1, e2, hQ _ _ e3⟩, h5⟩
  · exact Or.inr ⟨q, e1, E, ce, L, ⟨σ', e2, hX _ _ _ e3⟩, h5⟩
theorem kx_iinc2 {i : Nat} {n : Int} {x v : Int32} (hdg : decode F.2.1 pc = .ok (.iinc i n, 3)) (hl : ls i = some (.int x)) (hv : Int32.ofInt n = v) (kk : kx G F B bc bs σ (pc + 3) (kL ls i (.int (x + v))) rest) : kx G F B bc bs σ pc ls rest := by
  subst hv
  exact kx_iinc hdg hl kk
end KXN
