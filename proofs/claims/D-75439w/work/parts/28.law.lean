set_option maxRecDepth 100000
/-! a call of the reference's: its heap lies over any other -/
def wMI (σ : KHp) (a : Nat) (P : TS → Option (TS × Int32)) (f : Int32 → KHp → Prop) : Prop := ∃ (τ : KHp) (ad : Nat → Nat) (s : TS) (z : TS × Int32), σ = MP τ a ad s ∧ Md a ad ∧ P s = some z ∧ f z.2 (MP τ a ad z.1)
def wMF (σ : KHp) (a : Nat) (P : TS → Option (TS × UInt32)) (f : UInt32 → KHp → Prop) : Prop := ∃ (τ : KHp) (ad : Nat → Nat) (s : TS) (z : TS × UInt32), σ = MP τ a ad s ∧ Md a ad ∧ P s = some z ∧ f z.2 (MP τ a ad z.1)
def wMV (σ : KHp) (a : Nat) (P : TS → Option TS) (f : KHp → Prop) : Prop := ∃ (τ : KHp) (ad : Nat → Nat) (s : TS) (z : TS), σ = MP τ a ad s ∧ Md a ad ∧ P s = some z ∧ f (MP τ a ad z)
section KWM
variable {G : KG} {F : KF} {B : KB} {bc bs pc : Nat} {σ : KHp} {ls : Nat → Option Value} {rest st : List Value} {idx a : Nat} {n : String} {ds : String} {b : ByteArray} {L k d : Nat} {r : Option FieldType} {As : List Value}
theorem kW_MI {P : TS → Option (TS × Int32)} {f : Int32 → KHp → Prop} (hdg : decode F.2.1 pc = .ok (.invokevirtual idx, 3)) (lk : kx_lV F.1 idx ⟨"ArcRecorderModel", n, ds⟩ b L r k) (hC : ∀ {τ : KHp} {ad : Nat → Nat} {s : TS} {z : TS × Int32}, Md a ad → P s = some z → kx_c G ⟨"ArcRecorderModel", n, ds⟩ (ws_ ⟨"ArcRecorderModel", n, ds⟩ b L r) d 0 0 (.ref a :: As) (MP τ a ad s) (fun rv σ' => rv = some (.int z.2) ∧ σ' = MP τ a ad z.1) kx_n)
    (hn : As.length = k) (hst : st = As.reverse ++ .ref a :: rest) (hw : (rest.map fun v => v.category).sum ≤ 8) (hL9 : L ≤ 45) (hd : d + 1 ≤ B.1) (h : wMI σ a P f) (kk : ∀ v σ', f v σ' → kx G F B bc bs σ' (pc + 3) ls (.int v :: rest)) : kx G F B bc bs σ pc ls st := by
  obtain ⟨τ, ad, s, z, rfl, h1, h2, h3⟩ := h
  refine kx_callV hdg lk (hC h1 h2) hn kN_rc hst hw hL9 hd (Nat.zero_le _) (Nat.zero_le _) (fun _ _ _ h => h.elim) (fun v σ' hq => ?_)
  obtain ⟨rfl, rfl⟩ := hq
  exact kk _ _ h3
theorem kW_MF {P : TS → Option (TS × UInt32)} {f : UInt32 → KHp → Prop} (hdg : decode F.2.1 pc = .ok (.invokevirtual idx, 3)) (lk : kx_lV F.1 idx ⟨"ArcRecorderModel", n, ds⟩ b L r k) (hC : ∀ {τ : KHp} {ad : Nat → Nat} {s : TS} {z : TS × UInt32}, Md a ad → P s = some z → kx_c G ⟨"ArcRecorderModel", n, ds⟩ (ws_ ⟨"ArcRecorderModel", n, ds⟩ b L r) d 0 0 (.ref a :: As) (MP τ a ad s) (fun rv σ' => rv = some (.float z.2) ∧ σ' = MP τ a ad z.1) kx_n)
    (hn : As.length = k) (hst : st = As.reverse ++ .ref a :: rest) (hw : (rest.map fun v => v.category).sum ≤ 8) (hL9 : L ≤ 45) (hd : d + 1 ≤ B.1) (h : wMF σ a P f) (kk : ∀ v σ', f v σ' → kx G F B bc bs σ' (pc + 3) ls (.float v :: rest)) : kx G F B bc bs σ pc ls st := by
  obtain ⟨τ, ad, s, z, rfl, h1, h2, h3⟩ := h
  refine kx_callV hdg lk (hC h1 h2) hn kN_rc hst hw hL9 hd (Nat.zero_le _) (Nat.zero_le _) (fun _ _ _ h => h.elim) (fun v σ' hq => ?_)
  obtain ⟨rfl, rfl⟩ := hq
  exact kk _ _ h3
theorem kW_MV {P : TS → Option TS} {f : KHp → Prop} (hdg : decode F.2.1 pc = .ok (.invokevirtual idx, 3)) (lk : kx_lV F.1 idx ⟨"ArcRecorderModel", n, ds⟩ b L r k) (hC : ∀ {τ : KHp} {ad : Nat → Nat} {s : TS} {z : TS}, Md a ad → P s = some z → kx_c G ⟨"ArcRecorderModel", n, ds⟩ (ws_ ⟨"ArcRecorderModel", n, ds⟩ b L r) d 0 0 (.ref a :: As) (MP τ a ad s) (fun rv σ' => rv = none ∧ σ' = MP τ a ad z) kx_n)
    (hn : As.length = k) (hst : st = As.reverse ++ .ref a :: rest) (hw : (rest.map fun v => v.category).sum ≤ 8) (hL9 : L ≤ 45) (hd : d + 1 ≤ B.1) (h : wMV σ a P f) (kk : ∀ σ', f σ' → kx G F B bc bs σ' (pc + 3) ls rest) : kx G F B bc bs σ pc ls st := by
  obtain ⟨τ, ad, s, z, rfl, h1, h2, h3⟩ := h
  refine kx_callV hdg lk (hC h1 h2) hn kN_rc hst hw hL9 hd (Nat.zero_le _) (Nat.zero_le _) (fun _ _ _ h => h.elim) (fun v σ' hq => ?_)
  obtain ⟨rfl, rfl⟩ := hq
  exact kk _ h3
end KWM
def W_X6_init (G : KG) (bc bs : Nat) (σ : KHp) (x0 : Nat) (Q : KHp → Prop) (X : String → Nat → KHp → Prop) : Prop :=
  wNA bc bs σ .int (.inl (fun _ => 0)) (1465 : Int32) (fun n3 q1 σ2 =>
 wP σ2 x0 [4] 1 (.ref (q1)) (fun σ4 =>
 wNA (bc - 1) (bs - n3) σ4 .int (.inl (fun _ => 0)) (1465 : Int32) (fun n7 q5 σ6 =>
 wP σ6 x0 [4] 2 (.ref (q5)) (fun σ8 =>
 wGO σ8 x0 [4] 1 (fun v9 =>
 wP σ8 x0 [4] 3 (va_rf (v9)) (fun σ10 =>
 wNA (bc - 1 - 1) (bs - n3 - n7) σ10 .float (.inr (.inr (.inl (fun _ => 0)))) (160 : Int32) (fun n13 q11 σ12 =>
 wP σ12 x0 [4] 4 (.ref (q11)) (fun σ14 =>
 wNA (bc - 1 - 1 - 1) (bs - n3 - n7 - n13) σ14 .byte (.inl (fun _ => 0)) (1000 : Int32) (fun n17 q15 σ16 =>
 wP σ16 x0 [4] 5 (.ref (q15)) (fun σ18 =>
 wP σ18 x0 [4] 13 (.int ((-1 : Int32))) (fun σ19 =>
 wNA (bc - 1 - 1 - 1 - 1) (bs - n3 - n7 - n13 - n17) σ19 .boolean (.inl (fun _ => 0)) (12 : Int32) (fun n22 q20 σ21 =>
 wP σ21 x0 [4] 15 (.ref (q20)) (fun σ23 =>
 wNA (bc - 1 - 1 - 1 - 1 - 1) (bs - n3 - n7 - n13 - n17 - n22) σ23 .int (.inl (fun _ => 0)) (12 : Int32) (fun n26 q24 σ25 =>
 wP σ25 x0 [4] 16 (.ref (q24)) (fun σ27 =>
 wNA (bc - 1 - 1 - 1 - 1 - 1 - 1) (bs - n3 - n7 - n13 - n17 - n22 - n26) σ27 .float (.inr (.inr (.inl (fun _ => 0)))) (12 : Int32) (fun n30 q28 σ29 =>
 wP σ29 x0 [4] 17 (.ref (q28)) (fun σ31 =>
 wNA (bc - 1 - 1 - 1 - 1 - 1 - 1 - 1) (bs - n3 - n7 - n13 - n17 - n22 - n26 - n30) σ31 .float (.inr (.inr (.inl (fun _ => 0)))) (6 : Int32) (fun n34 q32 σ33 =>
 wP σ33 x0 [4] 18 (.ref (q32)) (fun σ35 =>
 wNA (bc - 1 - 1 - 1 - 1 - 1 - 1 - 1 - 1) (bs - n3 - n7 - n13 - n17 - n22 - n26 - n30 - n34) σ35 .int (.inl (fun _ => 0)) (1465 : Int32) (fun n38 q36 σ37 =>
 wP σ37 x0 [4] 19 (.ref (q36)) (fun σ39 =>
 wNA (bc - 1 - 1 - 1 - 1 - 1 - 1 - 1 - 1 - 1) (bs - n3 - n7 - n13 - n17 - n22 - n26 - n30 - n34 - n38) σ39 .float (.inr (.inr (.inl (fun _ => 0)))) (160 : Int32) (fun n42 q40 σ41 =>
 wP σ41 x0 [4] 20 (.ref (q40)) (fun σ43 =>
 wNA (bc - 1 - 1 - 1 - 1 - 1 - 1 - 1 - 1 - 1 - 1) (bs - n3 - n7 - n13 - n17 - n22 - n26 - n30 - n34 - n38 - n42) σ43 .int (.inl (fun _ => 0)) (8790 : Int32) (fun n46 q44 σ45 =>
 wP σ45 x0 [4] 21 (.ref (q44)) (fun σ47 =>
 wNA (bc - 1 - 1 - 1 - 1 - 1 - 1 - 1 - 1 - 1 - 1 - 1) (bs - n3 - n7 - n13 - n17 - n22 - n26 - n30 - n34 - n38 - n42 - n46) σ47 .float (.inr (.inr (.inl (fun _ => 0)))) (960 : Int32) (fun n50 q48 σ49 =>
 wP σ49 x0 [4] 22 (.ref (q48)) (fun σ51 =>
 wNA (bc - 1 - 1 - 1 - 1 - 1 - 1 - 1 - 1 - 1 - 1 - 1 - 1) (bs - n3 - n7 - n13 - n17 - n22 - n26 - n30 - n34 - n38 - n42 - n46 - n50) σ51 .byte (.inl (fun _ => 0)) (600 : Int32) (fun n54 q52 σ53 =>
 wP σ53 x0 [4] 24 (.ref (q52)) (fun σ55 =>
 wGO σ55 x0 [4] 1 (fun v56 =>
 wU v56 (fun a57 =>
 wSI σ55 a57 (0 : Int32) ((8 : Int32)) (fun σ58 =>
 wGO σ58 x0 [4] 1 (fun v59 =>
 wU v59 (fun a60 =>
 wSI σ58 a60 (1 : Int32) ((1 : Int32)) (fun σ61 =>
 wGO σ61 x0 [4] 1 (fun v62 =>
 wU v62 (fun a63 =>
 wSI σ61 a63 (2 : Int32) ((1 : Int32)) (fun σ64 =>
 Q σ64))))))))))))))))))))))))))))))))))))))
set_option maxHeartbeats 8000000 in
theorem kw_X6_init {G : KG} {bc bs : Nat} {σ : KHp} {x0 : Nat} {Q : KHp → Prop} {X : String → Nat → KHp → Prop} (h : W_X6_init G bc bs σ x0 Q X) : kx_c G yX6_init (ws_ yX6_init cX6_init 1 (Option.none : Option Jvm.ClassFile.FieldType)) 1 bc bs [.ref (x0)] σ (fun rv σ' => rv = none ∧ Q σ') X := by
  refine kx_mk3 (ini := true) rfl (Nat.le_of_ble_eq_true rfl) (fun _ => rfl) (fun Q1 X1 hQ hX => ?_)
  unfold W_X6_init at h
  refine kx_aload_n dX6_init_0 rfl rfl ?_
  refine kx_oinit dX6_init_1 q2748 q206 q207 (Nat.le_of_ble_eq_true rfl) (Nat.le_of_ble_eq_true rfl) ?_
  refine kx_aload_n dX6_init_4 rfl rfl ?_
  refine kx_sipush (v := 1465) dX6_init_5 (by decide) ?_
  refine kW_newa dX6_init_8 rfl q617 (fun _ _ => rfl) h (fun n3 q1 σ2 h => ?_)
  refine kW_p dX6_init_10 (kp1 ⟨_, _, _, _, kc_X6, fl_X6_17_X6, Or.inr ⟨rfl, rfl, q2750⟩, rfl, rfl⟩) h (fun σ4 h => ?_)
  refine kx_aload_n dX6_init_13 rfl rfl ?_
  refine kx_sipush (v := 1465) dX6_init_14 (by decide) ?_
  refine kW_newa dX6_init_17 rfl q617 (fun _ _ => rfl) h (fun n7 q5 σ6 h => ?_)
  refine kW_p dX6_init_19 (kp1 ⟨_, _, _, _, kc_X6, fl_X6_21_X6, Or.inr ⟨rfl, rfl, q2751⟩, rfl, rfl⟩) h (fun σ8 h => ?_)
  refine kx_aload_n dX6_init_22 rfl rfl ?_
  refine kx_aload_n dX6_init_23 rfl rfl ?_
  refine kW_gO dX6_init_24 (kf1 fl_X6_17_X6) h (fun v9 h => ?_)
  refine kW_p dX6_init_27 (kp1 ⟨_, _, _, _, kc_X6, fl_X6_24_X6, Or.inl rfl, (by cases v9 <;> rfl), (by cases v9 <;> rfl)⟩) h (fun σ10 h => ?_)
  refine kx_aload_n dX6_init_30 rfl rfl ?_
  refine kx_sipush (v := 160) dX6_init_31 (by decide) ?_
  refine kW_newa dX6_init_34 rfl q309 (fun _ _ => rfl) h (fun n13 q11 σ12 h => ?_)
  refine kW_p dX6_init_36 (kp1 ⟨_, _, _, _, kc_X6, fl_X6_27_X6, Or.inr ⟨rfl, rfl, q2753⟩, rfl, rfl⟩) h (fun σ14 h => ?_)
  refine kx_aload_n dX6_init_39 rfl rfl ?_
  refine kx_sipush (v := 1000) dX6_init_40 (by decide) ?_
  refine kW_newa dX6_init_43 rfl q310 (fun _ _ => rfl) h (fun n17 q15 σ16 h => ?_)
  refine kW_p dX6_init_45 (kp1 ⟨_, _, _, _, kc_X6, fl_X6_31_X6, Or.inr ⟨rfl, rfl, q2754⟩, rfl, rfl⟩) h (fun σ18 h => ?_)
  refine kx_aload_n dX6_init_48 rfl rfl ?_
  refine kx_iconst (v := -1) dX6_init_49 (by decide) ?_
  refine kW_p dX6_init_50 (kp1 ⟨_, _, _, _, kc_X6, fl_X6_35_X6, Or.inl rfl, rfl, rfl⟩) h (fun σ19 h => ?_)
  refine kx_aload_n dX6_init_53 rfl rfl ?_
  refine kx_bipush (v := 12) dX6_init_54 (by decide) ?_
  refine kW_newa dX6_init_56 rfl q744 (fun _ _ => rfl) h (fun n22 q20 σ21 h => ?_)
  refine kW_p dX6_init_58 (kp1 ⟨_, _, _, _, kc_X6, fl_X6_38_X6, Or.inr ⟨rfl, rfl, q2764⟩, rfl, rfl⟩) h (fun σ23 h => ?_)
  refine kx_aload_n dX6_init_61 rfl rfl ?_
  refine kx_bipush (v := 12) dX6_init_62 (by decide) ?_
  refine kW_newa dX6_init_64 rfl q617 (fun _ _ => rfl) h (fun n26 q24 σ25 h => ?_)
  refine kW_p dX6_init_66 (kp1 ⟨_, _, _, _, kc_X6, fl_X6_42_X6, Or.inr ⟨rfl, rfl, q2765⟩, rfl, rfl⟩) h (fun σ27 h => ?_)
  refine kx_aload_n dX6_init_69 rfl rfl ?_
  refine kx_bipush (v := 12) dX6_init_70 (by decide) ?_
  refine kW_newa dX6_init_72 rfl q309 (fun _ _ => rfl) h (fun n30 q28 σ29 h => ?_)
  refine kW_p dX6_init_74 (kp1 ⟨_, _, _, _, kc_X6, fl_X6_45_X6, Or.inr ⟨rfl, rfl, q2766⟩, rfl, rfl⟩) h (fun σ31 h => ?_)
  refine kx_aload_n dX6_init_77 rfl rfl ?_
  refine kx_bipush (v := 6) dX6_init_78 (by decide) ?_
  refine kW_newa dX6_init_80 rfl q309 (fun _ _ => rfl) h (fun n34 q32 σ33 h => ?_)
  refine kW_p dX6_init_82 (kp1 ⟨_, _, _, _, kc_X6, fl_X6_48_X6, Or.inr ⟨rfl, rfl, q2767⟩, rfl, rfl⟩) h (fun σ35 h => ?_)
  refine kx_aload_n dX6_init_85 rfl rfl ?_
  refine kx_sipush (v := 1465) dX6_init_86 (by decide) ?_
  refine kW_newa dX6_init_89 rfl q617 (fun _ _ => rfl) h (fun n38 q36 σ37 h => ?_)
  refine kW_p dX6_init_91 (kp1 ⟨_, _, _, _, kc_X6, fl_X6_51_X6, Or.inr ⟨rfl, rfl, q2768⟩, rfl, rfl⟩) h (fun σ39 h => ?_)
  refine kx_aload_n dX6_init_94 rfl rfl ?_
  refine kx_sipush (v := 160) dX6_init_95 (by decide) ?_
  refine kW_newa dX6_init_98 rfl q309 (fun _ _ => rfl) h (fun n42 q40 σ41 h => ?_)
  refine kW_p dX6_init_100 (kp1 ⟨_, _, _, _, kc_X6, fl_X6_54_X6, Or.inr ⟨rfl, rfl, q2769⟩, rfl, rfl⟩) h (fun σ43 h => ?_)
  refine kx_aload_n dX6_init_103 rfl rfl ?_
  refine kx_sipush (v := 8790) dX6_init_104 (by decide) ?_
  refine kW_newa dX6_init_107 rfl q617 (fun _ _ => rfl) h (fun n46 q44 σ45 h => ?_)
  refine kW_p dX6_init_109 (kp1 ⟨_, _, _, _, kc_X6, fl_X6_57_X6, Or.inr ⟨rfl, rfl, q2770⟩, rfl, rfl⟩) h (fun σ47 h => ?_)
  refine kx_aload_n dX6_init_112 rfl rfl ?_
  refine kx_sipush (v := 960) dX6_init_113 (by decide) ?_
  refine kW_newa dX6_init_116 rfl q309 (fun _ _ => rfl) h (fun n50 q48 σ49 h => ?_)
  refine kW_p dX6_init_118 (kp1 ⟨_, _, _, _, kc_X6, fl_X6_60_X6, Or.inr ⟨rfl, rfl, q2771⟩, rfl, rfl⟩) h (fun σ51 h => ?_)
  refine kx_aload_n dX6_init_121 rfl rfl ?_
  refine kx_sipush (v := 600) dX6_init_122 (by decide) ?_
  refine kW_newa dX6_init_125 rfl q310 (fun _ _ => rfl) h (fun n54 q52 σ53 h => ?_)
  refine kW_p dX6_init_127 (kp1 ⟨_, _, _, _, kc_X6, fl_X6_63_X6, Or.inr ⟨rfl, rfl, q2773⟩, rfl, rfl⟩) h (fun σ55 h => ?_)
  refine kx_aload_n dX6_init_130 rfl rfl ?_
  refine kW_gO dX6_init_131 (kf1 fl_X6_17_X6) h (fun v56 h => ?_)
  refine kx_iconst (v := 0) dX6_init_134 (by decide) ?_
  refine kx_bipush (v := 8) dX6_init_135 (by decide) ?_
  obtain ⟨a57, rfl, hUa57⟩ := h
  have h := hUa57
  refine kW_sI dX6_init_137 h (fun σ58 h => ?_)
  refine kx_aload_n dX6_init_138 rfl rfl ?_
  refine kW_gO dX6_init_139 (kf1 fl_X6_17_X6) h (fun v59 h => ?_)
  refine kx_iconst (v := 1) dX6_init_142 (by decide) ?_
  refine kx_iconst (v := 1) dX6_init_143 (by decide) ?_
  obtain ⟨a60, rfl, hUa60⟩ := h
  have h := hUa60
  refine kW_sI dX6_init_144 h (fun σ61 h => ?_)
  refine kx_aload_n dX6_init_145 rfl rfl ?_
  refine kW_gO dX6_init_146 (kf1 fl_X6_17_X6) h (fun v62 h => ?_)
  refine kx_iconst (v := 2) dX6_init_149 (by decide) ?_
  refine kx_iconst (v := 1) dX6_init_150 (by decide) ?_
  obtain ⟨a63, rfl, hUa63⟩ := h
  have h := hUa63
  refine kW_sI dX6_init_151 h (fun σ64 h => ?_)
  exact kx_vret dX6_init_152 rfl (hQ _ _ ⟨rfl, h⟩)
def WB_L_law_28 (G : KG) (Q : Int32 → KHp → Prop) (X : String → Nat → KHp → Prop)  (y0 : Option Nat)  (y1 : Nat)  (y2 : Nat)  (y3 : Nat)  (y4 : Nat) (kI28 : KHp → Nat → Nat → Int32 → Prop) (σ : KHp) (bc28 bs28 : Nat) (l5 : Int32) : Prop :=
  wU y0 (fun a29001 =>
 wLen σ a29001 (fun v29002 =>
 wIf ((v29002 - (7 : Int32)) < l5)
 (Q ((1 : Int32)) σ)
 (wLI σ a29001 l5 (fun v29003 =>
 wIf ((v29003 &&& (63 : Int32)) = (0 : Int32))
 (wLI σ a29001 (l5 + (1 : Int32)) (fun v29004 =>
 wLI σ a29001 (l5 + (2 : Int32)) (fun v29005 =>
 wLI σ a29001 (l5 + (3 : Int32)) (fun v29006 =>
 wLI σ a29001 (l5 + (4 : Int32)) (fun v29007 =>
 wLI σ a29001 (l5 + (5 : Int32)) (fun v29008 =>
 wC bc28 bs28 (fun c29011 c29012 =>
 W_X0_append G c29011 c29012 σ  (some y1) (v29004) (v29005) (v29006) (v29007) (v29008) (some y3) (fun v29009 σ29010 =>
 wLI σ29010 a29001 (l5 + (1 : Int32)) (fun v29013 =>
 wLI σ29010 a29001 (l5 + (2 : Int32)) (fun v29014 =>
 wLI σ29010 a29001 (l5 + (3 : Int32)) (fun v29015 =>
 wLI σ29010 a29001 (l5 + (4 : Int32)) (fun v29016 =>
 wLI σ29010 a29001 (l5 + (5 : Int32)) (fun v29017 =>
 wMI σ29010 y2 (fun s_ => P_append s_ v29013 v29014 v29015 v29016 v29017) (fun v29018 σ29019 =>
 wMI σ29019 y2 (fun s_ => P_thrown s_ ) (fun v29020 σ29021 =>
 wIf (v29020 = v29009)
 (wIf (v29009 = 0)
 (wLJ σ29021 y3 (0 : Int32) (fun v29022 =>
 wIf ((lg_cmp v29022 ((v29018).toInt64)) = 0)
 (kI28 σ29021 (bc28 - c29011) (bs28 - c29012) (l5 + (7 : Int32)))
 (Q ((0 : Int32)) σ29021)))
 (kI28 σ29021 (bc28 - c29011) (bs28 - c29012) (l5 + (7 : Int32))))
 (Q ((0 : Int32)) σ29021))))))))) X)))))))
 (wIf ((v29003 &&& (63 : Int32)) = (1 : Int32))
 (wLI σ a29001 (l5 + (1 : Int32)) (fun v29023 =>
 wC bc28 bs28 (fun c29026 c29027 =>
 W_X0_truncate G c29026 c29027 σ  (some y1) (v29023) (fun v29024 σ29025 =>
 wLI σ29025 a29001 (l5 + (1 : Int32)) (fun v29028 =>
 wMV σ29025 y2 (fun s_ => P_truncate s_ v29028) (fun σ29030 =>
 wMI σ29030 y2 (fun s_ => P_thrown s_ ) (fun v29031 σ29032 =>
 wIf (v29031 = v29024)
 (kI28 σ29032 (bc28 - c29026) (bs28 - c29027) (l5 + (7 : Int32)))
 (Q ((0 : Int32)) σ29032))))) X)))
 (wIf ((v29003 &&& (63 : Int32)) = (2 : Int32))
 ((wR σ y1 0 ∧
 wC bc28 bs28 (fun c29035 c29036 =>
 W_X1_load G c29035 c29036 σ y1  (fun v29033 σ29034 =>
 wMI σ29034 y2 (fun s_ => P_load s_ ) (fun v29037 σ29038 =>
 wIf (v29033 = v29037)
 (kI28 σ29038 (bc28 - c29035) (bs28 - c29036) (l5 + (7 : Int32)))
 (Q ((0 : Int32)) σ29038))) X)))
 (wIf ((v29003 &&& (63 : Int32)) = (3 : Int32))
 ((wR σ y1 0 ∧
 W_X1_errorCode G σ y1  (fun v29039 σ29040 =>
 wMI σ29040 y2 (fun s_ => P_errorCode s_ ) (fun v29041 σ29042 =>
 wIf (v29039 = v29041)
 (kI28 σ29042 bc28 bs28 (l5 + (7 : Int32)))
 (Q ((0 : Int32)) σ29042))) X))
 (wIf ((v29003 &&& (63 : Int32)) = (4 : Int32))
 ((wR σ y1 0 ∧
 W_X1_errorPosition G σ y1  (fun v29043 σ29044 =>
 wMI σ29044 y2 (fun s_ => P_errorPosition s_ ) (fun v29045 σ29046 =>
 wIf (v29043 = v29045)
 (kI28 σ29046 bc28 bs28 (l5 + (7 : Int32)))
 (Q ((0 : Int32)) σ29046))) X))
 (wIf ((v29003 &&& (63 : Int32)) = (5 : Int32))
 ((wR σ y1 0 ∧
 wC bc28 bs28 (fun c29049 c29050 =>
 W_X1_find G c29049 c29050 σ y1  (fun v29047 σ29048 =>
 wMI σ29048 y2 (fun s_ => P_find s_ ) (fun v29051 σ29052 =>
 wIf (v29047 = v29051)
 (kI28 σ29052 (bc28 - c29049) (bs28 - c29050) (l5 + (7 : Int32)))
 (Q ((0 : Int32)) σ29052))) X)))
 (wIf ((v29003 &&& (63 : Int32)) = (6 : Int32))
 (wLI σ a29001 (l5 + (1 : Int32)) (fun v29053 =>
 wC bc28 bs28 (fun c29056 c29057 =>
 W_X0_count G c29056 c29057 σ  (some y1) (v29053) (some y3) (fun v29054 σ29055 =>
 wLI σ29055 a29001 (l5 + (1 : Int32)) (fun v29058 =>
 wMI σ29055 y2 (fun s_ => P_count s_ v29058) (fun v29059 σ29060 =>
 wMI σ29060 y2 (fun s_ => P_thrown s_ ) (fun v29061 σ29062 =>
 wIf (v29061 = v29054)
 (wIf (v29054 = 0)
 (wLJ σ29062 y3 (0 : Int32) (fun v29063 =>
 wIf ((lg_cmp v29063 ((v29059).toInt64)) = 0)
 (kI28 σ29062 (bc28 - c29056) (bs28 - c29057) (l5 + (7 : Int32)))
 (Q ((0 : Int32)) σ29062)))
 (kI28 σ29062 (bc28 - c29056) (bs28 - c29057) (l5 + (7 : Int32))))
 (Q ((0 : Int32)) σ29062))))) X)))
 (wIf ((v29003 &&& (63 : Int32)) = (7 : Int32))
 ((wR σ y1 0 ∧
 W_X1_now G σ y1  (fun v29064 σ29065 =>
 wMI σ29065 y2 (fun s_ => P_now s_ ) (fun v29066 σ29067 =>
 wIf (v29064 = v29066)
 (kI28 σ29067 bc28 bs28 (l5 + (7 : Int32)))
 (Q ((0 : Int32)) σ29067))) X))
 (wIf ((v29003 &&& (63 : Int32)) = (8 : Int32))
 (wLI σ a29001 (l5 + (1 : Int32)) (fun v29068 =>
 wC bc28 bs28 (fun c29071 c29072 =>
 W_X0_rated G c29071 c29072 σ  (some y1) (v29068) (some y3) (fun v29069 σ29070 =>
 wLI σ29070 a29001 (l5 + (1 : Int32)) (fun v29073 =>
 wMI σ29070 y2 (fun s_ => P_rated s_ v29073) (fun v29074 σ29075 =>
 wMI σ29075 y2 (fun s_ => P_thrown s_ ) (fun v29076 σ29077 =>
 wIf (v29076 = v29069)
 (wIf (v29069 = 0)
 (wLJ σ29077 y3 (0 : Int32) (fun v29078 =>
 wIf ((lg_cmp v29078 ((v29074).toInt64)) = 0)
 (kI28 σ29077 (bc28 - c29071) (bs28 - c29072) (l5 + (7 : Int32)))
 (Q ((0 : Int32)) σ29077)))
 (kI28 σ29077 (bc28 - c29071) (bs28 - c29072) (l5 + (7 : Int32))))
 (Q ((0 : Int32)) σ29077))))) X)))
 (wIf ((v29003 &&& (63 : Int32)) = (9 : Int32))
 (wLI σ a29001 (l5 + (1 : Int32)) (fun v29079 =>
 wLI σ a29001 (l5 + (2 : Int32)) (fun v29080 =>
 wC bc28 bs28 (fun c29083 c29084 =>
 W_X0_loadOf G c29083 c29084 σ  (some y1) (v29079) (v29080) (some y3) (fun v29081 σ29082 =>
 wLI σ29082 a29001 (l5 + (1 : Int32)) (fun v29085 =>
 wLI σ29082 a29001 (l5 + (2 : Int32)) (fun v29086 =>
 wMI σ29082 y2 (fun s_ => P_loadOf s_ v29085 v29086) (fun v29087 σ29088 =>
 wMI σ29088 y2 (fun s_ => P_thrown s_ ) (fun v29089 σ29090 =>
 wIf (v29089 = v29081)
 (wIf (v29081 = 0)
 (wLJ σ29090 y3 (0 : Int32) (fun v29091 =>
 wIf ((lg_cmp v29091 ((v29087).toInt64)) = 0)
 (kI28 σ29090 (bc28 - c29083) (bs28 - c29084) (l5 + (7 : Int32)))
 (Q ((0 : Int32)) σ29090)))
 (kI28 σ29090 (bc28 - c29083) (bs28 - c29084) (l5 + (7 : Int32))))
 (Q ((0 : Int32)) σ29090)))))) X))))
 (wIf ((v29003 &&& (63 : Int32)) = (10 : Int32))
 (wLI σ a29001 (l5 + (1 : Int32)) (fun v29092 =>
 wC bc28 bs28 (fun c29095 c29096 =>
 W_X0_isOn G c29095 c29096 σ  (some y1) (v29092) (some y3) (fun v29093 σ29094 =>
 wLI σ29094 a29001 (l5 + (1 : Int32)) (fun v29097 =>
 wMI σ29094 y2 (fun s_ => P_isOn s_ v29097) (fun v29098 σ29099 =>
 wMI σ29099 y2 (fun s_ => P_thrown s_ ) (fun v29100 σ29101 =>
 wIf (v29100 = v29093)
 (wIf (v29093 = 0)
 (wLJ σ29101 y3 (0 : Int32) (fun v29102 =>
 jn (κ := Int64 → KHp → Nat → Nat → Prop) (fun v29104 σ29105 bcv29104 bsv29104 =>
 wIf ((lg_cmp v29102 v29104) = 0)
 (kI28 σ29105 bcv29104 bsv29104 (l5 + (7 : Int32)))
 (Q ((0 : Int32)) σ29105)) (fun k29103 =>
 wIf (v29098 = 0)
 (k29103 (0 : Int64) σ29101 (bc28 - c29095) (bs28 - c29096))
 (k29103 (1 : Int64) σ29101 (bc28 - c29095) (bs28 - c29096)))))
 (kI28 σ29101 (bc28 - c29095) (bs28 - c29096) (l5 + (7 : Int32))))
 (Q ((0 : Int32)) σ29101))))) X)))
 (wIf ((v29003 &&& (63 : Int32)) = (11 : Int32))
 (wLI σ a29001 (l5 + (1 : Int32)) (fun v29106 =>
 wLI σ a29001 (l5 + (2 : Int32)) (fun v29107 =>
 jn (κ := Int32 → KHp → Nat → Nat → Prop) (fun v29109 σ29110 bcv29109 bsv29109 =>
 wC bcv29109 bsv29109 (fun c29113 c29114 =>
 W_X0_setOn G c29113 c29114 σ29110  (some y1) (v29106) (v29109) (some y3) (fun v29111 σ29112 =>
 wLI σ29112 a29001 (l5 + (1 : Int32)) (fun v29115 =>
 wLI σ29112 a29001 (l5 + (2 : Int32)) (fun v29116 =>
 jn (κ := Int32 → KHp → Nat → Nat → Prop) (fun v29118 σ29119 bcv29118 bsv29118 =>
 wMI σ29119 y2 (fun s_ => P_setOn s_ v29115 v29118) (fun v29120 σ29121 =>
 wMI σ29121 y2 (fun s_ => P_thrown s_ ) (fun v29122 σ29123 =>
 wIf (v29122 = v29111)
 (wIf (v29111 = 0)
 (wLJ σ29123 y3 (0 : Int32) (fun v29124 =>
 jn (κ := Int64 → KHp → Nat → Nat → Prop) (fun v29126 σ29127 bcv29126 bsv29126 =>
 wIf ((lg_cmp v29124 v29126) = 0)
 (kI28 σ29127 bcv29126 bsv29126 (l5 + (7 : Int32)))
 (Q ((0 : Int32)) σ29127)) (fun k29125 =>
 wIf (v29120 = 0)
 (k29125 (0 : Int64) σ29123 bcv29118 bsv29118)
 (k29125 (1 : Int64) σ29123 bcv29118 bsv29118))))
 (kI28 σ29123 bcv29118 bsv29118 (l5 + (7 : Int32))))
 (Q ((0 : Int32)) σ29123)))) (fun k29117 =>
 wIf (v29116 = 0)
 (k29117 (0 : Int32) σ29112 (bcv29109 - c29113) (bsv29109 - c29114))
 (k29117 (1 : Int32) σ29112 (bcv29109 - c29113) (bsv29109 - c29114)))))) X)) (fun k29108 =>
 wIf (v29107 = 0)
 (k29108 (0 : Int32) σ bc28 bs28)
 (k29108 (1 : Int32) σ bc28 bs28)))))
 (wIf ((v29003 &&& (63 : Int32)) = (12 : Int32))
 (wLI σ a29001 (l5 + (1 : Int32)) (fun v29128 =>
 wLI σ a29001 (l5 + (2 : Int32)) (fun v29129 =>
 wLI σ a29001 (l5 + (3 : Int32)) (fun v29130 =>
 jn (κ := Int32 → KHp → Nat → Nat → Prop) (fun v29132 σ29133 bcv29132 bsv29132 =>
 wC bcv29132 bsv29132 (fun c29136 c29137 =>
 W_X0_plan G c29136 c29137 σ29133  (some y1) (v29128) (v29129) (v29132) (some y3) (fun v29134 σ29135 =>
 wLI σ29135 a29001 (l5 + (1 : Int32)) (fun v29138 =>
 wLI σ29135 a29001 (l5 + (2 : Int32)) (fun v29139 =>
 wLI σ29135 a29001 (l5 + (3 : Int32)) (fun v29140 =>
 jn (κ := Int32 → KHp → Nat → Nat → Prop) (fun v29142 σ29143 bcv29142 bsv29142 =>
 wMI σ29143 y2 (fun s_ => P_plan s_ v29138 v29139 v29142) (fun v29144 σ29145 =>
 wMI σ29145 y2 (fun s_ => P_thrown s_ ) (fun v29146 σ29147 =>
 wIf (v29146 = v29134)
 (wIf (v29134 = 0)
 (wLJ σ29147 y3 (0 : Int32) (fun v29148 =>
 wIf ((lg_cmp v29148 ((v29144).toInt64)) = 0)
 (kI28 σ29147 bcv29142 bsv29142 (l5 + (7 : Int32)))
 (Q ((0 : Int32)) σ29147)))
 (kI28 σ29147 bcv29142 bsv29142 (l5 + (7 : Int32))))
 (Q ((0 : Int32)) σ29147)))) (fun k29141 =>
 wIf (v29140 = 0)
 (k29141 (0 : Int32) σ29135 (bcv29132 - c29136) (bsv29132 - c29137))
 (k29141 (1 : Int32) σ29135 (bcv29132 - c29136) (bsv29132 - c29137))))))) X)) (fun k29131 =>
 wIf (v29130 = 0)
 (k29131 (0 : Int32) σ bc28 bs28)
 (k29131 (1 : Int32) σ bc28 bs28))))))
 (wIf ((v29003 &&& (63 : Int32)) = (13 : Int32))
 (wLI σ a29001 (l5 + (1 : Int32)) (fun v29149 =>
 wC bc28 bs28 (fun c29152 c29153 =>
 W_X0_nextSwitch G c29152 c29153 σ  (some y1) (v29149) (some y3) (fun v29150 σ29151 =>
 wLI σ29151 a29001 (l5 + (1 : Int32)) (fun v29154 =>
 wMI σ29151 y2 (fun s_ => P_nextSwitch s_ v29154) (fun v29155 σ29156 =>
 wMI σ29156 y2 (fun s_ => P_thrown s_ ) (fun v29157 σ29158 =>
 wIf (v29157 = v29150)
 (wIf (v29150 = 0)
 (wLJ σ29158 y3 (0 : Int32) (fun v29159 =>
 wIf ((lg_cmp v29159 ((v29155).toInt64)) = 0)
 (kI28 σ29158 (bc28 - c29152) (bs28 - c29153) (l5 + (7 : Int32)))
 (Q ((0 : Int32)) σ29158)))
 (kI28 σ29158 (bc28 - c29152) (bs28 - c29153) (l5 + (7 : Int32))))
 (Q ((0 : Int32)) σ29158))))) X)))
 (wIf ((v29003 &&& (63 : Int32)) = (14 : Int32))
 (wLI σ a29001 (l5 + (1 : Int32)) (fun v29160 =>
 wC bc28 bs28 (fun c29163 c29164 =>
 W_X0_state G c29163 c29164 σ  (some y1) (v29160) (some y3) (fun v29161 σ29162 =>
 wLI σ29162 a29001 (l5 + (1 : Int32)) (fun v29165 =>
 wMI σ29162 y2 (fun s_ => P_state s_ v29165) (fun v29166 σ29167 =>
 wMI σ29167 y2 (fun s_ => P_thrown s_ ) (fun v29168 σ29169 =>
 wIf (v29168 = v29161)
 (wIf (v29161 = 0)
 (wLJ σ29169 y3 (0 : Int32) (fun v29170 =>
 wIf ((lg_cmp v29170 ((v29166).toInt64)) = 0)
 (kI28 σ29169 (bc28 - c29163) (bs28 - c29164) (l5 + (7 : Int32)))
 (Q ((0 : Int32)) σ29169)))
 (kI28 σ29169 (bc28 - c29163) (bs28 - c29164) (l5 + (7 : Int32))))
 (Q ((0 : Int32)) σ29169))))) X)))
 (wIf ((v29003 &&& (63 : Int32)) = (15 : Int32))
 (wLI σ a29001 (l5 + (1 : Int32)) (fun v29171 =>
 wC bc28 bs28 (fun c29174 c29175 =>
 W_X0_run G c29174 c29175 σ  (some y1) (v29171) (some y3) (fun v29172 σ29173 =>
 wLI σ29173 a29001 (l5 + (1 : Int32)) (fun v29176 =>
 wMI σ29173 y2 (fun s_ => P_run s_ v29176) (fun v29177 σ29178 =>
 wMI σ29178 y2 (fun s_ => P_thrown s_ ) (fun v29179 σ29180 =>
 wIf (v29179 = v29172)
 (wIf (v29172 = 0)
 (wLJ σ29180 y3 (0 : Int32) (fun v29181 =>
 wIf ((lg_cmp v29181 ((v29177).toInt64)) = 0)
 (kI28 σ29180 (bc28 - c29174) (bs28 - c29175) (l5 + (7 : Int32)))
 (Q ((0 : Int32)) σ29180)))
 (kI28 σ29180 (bc28 - c29174) (bs28 - c29175) (l5 + (7 : Int32))))
 (Q ((0 : Int32)) σ29180))))) X)))
 (wIf ((v29003 &&& (63 : Int32)) = (16 : Int32))
 (wLI σ a29001 (l5 + (1 : Int32)) (fun v29182 =>
 wLI σ a29001 (l5 + (2 : Int32)) (fun v29183 =>
 wC bc28 bs28 (fun c29186 c29187 =>
 W_X0_sample G c29186 c29187 σ  (some y1) (v29182) (v29183) (some y4) (fun v29184 σ29185 =>
 wLI σ29185 a29001 (l5 + (1 : Int32)) (fun v29188 =>
 wLI σ29185 a29001 (l5 + (2 : Int32)) (fun v29189 =>
 wMF σ29185 y2 (fun s_ => P_sample s_ v29188 v29189) (fun v29190 σ29191 =>
 wMI σ29191 y2 (fun s_ => P_thrown s_ ) (fun v29192 σ29193 =>
 wIf (v29192 = v29184)
 (wIf (v29184 = 0)
 (wLD σ29193 y4 (0 : Int32) (fun v29194 =>
 wD (FP.f2d v29190) (fun v29195 =>
 wIf ((Op.cmpValue (FP.dcmp v29194 v29195) .l) = 0)
 (kI28 σ29193 (bc28 - c29186) (bs28 - c29187) (l5 + (7 : Int32)))
 (wLD σ29193 y4 (0 : Int32) (fun v29196 =>
 wLD σ29193 y4 (0 : Int32) (fun v29197 =>
 wIf ((Op.cmpValue (FP.dcmp v29196 v29197) .l) = 0)
 (Q ((0 : Int32)) σ29193)
 (wIf ((Op.cmpValue (FP.fcmp v29190 v29190) .l) = 0)
 (Q ((0 : Int32)) σ29193)
 (kI28 σ29193 (bc28 - c29186) (bs28 - c29187) (l5 + (7 : Int32))))))))))
 (kI28 σ29193 (bc28 - c29186) (bs28 - c29187) (l5 + (7 : Int32))))
 (Q ((0 : Int32)) σ29193)))))) X))))
 (wIf ((v29003 &&& (63 : Int32)) = (17 : Int32))
 (wLI σ a29001 (l5 + (1 : Int32)) (fun v29198 =>
 wLI σ a29001 (l5 + (2 : Int32)) (fun v29199 =>
 wC bc28 bs28 (fun c29202 c29203 =>
 W_X0_feature G c29202 c29203 σ  (some y1) (v29198) (v29199) (some y4) (fun v29200 σ29201 =>
 wLI σ29201 a29001 (l5 + (1 : Int32)) (fun v29204 =>
 wLI σ29201 a29001 (l5 + (2 : Int32)) (fun v29205 =>
 wMF σ29201 y2 (fun s_ => P_feature s_ v29204 v29205) (fun v29206 σ29207 =>
 wMI σ29207 y2 (fun s_ => P_thrown s_ ) (fun v29208 σ29209 =>
 wIf (v29208 = v29200)
 (wIf (v29200 = 0)
 (wLD σ29209 y4 (0 : Int32) (fun v29210 =>
 wD (FP.f2d v29206) (fun v29211 =>
 wIf ((Op.cmpValue (FP.dcmp v29210 v29211) .l) = 0)
 (kI28 σ29209 (bc28 - c29202) (bs28 - c29203) (l5 + (7 : Int32)))
 (wLD σ29209 y4 (0 : Int32) (fun v29212 =>
 wLD σ29209 y4 (0 : Int32) (fun v29213 =>
 wIf ((Op.cmpValue (FP.dcmp v29212 v29213) .l) = 0)
 (Q ((0 : Int32)) σ29209)
 (wIf ((Op.cmpValue (FP.fcmp v29206 v29206) .l) = 0)
 (Q ((0 : Int32)) σ29209)
 (kI28 σ29209 (bc28 - c29202) (bs28 - c29203) (l5 + (7 : Int32))))))))))
 (kI28 σ29209 (bc28 - c29202) (bs28 - c29203) (l5 + (7 : Int32))))
 (Q ((0 : Int32)) σ29209)))))) X))))
 (wIf ((v29003 &&& (63 : Int32)) = (18 : Int32))
 (wLI σ a29001 (l5 + (1 : Int32)) (fun v29214 =>
 wC bc28 bs28 (fun c29217 c29218 =>
 W_X0_matching G c29217 c29218 σ  (some y1) (v29214) (some y3) (fun v29215 σ29216 =>
 wLI σ29216 a29001 (l5 + (1 : Int32)) (fun v29219 =>
 wMI σ29216 y2 (fun s_ => P_matching s_ v29219) (fun v29220 σ29221 =>
 wMI σ29221 y2 (fun s_ => P_thrown s_ ) (fun v29222 σ29223 =>
 wIf (v29222 = v29215)
 (wIf (v29215 = 0)
 (wLJ σ29223 y3 (0 : Int32) (fun v29224 =>
 wIf ((lg_cmp v29224 ((v29220).toInt64)) = 0)
 (kI28 σ29223 (bc28 - c29217) (bs28 - c29218) (l5 + (7 : Int32)))
 (Q ((0 : Int32)) σ29223)))
 (kI28 σ29223 (bc28 - c29217) (bs28 - c29218) (l5 + (7 : Int32))))
 (Q ((0 : Int32)) σ29223))))) X)))
 (wIf ((v29003 &&& (63 : Int32)) = (19 : Int32))
 (wLI σ a29001 (l5 + (1 : Int32)) (fun v29225 =>
 wC bc28 bs28 (fun c29228 c29229 =>
 W_X0_hiding G c29228 c29229 σ  (some y1) (v29225) (some y3) (fun v29226 σ29227 =>
 wLI σ29227 a29001 (l5 + (1 : Int32)) (fun v29230 =>
 wMI σ29227 y2 (fun s_ => P_hiding s_ v29230) (fun v29231 σ29232 =>
 wMI σ29232 y2 (fun s_ => P_thrown s_ ) (fun v29233 σ29234 =>
 wIf (v29233 = v29226)
 (wIf (v29226 = 0)
 (wLJ σ29234 y3 (0 : Int32) (fun v29235 =>
 wIf ((lg_cmp v29235 ((v29231).toInt64)) = 0)
 (kI28 σ29234 (bc28 - c29228) (bs28 - c29229) (l5 + (7 : Int32)))
 (Q ((0 : Int32)) σ29234)))
 (kI28 σ29234 (bc28 - c29228) (bs28 - c29229) (l5 + (7 : Int32))))
 (Q ((0 : Int32)) σ29234))))) X)))
 (wIf ((v29003 &&& (63 : Int32)) = (20 : Int32))
 (wLI σ a29001 (l5 + (1 : Int32)) (fun v29236 =>
 wC bc28 bs28 (fun c29239 c29240 =>
 W_X0_isSuspect G c29239 c29240 σ  (some y1) (v29236) (some y3) (fun v29237 σ29238 =>
 wLI σ29238 a29001 (l5 + (1 : Int32)) (fun v29241 =>
 wMI σ29238 y2 (fun s_ => P_isSuspect s_ v29241) (fun v29242 σ29243 =>
 wMI σ29243 y2 (fun s_ => P_thrown s_ ) (fun v29244 σ29245 =>
 wIf (v29244 = v29237)
 (wIf (v29237 = 0)
 (wLJ σ29245 y3 (0 : Int32) (fun v29246 =>
 jn (κ := Int64 → KHp → Nat → Nat → Prop) (fun v29248 σ29249 bcv29248 bsv29248 =>
 wIf ((lg_cmp v29246 v29248) = 0)
 (kI28 σ29249 bcv29248 bsv29248 (l5 + (7 : Int32)))
 (Q ((0 : Int32)) σ29249)) (fun k29247 =>
 wIf (v29242 = 0)
 (k29247 (0 : Int64) σ29245 (bc28 - c29239) (bs28 - c29240))
 (k29247 (1 : Int64) σ29245 (bc28 - c29239) (bs28 - c29240)))))
 (kI28 σ29245 (bc28 - c29239) (bs28 - c29240) (l5 + (7 : Int32))))
 (Q ((0 : Int32)) σ29245))))) X)))
 (wIf ((v29003 &&& (63 : Int32)) = (21 : Int32))
 (wLI σ a29001 (l5 + (1 : Int32)) (fun v29250 =>
 wC bc28 bs28 (fun c29253 c29254 =>
 W_X0_suspects G c29253 c29254 σ  (some y1) (v29250) (some y3) (fun v29251 σ29252 =>
 wLI σ29252 a29001 (l5 + (1 : Int32)) (fun v29255 =>
 wMI σ29252 y2 (fun s_ => P_suspects s_ v29255) (fun v29256 σ29257 =>
 wMI σ29257 y2 (fun s_ => P_thrown s_ ) (fun v29258 σ29259 =>
 wIf (v29258 = v29251)
 (wIf (v29251 = 0)
 (wLJ σ29259 y3 (0 : Int32) (fun v29260 =>
 wIf ((lg_cmp v29260 ((v29256).toInt64)) = 0)
 (kI28 σ29259 (bc28 - c29253) (bs28 - c29254) (l5 + (7 : Int32)))
 (Q ((0 : Int32)) σ29259)))
 (kI28 σ29259 (bc28 - c29253) (bs28 - c29254) (l5 + (7 : Int32))))
 (Q ((0 : Int32)) σ29259))))) X)))
 (wIf ((v29003 &&& (63 : Int32)) = (22 : Int32))
 (wLI σ a29001 (l5 + (1 : Int32)) (fun v29261 =>
 wLI σ a29001 (l5 + (2 : Int32)) (fun v29262 =>
 wC bc28 bs28 (fun c29265 c29266 =>
 W_X0_wasSuspect G c29265 c29266 σ  (some y1) (v29261) (v29262) (some y3) (fun v29263 σ29264 =>
 wLI σ29264 a29001 (l5 + (1 : Int32)) (fun v29267 =>
 wLI σ29264 a29001 (l5 + (2 : Int32)) (fun v29268 =>
 wMI σ29264 y2 (fun s_ => P_wasSuspect s_ v29267 v29268) (fun v29269 σ29270 =>
 wMI σ29270 y2 (fun s_ => P_thrown s_ ) (fun v29271 σ29272 =>
 wIf (v29271 = v29263)
 (wIf (v29263 = 0)
 (wLJ σ29272 y3 (0 : Int32) (fun v29273 =>
 jn (κ := Int64 → KHp → Nat → Nat → Prop) (fun v29275 σ29276 bcv29275 bsv29275 =>
 wIf ((lg_cmp v29273 v29275) = 0)
 (kI28 σ29276 bcv29275 bsv29275 (l5 + (7 : Int32)))
 (Q ((0 : Int32)) σ29276)) (fun k29274 =>
 wIf (v29269 = 0)
 (k29274 (0 : Int64) σ29272 (bc28 - c29265) (bs28 - c29266))
 (k29274 (1 : Int64) σ29272 (bc28 - c29265) (bs28 - c29266)))))
 (kI28 σ29272 (bc28 - c29265) (bs28 - c29266) (l5 + (7 : Int32))))
 (Q ((0 : Int32)) σ29272)))))) X))))
 (wIf ((v29003 &&& (63 : Int32)) = (23 : Int32))
 (wLI σ a29001 (l5 + (1 : Int32)) (fun v29277 =>
 wC bc28 bs28 (fun c29280 c29281 =>
 W_X0_margin G c29280 c29281 σ  (some y1) (v29277) (some y3) (fun v29278 σ29279 =>
 wLI σ29279 a29001 (l5 + (1 : Int32)) (fun v29282 =>
 wMI σ29279 y2 (fun s_ => P_margin s_ v29282) (fun v29283 σ29284 =>
 wMI σ29284 y2 (fun s_ => P_thrown s_ ) (fun v29285 σ29286 =>
 wIf (v29285 = v29278)
 (wIf (v29278 = 0)
 (wLJ σ29286 y3 (0 : Int32) (fun v29287 =>
 wIf ((lg_cmp v29287 ((v29283).toInt64)) = 0)
 (kI28 σ29286 (bc28 - c29280) (bs28 - c29281) (l5 + (7 : Int32)))
 (Q ((0 : Int32)) σ29286)))
 (kI28 σ29286 (bc28 - c29280) (bs28 - c29281) (l5 + (7 : Int32))))
 (Q ((0 : Int32)) σ29286))))) X)))
 (wIf ((v29003 &&& (63 : Int32)) = (24 : Int32))
 (wLI σ a29001 (l5 + (1 : Int32)) (fun v29288 =>
 wC bc28 bs28 (fun c29291 c29292 =>
 W_X0_hits G c29291 c29292 σ  (some y1) (v29288) (some y3) (fun v29289 σ29290 =>
 wLI σ29290 a29001 (l5 + (1 : Int32)) (fun v29293 =>
 wMI σ29290 y2 (fun s_ => P_hits s_ v29293) (fun v29294 σ29295 =>
 wMI σ29295 y2 (fun s_ => P_thrown s_ ) (fun v29296 σ29297 =>
 wIf (v29296 = v29289)
 (wIf (v29289 = 0)
 (wLJ σ29297 y3 (0 : Int32) (fun v29298 =>
 wIf ((lg_cmp v29298 ((v29294).toInt64)) = 0)
 (kI28 σ29297 (bc28 - c29291) (bs28 - c29292) (l5 + (7 : Int32)))
 (Q ((0 : Int32)) σ29297)))
 (kI28 σ29297 (bc28 - c29291) (bs28 - c29292) (l5 + (7 : Int32))))
 (Q ((0 : Int32)) σ29297))))) X)))
 (wIf ((v29003 &&& (63 : Int32)) = (25 : Int32))
 (wLI σ a29001 (l5 + (1 : Int32)) (fun v29299 =>
 wC bc28 bs28 (fun c29302 c29303 =>
 W_X0_isAlways G c29302 c29303 σ  (some y1) (v29299) (some y3) (fun v29300 σ29301 =>
 wLI σ29301 a29001 (l5 + (1 : Int32)) (fun v29304 =>
 wMI σ29301 y2 (fun s_ => P_isAlways s_ v29304) (fun v29305 σ29306 =>
 wMI σ29306 y2 (fun s_ => P_thrown s_ ) (fun v29307 σ29308 =>
 wIf (v29307 = v29300)
 (wIf (v29300 = 0)
 (wLJ σ29308 y3 (0 : Int32) (fun v29309 =>
 jn (κ := Int64 → KHp → Nat → Nat → Prop) (fun v29311 σ29312 bcv29311 bsv29311 =>
 wIf ((lg_cmp v29309 v29311) = 0)
 (kI28 σ29312 bcv29311 bsv29311 (l5 + (7 : Int32)))
 (Q ((0 : Int32)) σ29312)) (fun k29310 =>
 wIf (v29305 = 0)
 (k29310 (0 : Int64) σ29308 (bc28 - c29302) (bs28 - c29303))
 (k29310 (1 : Int64) σ29308 (bc28 - c29302) (bs28 - c29303)))))
 (kI28 σ29308 (bc28 - c29302) (bs28 - c29303) (l5 + (7 : Int32))))
 (Q ((0 : Int32)) σ29308))))) X)))
 (wIf ((v29003 &&& (63 : Int32)) = (26 : Int32))
 (wLI σ a29001 (l5 + (1 : Int32)) (fun v29313 =>
 wC bc28 bs28 (fun c29316 c29317 =>
 W_X0_nuisanceHits G c29316 c29317 σ  (some y1) (v29313) (some y3) (fun v29314 σ29315 =>
 wLI σ29315 a29001 (l5 + (1 : Int32)) (fun v29318 =>
 wMI σ29315 y2 (fun s_ => P_nuisanceHits s_ v29318) (fun v29319 σ29320 =>
 wMI σ29320 y2 (fun s_ => P_thrown s_ ) (fun v29321 σ29322 =>
 wIf (v29321 = v29314)
 (wIf (v29314 = 0)
 (wLJ σ29322 y3 (0 : Int32) (fun v29323 =>
 wIf ((lg_cmp v29323 ((v29319).toInt64)) = 0)
 (kI28 σ29322 (bc28 - c29316) (bs28 - c29317) (l5 + (7 : Int32)))
 (Q ((0 : Int32)) σ29322)))
 (kI28 σ29322 (bc28 - c29316) (bs28 - c29317) (l5 + (7 : Int32))))
 (Q ((0 : Int32)) σ29322))))) X)))
 (wIf ((v29003 &&& (63 : Int32)) = (27 : Int32))
 (wLI σ a29001 (l5 + (1 : Int32)) (fun v29324 =>
 wLI σ a29001 (l5 + (2 : Int32)) (fun v29325 =>
 wF (FP.fmul (FP.i2f v29325) (1040187392 : UInt32)) (fun v29326 =>
 wLI σ a29001 (l5 + (3 : Int32)) (fun v29327 =>
 wF (FP.fmul (FP.i2f v29327) (1040187392 : UInt32)) (fun v29328 =>
 wLI σ a29001 (l5 + (4 : Int32)) (fun v29329 =>
 wF (FP.fmul (FP.i2f v29329) (1040187392 : UInt32)) (fun v29330 =>
 wLI σ a29001 (l5 + (5 : Int32)) (fun v29331 =>
 wF (FP.fmul (FP.i2f v29331) (1040187392 : UInt32)) (fun v29332 =>
 wLI σ a29001 (l5 + (6 : Int32)) (fun v29333 =>
 wF (FP.fmul (FP.i2f v29333) (1040187392 : UInt32)) (fun v29334 =>
 wC bc28 bs28 (fun c29337 c29338 =>
 W_X0_wouldMatch G c29337 c29338 σ  (some y1) (v29324) (v29326) (v29328) (v29330) (v29332) (v29334) (some y3) (fun v29335 σ29336 =>
 wLI σ29336 a29001 (l5 + (1 : Int32)) (fun v29339 =>
 wLI σ29336 a29001 (l5 + (2 : Int32)) (fun v29340 =>
 wF (FP.fmul (FP.i2f v29340) (1040187392 : UInt32)) (fun v29341 =>
 wLI σ29336 a29001 (l5 + (3 : Int32)) (fun v29342 =>
 wF (FP.fmul (FP.i2f v29342) (1040187392 : UInt32)) (fun v29343 =>
 wLI σ29336 a29001 (l5 + (4 : Int32)) (fun v29344 =>
 wF (FP.fmul (FP.i2f v29344) (1040187392 : UInt32)) (fun v29345 =>
 wLI σ29336 a29001 (l5 + (5 : Int32)) (fun v29346 =>
 wF (FP.fmul (FP.i2f v29346) (1040187392 : UInt32)) (fun v29347 =>
 wLI σ29336 a29001 (l5 + (6 : Int32)) (fun v29348 =>
 wF (FP.fmul (FP.i2f v29348) (1040187392 : UInt32)) (fun v29349 =>
 wMI σ29336 y2 (fun s_ => P_wouldMatch s_ v29339 v29341 v29343 v29345 v29347 v29349) (fun v29350 σ29351 =>
 wMI σ29351 y2 (fun s_ => P_thrown s_ ) (fun v29352 σ29353 =>
 wIf (v29352 = v29335)
 (wIf (v29335 = 0)
 (wLJ σ29353 y3 (0 : Int32) (fun v29354 =>
 jn (κ := Int64 → KHp → Nat → Nat → Prop) (fun v29356 σ29357 bcv29356 bsv29356 =>
 wIf ((lg_cmp v29354 v29356) = 0)
 (kI28 σ29357 bcv29356 bsv29356 (l5 + (7 : Int32)))
 (Q ((0 : Int32)) σ29357)) (fun k29355 =>
 wIf (v29350 = 0)
 (k29355 (0 : Int64) σ29353 (bc28 - c29337) (bs28 - c29338))
 (k29355 (1 : Int64) σ29353 (bc28 - c29337) (bs28 - c29338)))))
 (kI28 σ29353 (bc28 - c29337) (bs28 - c29338) (l5 + (7 : Int32))))
 (Q ((0 : Int32)) σ29353))))))))))))))) X)))))))))))))
 (wIf ((v29003 &&& (63 : Int32)) = (28 : Int32))
 (wLI σ a29001 (l5 + (1 : Int32)) (fun v29358 =>
 wC bc28 bs28 (fun c29361 c29362 =>
 W_X0_learn G c29361 c29362 σ  (some y1) (v29358) (some y3) (fun v29359 σ29360 =>
 wLI σ29360 a29001 (l5 + (1 : Int32)) (fun v29363 =>
 wMI σ29360 y2 (fun s_ => P_learn s_ v29363) (fun v29364 σ29365 =>
 wMI σ29365 y2 (fun s_ => P_thrown s_ ) (fun v29366 σ29367 =>
 wIf (v29366 = v29359)
 (wIf (v29359 = 0)
 (wLJ σ29367 y3 (0 : Int32) (fun v29368 =>
 wIf ((lg_cmp v29368 ((v29364).toInt64)) = 0)
 (kI28 σ29367 (bc28 - c29361) (bs28 - c29362) (l5 + (7 : Int32)))
 (Q ((0 : Int32)) σ29367)))
 (kI28 σ29367 (bc28 - c29361) (bs28 - c29362) (l5 + (7 : Int32))))
 (Q ((0 : Int32)) σ29367))))) X)))
 (wIf ((v29003 &&& (63 : Int32)) = (29 : Int32))
 (wLI σ a29001 (l5 + (1 : Int32)) (fun v29369 =>
 wC bc28 bs28 (fun c29372 c29373 =>
 W_X0_forget G c29372 c29373 σ  (some y1) (v29369) (some y3) (fun v29370 σ29371 =>
 wLI σ29371 a29001 (l5 + (1 : Int32)) (fun v29374 =>
 wMI σ29371 y2 (fun s_ => P_forget s_ v29374) (fun v29375 σ29376 =>
 wMI σ29376 y2 (fun s_ => P_thrown s_ ) (fun v29377 σ29378 =>
 wIf (v29377 = v29370)
 (wIf (v29370 = 0)
 (wLJ σ29378 y3 (0 : Int32) (fun v29379 =>
 wIf ((lg_cmp v29379 ((v29375).toInt64)) = 0)
 (kI28 σ29378 (bc28 - c29372) (bs28 - c29373) (l5 + (7 : Int32)))
 (Q ((0 : Int32)) σ29378)))
 (kI28 σ29378 (bc28 - c29372) (bs28 - c29373) (l5 + (7 : Int32))))
 (Q ((0 : Int32)) σ29378))))) X)))
 (wIf ((v29003 &&& (63 : Int32)) = (30 : Int32))
 (wLI σ a29001 (l5 + (1 : Int32)) (fun v29380 =>
 wLI σ a29001 (l5 + (2 : Int32)) (fun v29381 =>
 wC bc28 bs28 (fun c29384 c29385 =>
 W_X0_setLimits G c29384 c29385 σ  (some y1) (v29380) (v29381) (some y3) (fun v29382 σ29383 =>
 wLI σ29383 a29001 (l5 + (1 : Int32)) (fun v29386 =>
 wLI σ29383 a29001 (l5 + (2 : Int32)) (fun v29387 =>
 wMI σ29383 y2 (fun s_ => P_setLimits s_ v29386 v29387) (fun v29388 σ29389 =>
 wMI σ29389 y2 (fun s_ => P_thrown s_ ) (fun v29390 σ29391 =>
 wIf (v29390 = v29382)
 (wIf (v29382 = 0)
 (wLJ σ29391 y3 (0 : Int32) (fun v29392 =>
 wIf ((lg_cmp v29392 ((v29388).toInt64)) = 0)
 (kI28 σ29391 (bc28 - c29384) (bs28 - c29385) (l5 + (7 : Int32)))
 (Q ((0 : Int32)) σ29391)))
 (kI28 σ29391 (bc28 - c29384) (bs28 - c29385) (l5 + (7 : Int32))))
 (Q ((0 : Int32)) σ29391)))))) X))))
 (wIf ((v29003 &&& (63 : Int32)) = (31 : Int32))
 (wLI σ a29001 (l5 + (1 : Int32)) (fun v29393 =>
 wC bc28 bs28 (fun c29396 c29397 =>
 W_X0_reset G c29396 c29397 σ  (some y1) (v29393) (some y3) (fun v29394 σ29395 =>
 wLI σ29395 a29001 (l5 + (1 : Int32)) (fun v29398 =>
 wMI σ29395 y2 (fun s_ => P_reset s_ v29398) (fun v29399 σ29400 =>
 wMI σ29400 y2 (fun s_ => P_thrown s_ ) (fun v29401 σ29402 =>
 wIf (v29401 = v29394)
 (wIf (v29394 = 0)
 (wLJ σ29402 y3 (0 : Int32) (fun v29403 =>
 wIf ((lg_cmp v29403 ((v29399).toInt64)) = 0)
 (kI28 σ29402 (bc28 - c29396) (bs28 - c29397) (l5 + (7 : Int32)))
 (Q ((0 : Int32)) σ29402)))
 (kI28 σ29402 (bc28 - c29396) (bs28 - c29397) (l5 + (7 : Int32))))
 (Q ((0 : Int32)) σ29402))))) X)))
 (wIf ((v29003 &&& (63 : Int32)) = (32 : Int32))
 (wLI σ a29001 (l5 + (1 : Int32)) (fun v29404 =>
 wC bc28 bs28 (fun c29407 c29408 =>
 W_X0_service G c29407 c29408 σ  (some y1) (v29404) (some y3) (fun v29405 σ29406 =>
 wLI σ29406 a29001 (l5 + (1 : Int32)) (fun v29409 =>
 wMI σ29406 y2 (fun s_ => P_service s_ v29409) (fun v29410 σ29411 =>
 wMI σ29411 y2 (fun s_ => P_thrown s_ ) (fun v29412 σ29413 =>
 wIf (v29412 = v29405)
 (wIf (v29405 = 0)
 (wLJ σ29413 y3 (0 : Int32) (fun v29414 =>
 wIf ((lg_cmp v29414 ((v29410).toInt64)) = 0)
 (kI28 σ29413 (bc28 - c29407) (bs28 - c29408) (l5 + (7 : Int32)))
 (Q ((0 : Int32)) σ29413)))
 (kI28 σ29413 (bc28 - c29407) (bs28 - c29408) (l5 + (7 : Int32))))
 (Q ((0 : Int32)) σ29413))))) X)))
 (wIf ((v29003 &&& (63 : Int32)) = (33 : Int32))
 (wLI σ a29001 (l5 + (1 : Int32)) (fun v29415 =>
 wC bc28 bs28 (fun c29418 c29419 =>
 W_X0_test G c29418 c29419 σ  (some y1) (v29415) (some y3) (fun v29416 σ29417 =>
 wLI σ29417 a29001 (l5 + (1 : Int32)) (fun v29420 =>
 wMI σ29417 y2 (fun s_ => P_test s_ v29420) (fun v29421 σ29422 =>
 wMI σ29422 y2 (fun s_ => P_thrown s_ ) (fun v29423 σ29424 =>
 wIf (v29423 = v29416)
 (wIf (v29416 = 0)
 (wLJ σ29424 y3 (0 : Int32) (fun v29425 =>
 wIf ((lg_cmp v29425 ((v29421).toInt64)) = 0)
 (kI28 σ29424 (bc28 - c29418) (bs28 - c29419) (l5 + (7 : Int32)))
 (Q ((0 : Int32)) σ29424)))
 (kI28 σ29424 (bc28 - c29418) (bs28 - c29419) (l5 + (7 : Int32))))
 (Q ((0 : Int32)) σ29424))))) X)))
 (wIf ((v29003 &&& (63 : Int32)) = (34 : Int32))
 (wLI σ a29001 (l5 + (1 : Int32)) (fun v29426 =>
 wC bc28 bs28 (fun c29429 c29430 =>
 W_X0_isTested G c29429 c29430 σ  (some y1) (v29426) (some y3) (fun v29427 σ29428 =>
 wLI σ29428 a29001 (l5 + (1 : Int32)) (fun v29431 =>
 wMI σ29428 y2 (fun s_ => P_isTested s_ v29431) (fun v29432 σ29433 =>
 wMI σ29433 y2 (fun s_ => P_thrown s_ ) (fun v29434 σ29435 =>
 wIf (v29434 = v29427)
 (wIf (v29427 = 0)
 (wLJ σ29435 y3 (0 : Int32) (fun v29436 =>
 jn (κ := Int64 → KHp → Nat → Nat → Prop) (fun v29438 σ29439 bcv29438 bsv29438 =>
 wIf ((lg_cmp v29436 v29438) = 0)
 (kI28 σ29439 bcv29438 bsv29438 (l5 + (7 : Int32)))
 (Q ((0 : Int32)) σ29439)) (fun k29437 =>
 wIf (v29432 = 0)
 (k29437 (0 : Int64) σ29435 (bc28 - c29429) (bs28 - c29430))
 (k29437 (1 : Int64) σ29435 (bc28 - c29429) (bs28 - c29430)))))
 (kI28 σ29435 (bc28 - c29429) (bs28 - c29430) (l5 + (7 : Int32))))
 (Q ((0 : Int32)) σ29435))))) X)))
 (wIf ((v29003 &&& (63 : Int32)) = (35 : Int32))
 ((wR σ y1 0 ∧
 wC bc28 bs28 (fun c29442 c29443 =>
 W_X1_losePower G c29442 c29443 σ y1  (fun v29440 σ29441 =>
 wMI σ29441 y2 (fun s_ => P_losePower s_ ) (fun v29444 σ29445 =>
 wIf (v29440 = v29444)
 (kI28 σ29445 (bc28 - c29442) (bs28 - c29443) (l5 + (7 : Int32)))
 (Q ((0 : Int32)) σ29445))) X)))
 (wIf ((v29003 &&& (63 : Int32)) = (36 : Int32))
 (wLI σ a29001 (l5 + (1 : Int32)) (fun v29446 =>
 wC bc28 bs28 (fun c29449 c29450 =>
 W_X0_trips G c29449 c29450 σ  (some y1) (v29446) (some y3) (fun v29447 σ29448 =>
 wLI σ29448 a29001 (l5 + (1 : Int32)) (fun v29451 =>
 wMI σ29448 y2 (fun s_ => P_trips s_ v29451) (fun v29452 σ29453 =>
 wMI σ29453 y2 (fun s_ => P_thrown s_ ) (fun v29454 σ29455 =>
 wIf (v29454 = v29447)
 (wIf (v29447 = 0)
 (wLJ σ29455 y3 (0 : Int32) (fun v29456 =>
 wIf ((lg_cmp v29456 ((v29452).toInt64)) = 0)
 (kI28 σ29455 (bc28 - c29449) (bs28 - c29450) (l5 + (7 : Int32)))
 (Q ((0 : Int32)) σ29455)))
 (kI28 σ29455 (bc28 - c29449) (bs28 - c29450) (l5 + (7 : Int32))))
 (Q ((0 : Int32)) σ29455))))) X)))
 (wIf ((v29003 &&& (63 : Int32)) = (37 : Int32))
 ((wR σ y1 0 ∧
 W_X1_memoryCount G σ y1  (fun v29457 σ29458 =>
 wMI σ29458 y2 (fun s_ => P_memoryCount s_ ) (fun v29459 σ29460 =>
 wIf (v29457 = v29459)
 (kI28 σ29460 bc28 bs28 (l5 + (7 : Int32)))
 (Q ((0 : Int32)) σ29460))) X))
 (wIf ((v29003 &&& (63 : Int32)) = (38 : Int32))
 (wLI σ a29001 (l5 + (1 : Int32)) (fun v29461 =>
 wLI σ a29001 (l5 + (2 : Int32)) (fun v29462 =>
 wC bc28 bs28 (fun c29465 c29466 =>
 W_X0_memory G c29465 c29466 σ  (some y1) (v29461) (v29462) (some y3) (fun v29463 σ29464 =>
 wLI σ29464 a29001 (l5 + (1 : Int32)) (fun v29467 =>
 wLI σ29464 a29001 (l5 + (2 : Int32)) (fun v29468 =>
 wMI σ29464 y2 (fun s_ => P_memory s_ v29467 v29468) (fun v29469 σ29470 =>
 wMI σ29470 y2 (fun s_ => P_thrown s_ ) (fun v29471 σ29472 =>
 wIf (v29471 = v29463)
 (wIf (v29463 = 0)
 (wLJ σ29472 y3 (0 : Int32) (fun v29473 =>
 wIf ((lg_cmp v29473 ((v29469).toInt64)) = 0)
 (kI28 σ29472 (bc28 - c29465) (bs28 - c29466) (l5 + (7 : Int32)))
 (Q ((0 : Int32)) σ29472)))
 (kI28 σ29472 (bc28 - c29465) (bs28 - c29466) (l5 + (7 : Int32))))
 (Q ((0 : Int32)) σ29472)))))) X))))
 (wIf ((v29003 &&& (63 : Int32)) = (39 : Int32))
 (wLI σ a29001 (l5 + (1 : Int32)) (fun v29474 =>
 wLI σ a29001 (l5 + (2 : Int32)) (fun v29475 =>
 wC bc28 bs28 (fun c29478 c29479 =>
 W_X0_named G c29478 c29479 σ  (some y1) (v29474) (v29475) (some y3) (fun v29476 σ29477 =>
 wLI σ29477 a29001 (l5 + (1 : Int32)) (fun v29480 =>
 wLI σ29477 a29001 (l5 + (2 : Int32)) (fun v29481 =>
 wMI σ29477 y2 (fun s_ => P_named s_ v29480 v29481) (fun v29482 σ29483 =>
 wMI σ29483 y2 (fun s_ => P_thrown s_ ) (fun v29484 σ29485 =>
 wIf (v29484 = v29476)
 (wIf (v29476 = 0)
 (wLJ σ29485 y3 (0 : Int32) (fun v29486 =>
 wIf ((lg_cmp v29486 ((v29482).toInt64)) = 0)
 (kI28 σ29485 (bc28 - c29478) (bs28 - c29479) (l5 + (7 : Int32)))
 (Q ((0 : Int32)) σ29485)))
 (kI28 σ29485 (bc28 - c29478) (bs28 - c29479) (l5 + (7 : Int32))))
 (Q ((0 : Int32)) σ29485)))))) X))))
 (wIf ((v29003 &&& (63 : Int32)) = (40 : Int32))
 (wLI σ a29001 (l5 + (1 : Int32)) (fun v29487 =>
 wC bc28 bs28 (fun c29490 c29491 =>
 W_X0_peakOf G c29490 c29491 σ  (some y1) (v29487) (some y4) (fun v29488 σ29489 =>
 wLI σ29489 a29001 (l5 + (1 : Int32)) (fun v29492 =>
 wMF σ29489 y2 (fun s_ => P_peakOf s_ v29492) (fun v29493 σ29494 =>
 wMI σ29494 y2 (fun s_ => P_thrown s_ ) (fun v29495 σ29496 =>
 wIf (v29495 = v29488)
 (wIf (v29488 = 0)
 (wLD σ29496 y4 (0 : Int32) (fun v29497 =>
 wD (FP.f2d v29493) (fun v29498 =>
 wIf ((Op.cmpValue (FP.dcmp v29497 v29498) .l) = 0)
 (kI28 σ29496 (bc28 - c29490) (bs28 - c29491) (l5 + (7 : Int32)))
 (wLD σ29496 y4 (0 : Int32) (fun v29499 =>
 wLD σ29496 y4 (0 : Int32) (fun v29500 =>
 wIf ((Op.cmpValue (FP.dcmp v29499 v29500) .l) = 0)
 (Q ((0 : Int32)) σ29496)
 (wIf ((Op.cmpValue (FP.fcmp v29493 v29493) .l) = 0)
 (Q ((0 : Int32)) σ29496)
 (kI28 σ29496 (bc28 - c29490) (bs28 - c29491) (l5 + (7 : Int32))))))))))
 (kI28 σ29496 (bc28 - c29490) (bs28 - c29491) (l5 + (7 : Int32))))
 (Q ((0 : Int32)) σ29496))))) X)))
 (wIf ((v29003 &&& (63 : Int32)) = (41 : Int32))
 ((wR σ y1 0 ∧
 wC bc28 bs28 (fun c29503 c29504 =>
 W_X1_clearMemory G c29503 c29504 σ y1  (fun v29501 σ29502 =>
 wMI σ29502 y2 (fun s_ => P_clearMemory s_ ) (fun v29505 σ29506 =>
 wIf (v29501 = v29505)
 (kI28 σ29506 (bc28 - c29503) (bs28 - c29504) (l5 + (7 : Int32)))
 (Q ((0 : Int32)) σ29506))) X)))
 (wIf ((v29003 &&& (63 : Int32)) = (42 : Int32))
 (wLI σ a29001 (l5 + (1 : Int32)) (fun v29507 =>
 wC bc28 bs28 (fun c29510 c29511 =>
 W_X0_tripIn G c29510 c29511 σ  (some y1) (v29507) (some y3) (fun v29508 σ29509 =>
 wLI σ29509 a29001 (l5 + (1 : Int32)) (fun v29512 =>
 wMI σ29509 y2 (fun s_ => P_tripIn s_ v29512) (fun v29513 σ29514 =>
 wMI σ29514 y2 (fun s_ => P_thrown s_ ) (fun v29515 σ29516 =>
 wIf (v29515 = v29508)
 (wIf (v29508 = 0)
 (wLJ σ29516 y3 (0 : Int32) (fun v29517 =>
 wIf ((lg_cmp v29517 ((v29513).toInt64)) = 0)
 (kI28 σ29516 (bc28 - c29510) (bs28 - c29511) (l5 + (7 : Int32)))
 (Q ((0 : Int32)) σ29516)))
 (kI28 σ29516 (bc28 - c29510) (bs28 - c29511) (l5 + (7 : Int32))))
 (Q ((0 : Int32)) σ29516))))) X)))
 (wIf ((v29003 &&& (63 : Int32)) = (43 : Int32))
 (wLI σ a29001 (l5 + (1 : Int32)) (fun v29518 =>
 wC bc28 bs28 (fun c29521 c29522 =>
 W_X0_tripping G c29521 c29522 σ  (some y1) (v29518) (some y3) (fun v29519 σ29520 =>
 wLI σ29520 a29001 (l5 + (1 : Int32)) (fun v29523 =>
 wMI σ29520 y2 (fun s_ => P_tripping s_ v29523) (fun v29524 σ29525 =>
 wMI σ29525 y2 (fun s_ => P_thrown s_ ) (fun v29526 σ29527 =>
 wIf (v29526 = v29519)
 (wIf (v29519 = 0)
 (wLJ σ29527 y3 (0 : Int32) (fun v29528 =>
 wIf ((lg_cmp v29528 ((v29524).toInt64)) = 0)
 (kI28 σ29527 (bc28 - c29521) (bs28 - c29522) (l5 + (7 : Int32)))
 (Q ((0 : Int32)) σ29527)))
 (kI28 σ29527 (bc28 - c29521) (bs28 - c29522) (l5 + (7 : Int32))))
 (Q ((0 : Int32)) σ29527))))) X)))
 (wIf ((v29003 &&& (63 : Int32)) = (44 : Int32))
 (wLI σ a29001 (l5 + (1 : Int32)) (fun v29529 =>
 wLI σ a29001 (l5 + (2 : Int32)) (fun v29530 =>
 wLI σ a29001 (l5 + (3 : Int32)) (fun v29531 =>
 wC bc28 bs28 (fun c29534 c29535 =>
 W_X0_featureAfter G c29534 c29535 σ  (some y1) (v29529) (v29530) (v29531) (some y4) (fun v29532 σ29533 =>
 wLI σ29533 a29001 (l5 + (1 : Int32)) (fun v29536 =>
 wLI σ29533 a29001 (l5 + (2 : Int32)) (fun v29537 =>
 wLI σ29533 a29001 (l5 + (3 : Int32)) (fun v29538 =>
 wMF σ29533 y2 (fun s_ => P_featureAfter s_ v29536 v29537 v29538) (fun v29539 σ29540 =>
 wMI σ29540 y2 (fun s_ => P_thrown s_ ) (fun v29541 σ29542 =>
 wIf (v29541 = v29532)
 (wIf (v29532 = 0)
 (wLD σ29542 y4 (0 : Int32) (fun v29543 =>
 wD (FP.f2d v29539) (fun v29544 =>
 wIf ((Op.cmpValue (FP.dcmp v29543 v29544) .l) = 0)
 (kI28 σ29542 (bc28 - c29534) (bs28 - c29535) (l5 + (7 : Int32)))
 (wLD σ29542 y4 (0 : Int32) (fun v29545 =>
 wLD σ29542 y4 (0 : Int32) (fun v29546 =>
 wIf ((Op.cmpValue (FP.dcmp v29545 v29546) .l) = 0)
 (Q ((0 : Int32)) σ29542)
 (wIf ((Op.cmpValue (FP.fcmp v29539 v29539) .l) = 0)
 (Q ((0 : Int32)) σ29542)
 (kI28 σ29542 (bc28 - c29534) (bs28 - c29535) (l5 + (7 : Int32))))))))))
 (kI28 σ29542 (bc28 - c29534) (bs28 - c29535) (l5 + (7 : Int32))))
 (Q ((0 : Int32)) σ29542))))))) X)))))
 (wIf ((v29003 &&& (63 : Int32)) = (45 : Int32))
 (wLI σ a29001 (l5 + (1 : Int32)) (fun v29547 =>
 wC bc28 bs28 (fun c29550 c29551 =>
 W_X0_culprit G c29550 c29551 σ  (some y1) (v29547) (some y3) (fun v29548 σ29549 =>
 wLI σ29549 a29001 (l5 + (1 : Int32)) (fun v29552 =>
 wMI σ29549 y2 (fun s_ => P_culprit s_ v29552) (fun v29553 σ29554 =>
 wMI σ29554 y2 (fun s_ => P_thrown s_ ) (fun v29555 σ29556 =>
 wIf (v29555 = v29548)
 (wIf (v29548 = 0)
 (wLJ σ29556 y3 (0 : Int32) (fun v29557 =>
 wIf ((lg_cmp v29557 ((v29553).toInt64)) = 0)
 (kI28 σ29556 (bc28 - c29550) (bs28 - c29551) (l5 + (7 : Int32)))
 (Q ((0 : Int32)) σ29556)))
 (kI28 σ29556 (bc28 - c29550) (bs28 - c29551) (l5 + (7 : Int32))))
 (Q ((0 : Int32)) σ29556))))) X)))
 (wIf ((v29003 &&& (63 : Int32)) = (46 : Int32))
 (wLI σ a29001 (l5 + (1 : Int32)) (fun v29558 =>
 wC bc28 bs28 (fun c29561 c29562 =>
 W_X0_hitsAhead G c29561 c29562 σ  (some y1) (v29558) (some y3) (fun v29559 σ29560 =>
 wLI σ29560 a29001 (l5 + (1 : Int32)) (fun v29563 =>
 wMI σ29560 y2 (fun s_ => P_hitsAhead s_ v29563) (fun v29564 σ29565 =>
 wMI σ29565 y2 (fun s_ => P_thrown s_ ) (fun v29566 σ29567 =>
 wIf (v29566 = v29559)
 (wIf (v29559 = 0)
 (wLJ σ29567 y3 (0 : Int32) (fun v29568 =>
 wIf ((lg_cmp v29568 ((v29564).toInt64)) = 0)
 (kI28 σ29567 (bc28 - c29561) (bs28 - c29562) (l5 + (7 : Int32)))
 (Q ((0 : Int32)) σ29567)))
 (kI28 σ29567 (bc28 - c29561) (bs28 - c29562) (l5 + (7 : Int32))))
 (Q ((0 : Int32)) σ29567))))) X)))
 (wIf ((v29003 &&& (63 : Int32)) = (47 : Int32))
 (wLI σ a29001 (l5 + (1 : Int32)) (fun v29569 =>
 wC bc28 bs28 (fun c29572 c29573 =>
 W_X0_largestCount G c29572 c29573 σ  (some y1) (v29569) (some y3) (fun v29570 σ29571 =>
 wLI σ29571 a29001 (l5 + (1 : Int32)) (fun v29574 =>
 wMI σ29571 y2 (fun s_ => P_largestCount s_ v29574) (fun v29575 σ29576 =>
 wMI σ29576 y2 (fun s_ => P_thrown s_ ) (fun v29577 σ29578 =>
 wIf (v29577 = v29570)
 (wIf (v29570 = 0)
 (wLJ σ29578 y3 (0 : Int32) (fun v29579 =>
 wIf ((lg_cmp v29579 ((v29575).toInt64)) = 0)
 (kI28 σ29578 (bc28 - c29572) (bs28 - c29573) (l5 + (7 : Int32)))
 (Q ((0 : Int32)) σ29578)))
 (kI28 σ29578 (bc28 - c29572) (bs28 - c29573) (l5 + (7 : Int32))))
 (Q ((0 : Int32)) σ29578))))) X)))
 (wIf ((v29003 &&& (63 : Int32)) = (48 : Int32))
 ((wR σ y1 0 ∧
 W_X1_totalMean G σ y1  (fun v29580 σ29581 =>
 wD (FP.f2d v29580) (fun v29582 =>
 wMF σ29581 y2 (fun s_ => P_totalMean s_ ) (fun v29583 σ29584 =>
 wD (FP.f2d v29583) (fun v29585 =>
 wIf ((Op.cmpValue (FP.dcmp v29582 v29585) .l) = 0)
 (kI28 σ29584 bc28 bs28 (l5 + (7 : Int32)))
 (wIf ((Op.cmpValue (FP.dcmp v29582 v29582) .l) = 0)
 (Q ((0 : Int32)) σ29584)
 (wIf ((Op.cmpValue (FP.dcmp v29585 v29585) .l) = 0)
 (Q ((0 : Int32)) σ29584)
 (kI28 σ29584 bc28 bs28 (l5 + (7 : Int32))))))))) X))
 (wIf ((v29003 &&& (63 : Int32)) = (49 : Int32))
 (wLI σ a29001 (l5 + (1 : Int32)) (fun v29586 =>
 wLI σ a29001 (l5 + (2 : Int32)) (fun v29587 =>
 wC bc28 bs28 (fun c29590 c29591 =>
 W_X0_loadSample G c29590 c29591 σ  (some y1) (v29586) (v29587) (some y4) (fun v29588 σ29589 =>
 wLI σ29589 a29001 (l5 + (1 : Int32)) (fun v29592 =>
 wLI σ29589 a29001 (l5 + (2 : Int32)) (fun v29593 =>
 wMF σ29589 y2 (fun s_ => P_loadSample s_ v29592 v29593) (fun v29594 σ29595 =>
 wMI σ29595 y2 (fun s_ => P_thrown s_ ) (fun v29596 σ29597 =>
 wIf (v29596 = v29588)
 (wIf (v29588 = 0)
 (wLD σ29597 y4 (0 : Int32) (fun v29598 =>
 wD (FP.f2d v29594) (fun v29599 =>
 wIf ((Op.cmpValue (FP.dcmp v29598 v29599) .l) = 0)
 (kI28 σ29597 (bc28 - c29590) (bs28 - c29591) (l5 + (7 : Int32)))
 (wLD σ29597 y4 (0 : Int32) (fun v29600 =>
 wLD σ29597 y4 (0 : Int32) (fun v29601 =>
 wIf ((Op.cmpValue (FP.dcmp v29600 v29601) .l) = 0)
 (Q ((0 : Int32)) σ29597)
 (wIf ((Op.cmpValue (FP.fcmp v29594 v29594) .l) = 0)
 (Q ((0 : Int32)) σ29597)
 (kI28 σ29597 (bc28 - c29590) (bs28 - c29591) (l5 + (7 : Int32))))))))))
 (kI28 σ29597 (bc28 - c29590) (bs28 - c29591) (l5 + (7 : Int32))))
 (Q ((0 : Int32)) σ29597)))))) X))))
 (wIf ((v29003 &&& (63 : Int32)) = (50 : Int32))
 (wC bc28 bs28 (fun c29604 c29605 =>
 W_X0_undo G c29604 c29605 σ  (some y1) (some y3) (fun v29602 σ29603 =>
 wMI σ29603 y2 (fun s_ => P_undo s_ ) (fun v29606 σ29607 =>
 wMI σ29607 y2 (fun s_ => P_thrown s_ ) (fun v29608 σ29609 =>
 wIf (v29608 = v29602)
 (wIf (v29602 = 0)
 (wLJ σ29609 y3 (0 : Int32) (fun v29610 =>
 wIf ((lg_cmp v29610 ((v29606).toInt64)) = 0)
 (kI28 σ29609 (bc28 - c29604) (bs28 - c29605) (l5 + (7 : Int32)))
 (Q ((0 : Int32)) σ29609)))
 (kI28 σ29609 (bc28 - c29604) (bs28 - c29605) (l5 + (7 : Int32))))
 (Q ((0 : Int32)) σ29609)))) X))
 (wIf ((v29003 &&& (63 : Int32)) = (51 : Int32))
 ((wR σ y1 0 ∧
 W_X1_undoCount G σ y1  (fun v29611 σ29612 =>
 wMI σ29612 y2 (fun s_ => P_undoCount s_ ) (fun v29613 σ29614 =>
 wIf (v29611 = v29613)
 (kI28 σ29614 bc28 bs28 (l5 + (7 : Int32)))
 (Q ((0 : Int32)) σ29614))) X))
 (wIf ((v29003 &&& (63 : Int32)) = (52 : Int32))
 (wLI σ a29001 (l5 + (1 : Int32)) (fun v29615 =>
 wC bc28 bs28 (fun c29618 c29619 =>
 W_X0_writeTrip G c29618 c29619 σ  (some y1) (v29615) (some y3) (fun v29616 σ29617 =>
 wLI σ29617 a29001 (l5 + (1 : Int32)) (fun v29620 =>
 wMI σ29617 y2 (fun s_ => P_writeTrip s_ v29620) (fun v29621 σ29622 =>
 wMI σ29622 y2 (fun s_ => P_thrown s_ ) (fun v29623 σ29624 =>
 wIf (v29623 = v29616)
 (wIf (v29616 = 0)
 (wLJ σ29624 y3 (0 : Int32) (fun v29625 =>
 wIf ((lg_cmp v29625 ((v29621).toInt64)) = 0)
 (kI28 σ29624 (bc28 - c29618) (bs28 - c29619) (l5 + (7 : Int32)))
 (Q ((0 : Int32)) σ29624)))
 (kI28 σ29624 (bc28 - c29618) (bs28 - c29619) (l5 + (7 : Int32))))
 (Q ((0 : Int32)) σ29624))))) X)))
 (wIf ((v29003 &&& (63 : Int32)) = (53 : Int32))
 (wLI σ a29001 (l5 + (1 : Int32)) (fun v29626 =>
 wC bc28 bs28 (fun c29629 c29630 =>
 W_X0_outputByte G c29629 c29630 σ  (some y1) (v29626) (some y3) (fun v29627 σ29628 =>
 wLI σ29628 a29001 (l5 + (1 : Int32)) (fun v29631 =>
 wMI σ29628 y2 (fun s_ => P_outputByte s_ v29631) (fun v29632 σ29633 =>
 wMI σ29633 y2 (fun s_ => P_thrown s_ ) (fun v29634 σ29635 =>
 wIf (v29634 = v29627)
 (wIf (v29627 = 0)
 (wLJ σ29635 y3 (0 : Int32) (fun v29636 =>
 wIf ((lg_cmp v29636 ((v29632).toInt64)) = 0)
 (kI28 σ29635 (bc28 - c29629) (bs28 - c29630) (l5 + (7 : Int32)))
 (Q ((0 : Int32)) σ29635)))
 (kI28 σ29635 (bc28 - c29629) (bs28 - c29630) (l5 + (7 : Int32))))
 (Q ((0 : Int32)) σ29635))))) X)))
 (kI28 σ bc28 bs28 (l5 + (7 : Int32))))))))))))))))))))))))))))))))))))))))))))))))))))))))))))
def W_L_law (G : KG) (bc bs : Nat) (σ : KHp) (x0 : Option Nat) (Q : Int32 → KHp → Prop) (X : String → Nat → KHp → Prop) : Prop :=
  wN bc bs σ 0 [.null, .null, .null, .int 0, .int 0, .int 0, .null] (fun q1 σ2 =>
 wC (bc - 1) (bs - 7) (fun c5 c6 =>
 W_X1_init G c5 c6 σ2 q1  (fun σ4 =>
 wN (bc - 1 - c5) (bs - 7 - c6) σ4 4 [.int 0, .null, .null, .null, .null, .null, .int 0, .int 0, .int 0, .int 0, .int 0, .int 0, .int 0, .int 0, .int 0, .null, .null, .null, .null, .null, .null, .null, .null, .int 0, .null, .int 0] (fun q7 σ8 =>
 wC (bc - 1 - c5 - 1) (bs - 7 - c6 - 26) (fun c11 c12 =>
 W_X6_init G c11 c12 σ8 q7  (fun σ10 =>
 wNA (bc - 1 - c5 - 1 - c11) (bs - 7 - c6 - 26 - c12) σ10 .long (.inr (.inl (fun _ => 0))) (1 : Int32) (fun n15 q13 σ14 =>
 wNA (bc - 1 - c5 - 1 - c11 - 1) (bs - 7 - c6 - 26 - c12 - n15) σ14 .double (.inr (.inr (.inr (.inl (fun _ => 0))))) (1 : Int32) (fun n18 q16 σ17 =>
 loopW3 (WB_L_law_28 G Q X  x0 q1 q7 q13 q16) 9000 σ17 (bc - 1 - c5 - 1 - c11 - 1 - 1) (bs - 7 - c6 - 26 - c12 - n15 - n18) (0 : Int32)))) X))) X))
def yL_law : MethodName := ⟨"ArcRecorderLaw", "law", "([I)Z"⟩
set_option maxHeartbeats 40000000 in
theorem kw_L_law {G : KG} {bc bs : Nat} {σ : KHp} {x0 : Option Nat} {Q : Int32 → KHp → Prop} {X : String → Nat → KHp → Prop} {Q1 : KQ} {X1 : KX} (hQ : ∀ v σ', (∃ r, v = some (.int r) ∧ Q r σ') → Q1 v σ') (hX : ∀ E q σ', X E q σ' → X1 E q σ') (h : W_L_law G bc bs σ x0 Q X) : kx G (yL_law.cls, cL_law, 10, (Option.some Jvm.ClassFile.FieldType.boolean), false, []) (17, bc, bs, Q1, X1) (bc) (bs) σ 0 (kF [(0, va_rf x0)]) [] := by
  unfold W_L_law at h
  refine kW_new dL_law_0 kc_X1 q200 q201 q143 rfl h (fun q1 σ2 h => ?_)
  refine kx_dup dL_law_3 rfl ?_
  obtain ⟨c5, c6, hc, hs, h⟩ := h
  refine kx_callI dL_law_4 lk_X0_162 (kw_X1_init h) rfl rfl (Nat.le_of_ble_eq_true rfl) (Nat.le_of_ble_eq_true rfl) (Nat.le_of_ble_eq_true rfl) hc hs (fun _ _ _ hx => kx_out rfl (hX _ _ _ hx)) (fun v_ σ4 hq => ?_)
  obtain ⟨rfl, h⟩ := hq
  refine kx_astore_n dL_law_7 rfl (Nat.le_of_ble_eq_true rfl) ?_
  refine kx_lwF [(0, va_rf (x0)), (1, .ref (q1))] (by cases x0 <;> exact ⟨rfl, rfl, trivial⟩) ?_
  refine kW_new dL_law_8 kc_X6 q2743 q2744 q171 rfl h (fun q7 σ8 h => ?_)
  refine kx_dup dL_law_11 rfl ?_
  obtain ⟨c11, c12, hc, hs, h⟩ := h
  refine kx_callI dL_law_12 lk_X0_165 (kw_X6_init h) rfl rfl (Nat.le_of_ble_eq_true rfl) (Nat.le_of_ble_eq_true rfl) (Nat.le_of_ble_eq_true rfl) hc hs (fun _ _ _ hx => kx_out rfl (hX _ _ _ hx)) (fun v_ σ10 hq => ?_)
  obtain ⟨rfl, h⟩ := hq
  refine kx_astore_n dL_law_15 rfl (Nat.le_of_ble_eq_true rfl) ?_
  refine kx_iconst (v := 1) dL_law_16 (by decide) ?_
  refine kW_newa dL_law_17 rfl q3452 (fun _ _ => rfl) h (fun n15 q13 σ14 h => ?_)
  refine kx_astore_n dL_law_19 rfl (Nat.le_of_ble_eq_true rfl) ?_
  refine kx_iconst (v := 1) dL_law_20 (by decide) ?_
  refine kW_newa dL_law_21 rfl q3453 (fun _ _ => rfl) h (fun n18 q16 σ17 h => ?_)
  refine kx_astore dL_law_23 (Nat.le_of_ble_eq_true rfl) ?_
  refine kx_iconst (v := 0) dL_law_25 (by decide) ?_
  refine kx_istore dL_law_26 (Nat.le_of_ble_eq_true rfl) ?_
  refine kx_lwF [(0, va_rf (x0)), (1, .ref (q1)), (2, .ref (q7)), (3, .ref (q13)), (4, .ref (q16)), (5, .int ((0 : Int32)))] ⟨rfl, rfl, rfl, rfl, rfl, rfl, trivial⟩ ?_
  refine loopW3_k (fun (σ : KHp) (bc28 bs28 : Nat) (l5 : Int32) => kx G (yL_law.cls, cL_law, 10, (Option.some Jvm.ClassFile.FieldType.boolean), false, []) (17, bc, bs, Q1, X1) (bc28) (bs28) σ 28 (kF [(0, va_rf (x0)), (1, .ref (q1)), (2, .ref (q7)), (3, .ref (q13)), (4, .ref (q16)), (5, .int (l5))]) []) (fun kI28 hI28 σ bc28 bs28 l5 h => ?_) 9000 σ17 (bc - 1 - c5 - 1 - c11 - 1 - 1) (bs - 7 - c6 - 26 - c12 - n15 - n18) (0 : Int32) h
  unfold WB_L_law_28 at h
  refine kx_iload dL_law_28 rfl ?_
  refine kx_aload_nO dL_law_30 rfl rfl ?_
  obtain ⟨a29001, rfl, hUa29001⟩ := h
  have h := hUa29001
  refine kW_len dL_law_31 h (fun v29002 h => ?_)
  refine kx_bipush (v := 7) dL_law_32 (by decide) ?_
  refine kx_isub dL_law_34 ?_
  refine kx_icmp_gt (tgt := 3381) dL_law_35 (by decide) (fun c => ?_) (fun c => ?_)
  · have h := w_ift c h
    refine kx_iconst (v := 1) dL_law_3381 (by decide) ?_
    exact kx_zret dL_law_3382 rfl rfl (hQ _ _ ⟨_, rfl, h⟩)
  · have h := w_iff c h
    refine kx_aload_n dL_law_38 rfl rfl ?_
    refine kx_iload dL_law_39 rfl ?_
    refine kW_lI dL_law_41 h (fun v29003 h => ?_)
    refine kx_bipush (v := 63) dL_law_42 (by decide) ?_
    refine kx_iand dL_law_44 ?_
    by_cases c0 : (v29003 &&& (63 : Int32)) = (0 : Int32)
    · have h := w_ift c0 h
      refine kx_tableIn (tgt := 276) dL_law_45 (by rw [c0]; decide) (by rw [c0]; decide) (by rw [c0]; rfl) (by decide) ?_
      refine kx_aload_n dL_law_276 rfl rfl ?_
      refine kx_aload_n dL_law_277 rfl rfl ?_
      refine kx_iload dL_law_278 rfl ?_
      refine kx_iconst (v := 1) dL_law_280 (by decide) ?_
      refine kx_iadd dL_law_281 ?_
      refine kW_lI dL_law_282 h (fun v29004 h => ?_)
      refine kx_aload_n dL_law_283 rfl rfl ?_
      refine kx_iload dL_law_284 rfl ?_
      refine kx_iconst (v := 2) dL_law_286 (by decide) ?_
      refine kx_iadd dL_law_287 ?_
      refine kW_lI dL_law_288 h (fun v29005 h => ?_)
      refine kx_aload_n dL_law_289 rfl rfl ?_
      refine kx_iload dL_law_290 rfl ?_
      refine kx_iconst (v := 3) dL_law_292 (by decide) ?_
      refine kx_iadd dL_law_293 ?_
      refine kW_lI dL_law_294 h (fun v29006 h => ?_)
      refine kx_aload_n dL_law_295 rfl rfl ?_
      refine kx_iload dL_law_296 rfl ?_
      refine kx_iconst (v := 4) dL_law_298 (by decide) ?_
      refine kx_iadd dL_law_299 ?_
      refine kW_lI dL_law_300 h (fun v29007 h => ?_)
      refine kx_aload_n dL_law_301 rfl rfl ?_
      refine kx_iload dL_law_302 rfl ?_
      refine kx_iconst (v := 5) dL_law_304 (by decide) ?_
      refine kx_iadd dL_law_305 ?_
      refine kW_lI dL_law_306 h (fun v29008 h => ?_)
      refine kx_aload_n dL_law_307 rfl rfl ?_
      obtain ⟨c29011, c29012, hc, hs, h⟩ := h
      refine kx_callSX dL_law_308 lk_X0_166 (kw_X0_append h) rfl rfl (Nat.le_of_ble_eq_true rfl) (Nat.le_of_ble_eq_true rfl) (Nat.le_of_ble_eq_true rfl) hc hs (fun _ _ _ hx => kx_out rfl (hX _ _ _ hx)) (fun v_ σ29010 hq => ?_)
      obtain ⟨v29009, rfl, h⟩ := hq
      refine kx_istore dL_law_311 (Nat.le_of_ble_eq_true rfl) ?_
      refine kx_aload_n dL_law_313 rfl rfl ?_
      refine kx_aload_n dL_law_314 rfl rfl ?_
      refine kx_iload dL_law_315 rfl ?_
      refine kx_iconst (v := 1) dL_law_317 (by decide) ?_
      refine kx_iadd dL_law_318 ?_
      refine kW_lI dL_law_319 h (fun v29013 h => ?_)
      refine kx_aload_n dL_law_320 rfl rfl ?_
      refine kx_iload dL_law_321 rfl ?_
      refine kx_iconst (v := 2) dL_law_323 (by decide) ?_
      refine kx_iadd dL_law_324 ?_
      refine kW_lI dL_law_325 h (fun v29014 h => ?_)
      refine kx_aload_n dL_law_326 rfl rfl ?_
      refine kx_iload dL_law_327 rfl ?_
      refine kx_iconst (v := 3) dL_law_329 (by decide) ?_
      refine kx_iadd dL_law_330 ?_
      refine kW_lI dL_law_331 h (fun v29015 h => ?_)
      refine kx_aload_n dL_law_332 rfl rfl ?_
      refine kx_iload dL_law_333 rfl ?_
      refine kx_iconst (v := 4) dL_law_335 (by decide) ?_
      refine kx_iadd dL_law_336 ?_
      refine kW_lI dL_law_337 h (fun v29016 h => ?_)
      refine kx_aload_n dL_law_338 rfl rfl ?_
      refine kx_iload dL_law_339 rfl ?_
      refine kx_iconst (v := 5) dL_law_341 (by decide) ?_
      refine kx_iadd dL_law_342 ?_
      refine kW_lI dL_law_343 h (fun v29017 h => ?_)
      refine kW_MI dL_law_344 lk_X0_171 (fun hd_ h_ => mM_append hd_ h_) rfl rfl (Nat.le_of_ble_eq_true rfl) (Nat.le_of_ble_eq_true rfl) (Nat.le_of_ble_eq_true rfl) h (fun v29018 σ29019 h => ?_)
      refine kx_istore dL_law_347 (Nat.le_of_ble_eq_true rfl) ?_
      refine kx_aload_n dL_law_349 rfl rfl ?_
      refine kW_MI dL_law_350 lk_X0_172 (fun hd_ h_ => mM_thrown hd_ h_) rfl rfl (Nat.le_of_ble_eq_true rfl) (Nat.le_of_ble_eq_true rfl) (Nat.le_of_ble_eq_true rfl) h (fun v29020 σ29021 h => ?_)
      refine kx_iload dL_law_353 rfl ?_
      refine kx_icmp_eq (tgt := 360) dL_law_355 (by decide) (fun c => ?_) (fun c => ?_)
      · have h := w_ift c h
        refine kx_iload dL_law_360 rfl ?_
        refine kx_if_ne (tgt := 377) dL_law_362 (by decide) (fun c => ?_) (fun c => ?_)
        · have h := w_iff c h
          refine kx_goto (tgt := 3375) dL_law_377 (by decide) ?_
          refine kx_iinc2 (v := 7) dL_law_3375 rfl (by decide) ?_
          refine kx_goto (tgt := 28) dL_law_3378 (by decide) ?_
          exact kx_lwF [(0, .ref (a29001)), (1, .ref (q1)), (2, .ref (q7)), (3, .ref (q13)), (4, .ref (q16)), (5, .int ((l5 + (7 : Int32))))] ⟨rfl, rfl, rfl, rfl, rfl, rfl, trivial⟩ (hI28 _ _ _ _ h)
        · have h := w_ift c h
          refine kx_aload_n dL_law_365 rfl rfl ?_
          refine kx_iconst (v := 0) dL_law_366 (by decide) ?_
          refine kW_lJ dL_law_367 h (fun v29022 h => ?_)
          refine kx_iload dL_law_368 rfl ?_
          refine kx_i2l dL_law_370 rfl ?_
          refine kx_lcmp dL_law_371 ?_
          refine kx_if_eq (tgt := 377) dL_law_372 (by decide) (fun c => ?_) (fun c => ?_)
          · have h := w_ift c h
            refine kx_goto (tgt := 3375) dL_law_377 (by decide) ?_
            refine kx_iinc2 (v := 7) dL_law_3375 rfl (by decide) ?_
            refine kx_goto (tgt := 28) dL_law_3378 (by decide) ?_
            exact kx_lwF [(0, .ref (a29001)), (1, .ref (q1)), (2, .ref (q7)), (3, .ref (q13)), (4, .ref (q16)), (5, .int ((l5 + (7 : Int32))))] ⟨rfl, rfl, rfl, rfl, rfl, rfl, trivial⟩ (hI28 _ _ _ _ h)
          · have h := w_iff c h
            refine kx_iconst (v := 0) dL_law_375 (by decide) ?_
            exact kx_zret dL_law_376 rfl rfl (hQ _ _ ⟨_, rfl, h⟩)
      · have h := w_iff c h
        refine kx_iconst (v := 0) dL_law_358 (by decide) ?_
        exact kx_zret dL_law_359 rfl rfl (hQ _ _ ⟨_, rfl, h⟩)
    have h := w_iff c0 h
    by_cases c1 : (v29003 &&& (63 : Int32)) = (1 : Int32)
    · have h := w_ift c1 h
      refine kx_tableIn (tgt := 380) dL_law_45 (by rw [c1]; decide) (by rw [c1]; decide) (by rw [c1]; rfl) (by decide) ?_
      refine kx_aload_n dL_law_380 rfl rfl ?_
      refine kx_aload_n dL_law_381 rfl rfl ?_
      refine kx_iload dL_law_382 rfl ?_
      refine kx_iconst (v := 1) dL_law_384 (by decide) ?_
      refine kx_iadd dL_law_385 ?_
      refine kW_lI dL_law_386 h (fun v29023 h => ?_)
      obtain ⟨c29026, c29027, hc, hs, h⟩ := h
      refine kx_callSX dL_law_387 lk_X0_175 (kw_X0_truncate h) rfl rfl (Nat.le_of_ble_eq_true rfl) (Nat.le_of_ble_eq_true rfl) (Nat.le_of_ble_eq_true rfl) hc hs (fun _ _ _ hx => kx_out rfl (hX _ _ _ hx)) (fun v_ σ29025 hq => ?_)
      obtain ⟨v29024, rfl, h⟩ := hq
      refine kx_istore dL_law_390 (Nat.le_of_ble_eq_true rfl) ?_
      refine kx_aload_n dL_law_392 rfl rfl ?_
      refine kx_aload_n dL_law_393 rfl rfl ?_
      refine kx_iload dL_law_394 rfl ?_
      refine kx_iconst (v := 1) dL_law_396 (by decide) ?_
      refine kx_iadd dL_law_397 ?_
      refine kW_lI dL_law_398 h (fun v29028 h => ?_)
      refine kW_MV dL_law_399 lk_X0_178 (fun hd_ h_ => mM_truncate hd_ h_) rfl rfl (Nat.le_of_ble_eq_true rfl) (Nat.le_of_ble_eq_true rfl) (Nat.le_of_ble_eq_true rfl) h (fun σ29030 h => ?_)
      refine kx_aload_n dL_law_402 rfl rfl ?_
      refine kW_MI dL_law_403 lk_X0_172 (fun hd_ h_ => mM_thrown hd_ h_) rfl rfl (Nat.le_of_ble_eq_true rfl) (Nat.le_of_ble_eq_true rfl) (Nat.le_of_ble_eq_true rfl) h (fun v29031 σ29032 h => ?_)
      refine kx_iload dL_law_406 rfl ?_
      refine kx_icmp_eq (tgt := 413) dL_law_408 (by decide) (fun c => ?_) (fun c => ?_)
      · have h := w_ift c h
        refine kx_goto (tgt := 3375) dL_law_413 (by decide) ?_
        refine kx_iinc2 (v := 7) dL_law_3375 rfl (by decide) ?_
        refine kx_goto (tgt := 28) dL_law_3378 (by decide) ?_
        exact kx_lwF [(0, .ref (a29001)), (1, .ref (q1)), (2, .ref (q7)), (3, .ref (q13)), (4, .ref (q16)), (5, .int ((l5 + (7 : Int32))))] ⟨rfl, rfl, rfl, rfl, rfl, rfl, trivial⟩ (hI28 _ _ _ _ h)
      · have h := w_iff c h
        refine kx_iconst (v := 0) dL_law_411 (by decide) ?_
        exact kx_zret dL_law_412 rfl rfl (hQ _ _ ⟨_, rfl, h⟩)
    have h := w_iff c1 h
    by_cases c2 : (v29003 &&& (63 : Int32)) = (2 : Int32)
    · have h := w_ift c2 h
      refine kx_tableIn (tgt := 416) dL_law_45 (by rw [c2]; decide) (by rw [c2]; decide) (by rw [c2]; rfl) (by decide) ?_
      refine kx_aload_n dL_law_416 rfl rfl ?_
      obtain ⟨hr, h⟩ := h
      obtain ⟨c29035, c29036, hc, hs, h⟩ := h
      refine kx_callVX dL_law_417 lk_X0_179 (kw_X1_load h) rfl (wR_rc hr rfl) rfl (Nat.le_of_ble_eq_true rfl) (Nat.le_of_ble_eq_true rfl) (Nat.le_of_ble_eq_true rfl) hc hs (fun _ _ _ hx => kx_out rfl (hX _ _ _ hx)) (fun v_ σ29034 hq => ?_)
      obtain ⟨v29033, rfl, h⟩ := hq
      refine kx_aload_n dL_law_420 rfl rfl ?_
      refine kW_MI dL_law_421 lk_X0_182 (fun hd_ h_ => mM_load hd_ h_) rfl rfl (Nat.le_of_ble_eq_true rfl) (Nat.le_of_ble_eq_true rfl) (Nat.le_of_ble_eq_true rfl) h (fun v29037 σ29038 h => ?_)
      refine kx_icmp_eq (tgt := 3375) dL_law_424 (by decide) (fun c => ?_) (fun c => ?_)
      · have h := w_ift c h
        refine kx_iinc2 (v := 7) dL_law_3375 rfl (by decide) ?_
        refine kx_goto (tgt := 28) dL_law_3378 (by decide) ?_
        exact kx_lwF [(0, .ref (a29001)), (1, .ref (q1)), (2, .ref (q7)), (3, .ref (q13)), (4, .ref (q16)), (5, .int ((l5 + (7 : Int32))))] ⟨rfl, rfl, rfl, rfl, rfl, rfl, trivial⟩ (hI28 _ _ _ _ h)
      · have h := w_iff c h
        refine kx_iconst (v := 0) dL_law_427 (by decide) ?_
        exact kx_zret dL_law_428 rfl rfl (hQ _ _ ⟨_, rfl, h⟩)
    have h := w_iff c2 h
    by_cases c3 : (v29003 &&& (63 : Int32)) = (3 : Int32)
    · have h := w_ift c3 h
      refine kx_tableIn (tgt := 429) dL_law_45 (by rw [c3]; decide) (by rw [c3]; decide) (by rw [c3]; rfl) (by decide) ?_
      refine kx_aload_n dL_law_429 rfl rfl ?_
      obtain ⟨hr, h⟩ := h
      refine kx_callV dL_law_430 lk_X0_183 (kw_X1_errorCode h) rfl (wR_rc hr rfl) rfl (Nat.le_of_ble_eq_true rfl) (Nat.le_of_ble_eq_true rfl) (Nat.le_of_ble_eq_true rfl) (Nat.le_of_ble_eq_true rfl) (Nat.le_of_ble_eq_true rfl) (fun _ _ _ hx => kx_out rfl (hX _ _ _ hx)) (fun v_ σ29040 hq => ?_)
      obtain ⟨v29039, rfl, h⟩ := hq
      refine kx_aload_n dL_law_433 rfl rfl ?_
      refine kW_MI dL_law_434 lk_X0_186 (fun hd_ h_ => mM_errorCode hd_ h_) rfl rfl (Nat.le_of_ble_eq_true rfl) (Nat.le_of_ble_eq_true rfl) (Nat.le_of_ble_eq_true rfl) h (fun v29041 σ29042 h => ?_)
      refine kx_icmp_eq (tgt := 3375) dL_law_437 (by decide) (fun c => ?_) (fun c => ?_)
      · have h := w_ift c h
        refine kx_iinc2 (v := 7) dL_law_3375 rfl (by decide) ?_
        refine kx_goto (tgt := 28) dL_law_3378 (by decide) ?_
        exact kx_lwF [(0, .ref (a29001)), (1, .ref (q1)), (2, .ref (q7)), (3, .ref (q13)), (4, .ref (q16)), (5, .int ((l5 + (7 : Int32))))] ⟨rfl, rfl, rfl, rfl, rfl, rfl, trivial⟩ (hI28 _ _ _ _ h)
      · have h := w_iff c h
        refine kx_iconst (v := 0) dL_law_440 (by decide) ?_
        exact kx_zret dL_law_441 rfl rfl (hQ _ _ ⟨_, rfl, h⟩)
    have h := w_iff c3 h
    by_cases c4 : (v29003 &&& (63 : Int32)) = (4 : Int32)
    · have h := w_ift c4 h
      refine kx_tableIn (tgt := 442) dL_law_45 (by rw [c4]; decide) (by rw [c4]; decide) (by rw [c4]; rfl) (by decide) ?_
      refine kx_aload_n dL_law_442 rfl rfl ?_
      obtain ⟨hr, h⟩ := h
      refine kx_callV dL_law_443 lk_X0_187 (kw_X1_errorPosition h) rfl (wR_rc hr rfl) rfl (Nat.le_of_ble_eq_true rfl) (Nat.le_of_ble_eq_true rfl) (Nat.le_of_ble_eq_true rfl) (Nat.le_of_ble_eq_true rfl) (Nat.le_of_ble_eq_true rfl) (fun _ _ _ hx => kx_out rfl (hX _ _ _ hx)) (fun v_ σ29044 hq => ?_)
      obtain ⟨v29043, rfl, h⟩ := hq
      refine kx_aload_n dL_law_446 rfl rfl ?_
      refine kW_MI dL_law_447 lk_X0_190 (fun hd_ h_ => mM_errorPosition hd_ h_) rfl rfl (Nat.le_of_ble_eq_true rfl) (Nat.le_of_ble_eq_true rfl) (Nat.le_of_ble_eq_true rfl) h (fun v29045 σ29046 h => ?_)
      refine kx_icmp_eq (tgt := 3375) dL_law_450 (by decide) (fun c => ?_) (fun c => ?_)
      · have h := w_ift c h
        refine kx_iinc2 (v := 7) dL_law_3375 rfl (by decide) ?_
        refine kx_goto (tgt := 28) dL_law_3378 (by decide) ?_
        exact kx_lwF [(0, .ref (a29001)), (1, .ref (q1)), (2, .ref (q7)), (3, .ref (q13)), (4, .ref (q16)), (5, .int ((l5 + (7 : Int32))))] ⟨rfl, rfl, rfl, rfl, rfl, rfl, trivial⟩ (hI28 _ _ _ _ h)
      · have h := w_iff c h
        refine kx_iconst (v := 0) dL_law_453 (by decide) ?_
        exact kx_zret dL_law_454 rfl rfl (hQ _ _ ⟨_, rfl, h⟩)
    have h := w_iff c4 h
    by_cases c5 : (v29003 &&& (63 : Int32)) = (5 : Int32)
    · have h := w_ift c5 h
      refine kx_tableIn (tgt := 455) dL_law_45 (by rw [c5]; decide) (by rw [c5]; decide) (by rw [c5]; rfl) (by decide) ?_
      refine kx_aload_n dL_law_455 rfl rfl ?_
      obtain ⟨hr, h⟩ := h
      obtain ⟨c29049, c29050, hc, hs, h⟩ := h
      refine kx_callV dL_law_456 lk_X0_191 (kw_X1_find h) rfl (wR_rc hr rfl) rfl (Nat.le_of_ble_eq_true rfl) (Nat.le_of_ble_eq_true rfl) (Nat.le_of_ble_eq_true rfl) hc hs (fun _ _ _ hx => kx_out rfl (hX _ _ _ hx)) (fun v_ σ29048 hq => ?_)
      obtain ⟨v29047, rfl, h⟩ := hq
      refine kx_aload_n dL_law_459 rfl rfl ?_
      refine kW_MI dL_law_460 lk_X0_194 (fun hd_ h_ => mM_find hd_ h_) rfl rfl (Nat.le_of_ble_eq_true rfl) (Nat.le_of_ble_eq_true rfl) (Nat.le_of_ble_eq_true rfl) h (fun v29051 σ29052 h => ?_)
      refine kx_icmp_eq (tgt := 3375) dL_law_463 (by decide) (fun c => ?_) (fun c => ?_)
      · have h := w_ift c h
        refine kx_iinc2 (v := 7) dL_law_3375 rfl (by decide) ?_
        refine kx_goto (tgt := 28) dL_law_3378 (by decide) ?_
        exact kx_lwF [(0, .ref (a29001)), (1, .ref (q1)), (2, .ref (q7)), (3, .ref (q13)), (4, .ref (q16)), (5, .int ((l5 + (7 : Int32))))] ⟨rfl, rfl, rfl, rfl, rfl, rfl, trivial⟩ (hI28 _ _ _ _ h)
      · have h := w_iff c h
        refine kx_iconst (v := 0) dL_law_466 (by decide) ?_
        exact kx_zret dL_law_467 rfl rfl (hQ _ _ ⟨_, rfl, h⟩)
    have h := w_iff c5 h
    by_cases c6 : (v29003 &&& (63 : Int32)) = (6 : Int32)
    · have h := w_ift c6 h
      refine kx_tableIn (tgt := 468) dL_law_45 (by rw [c6]; decide) (by rw [c6]; decide) (by rw [c6]; rfl) (by decide) ?_
      refine kx_aload_n dL_law_468 rfl rfl ?_
      refine kx_aload_n dL_law_469 rfl rfl ?_
      refine kx_iload dL_law_470 rfl ?_
      refine kx_iconst (v := 1) dL_law_472 (by decide) ?_
      refine kx_iadd dL_law_473 ?_
      refine kW_lI dL_law_474 h (fun v29053 h => ?_)
      refine kx_aload_n dL_law_475 rfl rfl ?_
      obtain ⟨c29056, c29057, hc, hs, h⟩ := h
      refine kx_callSX dL_law_476 lk_X0_195 (kw_X0_count h) rfl rfl (Nat.le_of_ble_eq_true rfl) (Nat.le_of_ble_eq_true rfl) (Nat.le_of_ble_eq_true rfl) hc hs (fun _ _ _ hx => kx_out rfl (hX _ _ _ hx)) (fun v_ σ29055 hq => ?_)
      obtain ⟨v29054, rfl, h⟩ := hq
      refine kx_istore dL_law_479 (Nat.le_of_ble_eq_true rfl) ?_
      refine kx_aload_n dL_law_481 rfl rfl ?_
      refine kx_aload_n dL_law_482 rfl rfl ?_
      refine kx_iload dL_law_483 rfl ?_
      refine kx_iconst (v := 1) dL_law_485 (by decide) ?_
      refine kx_iadd dL_law_486 ?_
      refine kW_lI dL_law_487 h (fun v29058 h => ?_)
      refine kW_MI dL_law_488 lk_X0_198 (fun hd_ h_ => mM_count hd_ h_) rfl rfl (Nat.le_of_ble_eq_true rfl) (Nat.le_of_ble_eq_true rfl) (Nat.le_of_ble_eq_true rfl) h (fun v29059 σ29060 h => ?_)
      refine kx_istore dL_law_491 (Nat.le_of_ble_eq_true rfl) ?_
      refine kx_aload_n dL_law_493 rfl rfl ?_
      refine kW_MI dL_law_494 lk_X0_172 (fun hd_ h_ => mM_thrown hd_ h_) rfl rfl (Nat.le_of_ble_eq_true rfl) (Nat.le_of_ble_eq_true rfl) (Nat.le_of_ble_eq_true rfl) h (fun v29061 σ29062 h => ?_)
      refine kx_iload dL_law_497 rfl ?_
      refine kx_icmp_eq (tgt := 504) dL_law_499 (by decide) (fun c => ?_) (fun c => ?_)
      · have h := w_ift c h
        refine kx_iload dL_law_504 rfl ?_
        refine kx_if_ne (tgt := 521) dL_law_506 (by decide) (fun c => ?_) (fun c => ?_)
        · have h := w_iff c h
          refine kx_goto (tgt := 3375) dL_law_521 (by decide) ?_
          refine kx_iinc2 (v := 7) dL_law_3375 rfl (by decide) ?_
          refine kx_goto (tgt := 28) dL_law_3378 (by decide) ?_
          exact kx_lwF [(0, .ref (a29001)), (1, .ref (q1)), (2, .ref (q7)), (3, .ref (q13)), (4, .ref (q16)), (5, .int ((l5 + (7 : Int32))))] ⟨rfl, rfl, rfl, rfl, rfl, rfl, trivial⟩ (hI28 _ _ _ _ h)
        · have h := w_ift c h
          refine kx_aload_n dL_law_509 rfl rfl ?_
          refine kx_iconst (v := 0) dL_law_510 (by decide) ?_
          refine kW_lJ dL_law_511 h (fun v29063 h => ?_)
          refine kx_iload dL_law_512 rfl ?_
          refine kx_i2l dL_law_514 rfl ?_
          refine kx_lcmp dL_law_515 ?_
          refine kx_if_eq (tgt := 521) dL_law_516 (by decide) (fun c => ?_) (fun c => ?_)
          · have h := w_ift c h
            refine kx_goto (tgt := 3375) dL_law_521 (by decide) ?_
            refine kx_iinc2 (v := 7) dL_law_3375 rfl (by decide) ?_
            refine kx_goto (tgt := 28) dL_law_3378 (by decide) ?_
            exact kx_lwF [(0, .ref (a29001)), (1, .ref (q1)), (2, .ref (q7)), (3, .ref (q13)), (4, .ref (q16)), (5, .int ((l5 + (7 : Int32))))] ⟨rfl, rfl, rfl, rfl, rfl, rfl, trivial⟩ (hI28 _ _ _ _ h)
          · have h := w_iff c h
            refine kx_iconst (v := 0) dL_law_519 (by decide) ?_
            exact kx_zret dL_law_520 rfl rfl (hQ _ _ ⟨_, rfl, h⟩)
      · have h := w_iff c h
        refine kx_iconst (v := 0) dL_law_502 (by decide) ?_
        exact kx_zret dL_law_503 rfl rfl (hQ _ _ ⟨_, rfl, h⟩)
    have h := w_iff c6 h
    by_cases c7 : (v29003 &&& (63 : Int32)) = (7 : Int32)
    · have h := w_ift c7 h
      refine kx_tableIn (tgt := 524) dL_law_45 (by rw [c7]; decide) (by rw [c7]; decide) (by rw [c7]; rfl) (by decide) ?_
      refine kx_aload_n dL_law_524 rfl rfl ?_
      obtain ⟨hr, h⟩ := h
      refine kx_callV dL_law_525 lk_X0_199 (kw_X1_now h) rfl (wR_rc hr rfl) rfl (Nat.le_of_ble_eq_true rfl) (Nat.le_of_ble_eq_true rfl) (Nat.le_of_ble_eq_true rfl) (Nat.le_of_ble_eq_true rfl) (Nat.le_of_ble_eq_true rfl) (fun _ _ _ hx => kx_out rfl (hX _ _ _ hx)) (fun v_ σ29065 hq => ?_)
      obtain ⟨v29064, rfl, h⟩ := hq
      refine kx_aload_n dL_law_528 rfl rfl ?_
      refine kW_MI dL_law_529 lk_X0_202 (fun hd_ h_ => mM_now hd_ h_) rfl rfl (Nat.le_of_ble_eq_true rfl) (Nat.le_of_ble_eq_true rfl) (Nat.le_of_ble_eq_true rfl) h (fun v29066 σ29067 h => ?_)
      refine kx_icmp_eq (tgt := 3375) dL_law_532 (by decide) (fun c => ?_) (fun c => ?_)
      · have h := w_ift c h
        refine kx_iinc2 (v := 7) dL_law_3375 rfl (by decide) ?_
        refine kx_goto (tgt := 28) dL_law_3378 (by decide) ?_
        exact kx_lwF [(0, .ref (a29001)), (1, .ref (q1)), (2, .ref (q7)), (3, .ref (q13)), (4, .ref (q16)), (5, .int ((l5 + (7 : Int32))))] ⟨rfl, rfl, rfl, rfl, rfl, rfl, trivial⟩ (hI28 _ _ _ _ h)
      · have h := w_iff c h
        refine kx_iconst (v := 0) dL_law_535 (by decide) ?_
        exact kx_zret dL_law_536 rfl rfl (hQ _ _ ⟨_, rfl, h⟩)
    have h := w_iff c7 h
    by_cases c8 : (v29003 &&& (63 : Int32)) = (8 : Int32)
    · have h := w_ift c8 h
      refine kx_tableIn (tgt := 537) dL_law_45 (by rw [c8]; decide) (by rw [c8]; decide) (by rw [c8]; rfl) (by decide) ?_
      refine kx_aload_n dL_law_537 rfl rfl ?_
      refine kx_aload_n dL_law_538 rfl rfl ?_
      refine kx_iload dL_law_539 rfl ?_
      refine kx_iconst (v := 1) dL_law_541 (by decide) ?_
      refine kx_iadd dL_law_542 ?_
      refine kW_lI dL_law_543 h (fun v29068 h => ?_)
      refine kx_aload_n dL_law_544 rfl rfl ?_
      obtain ⟨c29071, c29072, hc, hs, h⟩ := h
      refine kx_callSX dL_law_545 lk_X0_203 (kw_X0_rated h) rfl rfl (Nat.le_of_ble_eq_true rfl) (Nat.le_of_ble_eq_true rfl) (Nat.le_of_ble_eq_true rfl) hc hs (fun _ _ _ hx => kx_out rfl (hX _ _ _ hx)) (fun v_ σ29070 hq => ?_)
      obtain ⟨v29069, rfl, h⟩ := hq
      refine kx_istore dL_law_548 (Nat.le_of_ble_eq_true rfl) ?_
      refine kx_aload_n dL_law_550 rfl rfl ?_
      refine kx_aload_n dL_law_551 rfl rfl ?_
      refine kx_iload dL_law_552 rfl ?_
      refine kx_iconst (v := 1) dL_law_554 (by decide) ?_
      refine kx_iadd dL_law_555 ?_
      refine kW_lI dL_law_556 h (fun v29073 h => ?_)
      refine kW_MI dL_law_557 lk_X0_205 (fun hd_ h_ => mM_rated hd_ h_) rfl rfl (Nat.le_of_ble_eq_true rfl) (Nat.le_of_ble_eq_true rfl) (Nat.le_of_ble_eq_true rfl) h (fun v29074 σ29075 h => ?_)
      refine kx_istore dL_law_560 (Nat.le_of_ble_eq_true rfl) ?_
      refine kx_aload_n dL_law_562 rfl rfl ?_
      refine kW_MI dL_law_563 lk_X0_172 (fun hd_ h_ => mM_thrown hd_ h_) rfl rfl (Nat.le_of_ble_eq_true rfl) (Nat.le_of_ble_eq_true rfl) (Nat.le_of_ble_eq_true rfl) h (fun v29076 σ29077 h => ?_)
      refine kx_iload dL_law_566 rfl ?_
      refine kx_icmp_eq (tgt := 573) dL_law_568 (by decide) (fun c => ?_) (fun c => ?_)
      · have h := w_ift c h
        refine kx_iload dL_law_573 rfl ?_
        refine kx_if_ne (tgt := 590) dL_law_575 (by decide) (fun c => ?_) (fun c => ?_)
        · have h := w_iff c h
          refine kx_goto (tgt := 3375) dL_law_590 (by decide) ?_
          refine kx_iinc2 (v := 7) dL_law_3375 rfl (by decide) ?_
          refine kx_goto (tgt := 28) dL_law_3378 (by decide) ?_
          exact kx_lwF [(0, .ref (a29001)), (1, .ref (q1)), (2, .ref (q7)), (3, .ref (q13)), (4, .ref (q16)), (5, .int ((l5 + (7 : Int32))))] ⟨rfl, rfl, rfl, rfl, rfl, rfl, trivial⟩ (hI28 _ _ _ _ h)
        · have h := w_ift c h
          refine kx_aload_n dL_law_578 rfl rfl ?_
          refine kx_iconst (v := 0) dL_law_579 (by decide) ?_
          refine kW_lJ dL_law_580 h (fun v29078 h => ?_)
          refine kx_iload dL_law_581 rfl ?_
          refine kx_i2l dL_law_583 rfl ?_
          refine kx_lcmp dL_law_584 ?_
          refine kx_if_eq (tgt := 590) dL_law_585 (by decide) (fun c => ?_) (fun c => ?_)
          · have h := w_ift c h
            refine kx_goto (tgt := 3375) dL_law_590 (by decide) ?_
            refine kx_iinc2 (v := 7) dL_law_3375 rfl (by decide) ?_
            refine kx_goto (tgt := 28) dL_law_3378 (by decide) ?_
            exact kx_lwF [(0, .ref (a29001)), (1, .ref (q1)), (2, .ref (q7)), (3, .ref (q13)), (4, .ref (q16)), (5, .int ((l5 + (7 : Int32))))] ⟨rfl, rfl, rfl, rfl, rfl, rfl, trivial⟩ (hI28 _ _ _ _ h)
          · have h := w_iff c h
            refine kx_iconst (v := 0) dL_law_588 (by decide) ?_
            exact kx_zret dL_law_589 rfl rfl (hQ _ _ ⟨_, rfl, h⟩)
      · have h := w_iff c h
        refine kx_iconst (v := 0) dL_law_571 (by decide) ?_
        exact kx_zret dL_law_572 rfl rfl (hQ _ _ ⟨_, rfl, h⟩)
    have h := w_iff c8 h
    by_cases c9 : (v29003 &&& (63 : Int32)) = (9 : Int32)
    · have h := w_ift c9 h
      refine kx_tableIn (tgt := 593) dL_law_45 (by rw [c9]; decide) (by rw [c9]; decide) (by rw [c9]; rfl) (by decide) ?_
      refine kx_aload_n dL_law_593 rfl rfl ?_
      refine kx_aload_n dL_law_594 rfl rfl ?_
      refine kx_iload dL_law_595 rfl ?_
      refine kx_iconst (v := 1) dL_law_597 (by decide) ?_
      refine kx_iadd dL_law_598 ?_
      refine kW_lI dL_law_599 h (fun v29079 h => ?_)
      refine kx_aload_n dL_law_600 rfl rfl ?_
      refine kx_iload dL_law_601 rfl ?_
      refine kx_iconst (v := 2) dL_law_603 (by decide) ?_
      refine kx_iadd dL_law_604 ?_
      refine kW_lI dL_law_605 h (fun v29080 h => ?_)
      refine kx_aload_n dL_law_606 rfl rfl ?_
      obtain ⟨c29083, c29084, hc, hs, h⟩ := h
      refine kx_callSX dL_law_607 lk_X0_206 (kw_X0_loadOf h) rfl rfl (Nat.le_of_ble_eq_true rfl) (Nat.le_of_ble_eq_true rfl) (Nat.le_of_ble_eq_true rfl) hc hs (fun _ _ _ hx => kx_out rfl (hX _ _ _ hx)) (fun v_ σ29082 hq => ?_)
      obtain ⟨v29081, rfl, h⟩ := hq
      refine kx_istore dL_law_610 (Nat.le_of_ble_eq_true rfl) ?_
      refine kx_aload_n dL_law_612 rfl rfl ?_
      refine kx_aload_n dL_law_613 rfl rfl ?_
      refine kx_iload dL_law_614 rfl ?_
      refine kx_iconst (v := 1) dL_law_616 (by decide) ?_
      refine kx_iadd dL_law_617 ?_
      refine kW_lI dL_law_618 h (fun v29085 h => ?_)
      refine kx_aload_n dL_law_619 rfl rfl ?_
      refine kx_iload dL_law_620 rfl ?_
      refine kx_iconst (v := 2) dL_law_622 (by decide) ?_
      refine kx_iadd dL_law_623 ?_
      refine kW_lI dL_law_624 h (fun v29086 h => ?_)
      refine kW_MI dL_law_625 lk_X0_209 (fun hd_ h_ => mM_loadOf hd_ h_) rfl rfl (Nat.le_of_ble_eq_true rfl) (Nat.le_of_ble_eq_true rfl) (Nat.le_of_ble_eq_true rfl) h (fun v29087 σ29088 h => ?_)
      refine kx_istore dL_law_628 (Nat.le_of_ble_eq_true rfl) ?_
      refine kx_aload_n dL_law_630 rfl rfl ?_
      refine kW_MI dL_law_631 lk_X0_172 (fun hd_ h_ => mM_thrown hd_ h_) rfl rfl (Nat.le_of_ble_eq_true rfl) (Nat.le_of_ble_eq_true rfl) (Nat.le_of_ble_eq_true rfl) h (fun v29089 σ29090 h => ?_)
      refine kx_iload dL_law_634 rfl ?_
      refine kx_icmp_eq (tgt := 641) dL_law_636 (by decide) (fun c => ?_) (fun c => ?_)
      · have h := w_ift c h
        refine kx_iload dL_law_641 rfl ?_
        refine kx_if_ne (tgt := 658) dL_law_643 (by decide) (fun c => ?_) (fun c => ?_)
        · have h := w_iff c h
          refine kx_goto (tgt := 3375) dL_law_658 (by decide) ?_
          refine kx_iinc2 (v := 7) dL_law_3375 rfl (by decide) ?_
          refine kx_goto (tgt := 28) dL_law_3378 (by decide) ?_
          exact kx_lwF [(0, .ref (a29001)), (1, .ref (q1)), (2, .ref (q7)), (3, .ref (q13)), (4, .ref (q16)), (5, .int ((l5 + (7 : Int32))))] ⟨rfl, rfl, rfl, rfl, rfl, rfl, trivial⟩ (hI28 _ _ _ _ h)
        · have h := w_ift c h
          refine kx_aload_n dL_law_646 rfl rfl ?_
          refine kx_iconst (v := 0) dL_law_647 (by decide) ?_
          refine kW_lJ dL_law_648 h (fun v29091 h => ?_)
          refine kx_iload dL_law_649 rfl ?_
          refine kx_i2l dL_law_651 rfl ?_
          refine kx_lcmp dL_law_652 ?_
          refine kx_if_eq (tgt := 658) dL_law_653 (by decide) (fun c => ?_) (fun c => ?_)
          · have h := w_ift c h
            refine kx_goto (tgt := 3375) dL_law_658 (by decide) ?_
            refine kx_iinc2 (v := 7) dL_law_3375 rfl (by decide) ?_
            refine kx_goto (tgt := 28) dL_law_3378 (by decide) ?_
            exact kx_lwF [(0, .ref (a29001)), (1, .ref (q1)), (2, .ref (q7)), (3, .ref (q13)), (4, .ref (q16)), (5, .int ((l5 + (7 : Int32))))] ⟨rfl, rfl, rfl, rfl, rfl, rfl, trivial⟩ (hI28 _ _ _ _ h)
          · have h := w_iff c h
            refine kx_iconst (v := 0) dL_law_656 (by decide) ?_
            exact kx_zret dL_law_657 rfl rfl (hQ _ _ ⟨_, rfl, h⟩)
      · have h := w_iff c h
        refine kx_iconst (v := 0) dL_law_639 (by decide) ?_
        exact kx_zret dL_law_640 rfl rfl (hQ _ _ ⟨_, rfl, h⟩)
    have h := w_iff c9 h
    by_cases c10 : (v29003 &&& (63 : Int32)) = (10 : Int32)
    · have h := w_ift c10 h
      refine kx_tableIn (tgt := 661) dL_law_45 (by rw [c10]; decide) (by rw [c10]; decide) (by rw [c10]; rfl) (by decide) ?_
      refine kx_aload_n dL_law_661 rfl rfl ?_
      refine kx_aload_n dL_law_662 rfl rfl ?_
      refine kx_iload dL_law_663 rfl ?_
      refine kx_iconst (v := 1) dL_law_665 (by decide) ?_
      refine kx_iadd dL_law_666 ?_
      refine kW_lI dL_law_667 h (fun v29092 h => ?_)
      refine kx_aload_n dL_law_668 rfl rfl ?_
      obtain ⟨c29095, c29096, hc, hs, h⟩ := h
      refine kx_callSX dL_law_669 lk_X0_210 (kw_X0_isOn h) rfl rfl (Nat.le_of_ble_eq_true rfl) (Nat.le_of_ble_eq_true rfl) (Nat.le_of_ble_eq_true rfl) hc hs (fun _ _ _ hx => kx_out rfl (hX _ _ _ hx)) (fun v_ σ29094 hq => ?_)
      obtain ⟨v29093, rfl, h⟩ := hq
      refine kx_istore dL_law_672 (Nat.le_of_ble_eq_true rfl) ?_
      refine kx_aload_n dL_law_674 rfl rfl ?_
      refine kx_aload_n dL_law_675 rfl rfl ?_
      refine kx_iload dL_law_676 rfl ?_
      refine kx_iconst (v := 1) dL_law_678 (by decide) ?_
      refine kx_iadd dL_law_679 ?_
      refine kW_lI dL_law_680 h (fun v29097 h => ?_)
      refine kW_MI dL_law_681 lk_X0_212 (fun hd_ h_ => mM_isOn hd_ h_) rfl rfl (Nat.le_of_ble_eq_true rfl) (Nat.le_of_ble_eq_true rfl) (Nat.le_of_ble_eq_true rfl) h (fun v29098 σ29099 h => ?_)
      refine kx_istore dL_law_684 (Nat.le_of_ble_eq_true rfl) ?_
      refine kx_aload_n dL_law_686 rfl rfl ?_
      refine kW_MI dL_law_687 lk_X0_172 (fun hd_ h_ => mM_thrown hd_ h_) rfl rfl (Nat.le_of_ble_eq_true rfl) (Nat.le_of_ble_eq_true rfl) (Nat.le_of_ble_eq_true rfl) h (fun v29100 σ29101 h => ?_)
      refine kx_iload dL_law_690 rfl ?_
      refine kx_icmp_eq (tgt := 697) dL_law_692 (by decide) (fun c => ?_) (fun c => ?_)
      · have h := w_ift c h
        refine kx_iload dL_law_697 rfl ?_
        refine kx_if_ne (tgt := 721) dL_law_699 (by decide) (fun c => ?_) (fun c => ?_)
        · have h := w_iff c h
          refine kx_goto (tgt := 3375) dL_law_721 (by decide) ?_
          refine kx_iinc2 (v := 7) dL_law_3375 rfl (by decide) ?_
          refine kx_goto (tgt := 28) dL_law_3378 (by decide) ?_
          exact kx_lwF [(0, .ref (a29001)), (1, .ref (q1)), (2, .ref (q7)), (3, .ref (q13)), (4, .ref (q16)), (5, .int ((l5 + (7 : Int32))))] ⟨rfl, rfl, rfl, rfl, rfl, rfl, trivial⟩ (hI28 _ _ _ _ h)
        · have h := w_ift c h
          refine kx_aload_n dL_law_702 rfl rfl ?_
          refine kx_iconst (v := 0) dL_law_703 (by decide) ?_
          refine kW_lJ dL_law_704 h (fun v29102 h => ?_)
          refine kx_iload dL_law_705 rfl ?_
          refine kW_jLa 715 [.long (v29102)] h (fun v29104 σ29105 bcv29104 bsv29104 h => ?_) (fun k29103 jk29103 h => ?_)
          · skip
            refine kx_lcmp dL_law_715 ?_
            refine kx_if_eq (tgt := 721) dL_law_716 (by decide) (fun c => ?_) (fun c => ?_)
            · have h := w_ift c h
              refine kx_goto (tgt := 3375) dL_law_721 (by decide) ?_
              refine kx_iinc2 (v := 7) dL_law_3375 rfl (by decide) ?_
              refine kx_goto (tgt := 28) dL_law_3378 (by decide) ?_
              exact kx_lwF [(0, .ref (a29001)), (1, .ref (q1)), (2, .ref (q7)), (3, .ref (q13)), (4, .ref (q16)), (5, .int ((l5 + (7 : Int32))))] ⟨rfl, rfl, rfl, rfl, rfl, rfl, trivial⟩ (hI28 _ _ _ _ h)
            · have h := w_iff c h
              refine kx_iconst (v := 0) dL_law_719 (by decide) ?_
              exact kx_zret dL_law_720 rfl rfl (hQ _ _ ⟨_, rfl, h⟩)
          · skip
            refine kx_if_eq (tgt := 714) dL_law_707 (by decide) (fun c => ?_) (fun c => ?_)
            · have h := w_ift c h
              refine kx_lconst (v := 0) dL_law_714 (by decide) ?_
              exact jk29103 _ _ _ _ h
            · have h := w_iff c h
              refine kx_lconst (v := 1) dL_law_710 (by decide) ?_
              refine kx_goto (tgt := 715) dL_law_711 (by decide) ?_
              exact jk29103 _ _ _ _ h
      · have h := w_iff c h
        refine kx_iconst (v := 0) dL_law_695 (by decide) ?_
        exact kx_zret dL_law_696 rfl rfl (hQ _ _ ⟨_, rfl, h⟩)
    have h := w_iff c10 h
    by_cases c11 : (v29003 &&& (63 : Int32)) = (11 : Int32)
    · have h := w_ift c11 h
      refine kx_tableIn (tgt := 724) dL_law_45 (by rw [c11]; decide) (by rw [c11]; decide) (by rw [c11]; rfl) (by decide) ?_
      refine kx_aload_n dL_law_724 rfl rfl ?_
      refine kx_aload_n dL_law_725 rfl rfl ?_
      refine kx_iload dL_law_726 rfl ?_
      refine kx_iconst (v := 1) dL_law_728 (by decide) ?_
      refine kx_iadd dL_law_729 ?_
      refine kW_lI dL_law_730 h (fun v29106 h => ?_)
      refine kx_aload_n dL_law_731 rfl rfl ?_
      refine kx_iload dL_law_732 rfl ?_
      refine kx_iconst (v := 2) dL_law_734 (by decide) ?_
      refine kx_iadd dL_law_735 ?_
      refine kW_lI dL_law_736 h (fun v29107 h => ?_)
      refine kW_jIa 745 [.int (v29106), .ref (q1)] h (fun v29109 σ29110 bcv29109 bsv29109 h => ?_) (fun k29108 jk29108 h => ?_)
      · skip
        refine kx_aload_n dL_law_745 rfl rfl ?_
        obtain ⟨c29113, c29114, hc, hs, h⟩ := h
        refine kx_callSX dL_law_746 lk_X0_213 (kw_X0_setOn h) rfl rfl (Nat.le_of_ble_eq_true rfl) (Nat.le_of_ble_eq_true rfl) (Nat.le_of_ble_eq_true rfl) hc hs (fun _ _ _ hx => kx_out rfl (hX _ _ _ hx)) (fun v_ σ29112 hq => ?_)
        obtain ⟨v29111, rfl, h⟩ := hq
        refine kx_istore dL_law_749 (Nat.le_of_ble_eq_true rfl) ?_
        refine kx_aload_n dL_law_751 rfl rfl ?_
        refine kx_aload_n dL_law_752 rfl rfl ?_
        refine kx_iload dL_law_753 rfl ?_
        refine kx_iconst (v := 1) dL_law_755 (by decide) ?_
        refine kx_iadd dL_law_756 ?_
        refine kW_lI dL_law_757 h (fun v29115 h => ?_)
        refine kx_aload_n dL_law_758 rfl rfl ?_
        refine kx_iload dL_law_759 rfl ?_
        refine kx_iconst (v := 2) dL_law_761 (by decide) ?_
        refine kx_iadd dL_law_762 ?_
        refine kW_lI dL_law_763 h (fun v29116 h => ?_)
        refine kW_jIa 772 [.int (v29115), .ref (q7)] h (fun v29118 σ29119 bcv29118 bsv29118 h => ?_) (fun k29117 jk29117 h => ?_)
        · skip
          refine kW_MI dL_law_772 lk_X0_216 (fun hd_ h_ => mM_setOn hd_ h_) rfl rfl (Nat.le_of_ble_eq_true rfl) (Nat.le_of_ble_eq_true rfl) (Nat.le_of_ble_eq_true rfl) h (fun v29120 σ29121 h => ?_)
          refine kx_istore dL_law_775 (Nat.le_of_ble_eq_true rfl) ?_
          refine kx_aload_n dL_law_777 rfl rfl ?_
          refine kW_MI dL_law_778 lk_X0_172 (fun hd_ h_ => mM_thrown hd_ h_) rfl rfl (Nat.le_of_ble_eq_true rfl) (Nat.le_of_ble_eq_true rfl) (Nat.le_of_ble_eq_true rfl) h (fun v29122 σ29123 h => ?_)
          refine kx_iload dL_law_781 rfl ?_
          refine kx_icmp_eq (tgt := 788) dL_law_783 (by decide) (fun c => ?_) (fun c => ?_)
          · have h := w_ift c h
            refine kx_iload dL_law_788 rfl ?_
            refine kx_if_ne (tgt := 812) dL_law_790 (by decide) (fun c => ?_) (fun c => ?_)
            · have h := w_iff c h
              refine kx_goto (tgt := 3375) dL_law_812 (by decide) ?_
              refine kx_iinc2 (v := 7) dL_law_3375 rfl (by decide) ?_
              refine kx_goto (tgt := 28) dL_law_3378 (by decide) ?_
              exact kx_lwF [(0, .ref (a29001)), (1, .ref (q1)), (2, .ref (q7)), (3, .ref (q13)), (4, .ref (q16)), (5, .int ((l5 + (7 : Int32))))] ⟨rfl, rfl, rfl, rfl, rfl, rfl, trivial⟩ (hI28 _ _ _ _ h)
            · have h := w_ift c h
              refine kx_aload_n dL_law_793 rfl rfl ?_
              refine kx_iconst (v := 0) dL_law_794 (by decide) ?_
              refine kW_lJ dL_law_795 h (fun v29124 h => ?_)
              refine kx_iload dL_law_796 rfl ?_
              refine kW_jLa 806 [.long (v29124)] h (fun v29126 σ29127 bcv29126 bsv29126 h => ?_) (fun k29125 jk29125 h => ?_)
              · skip
                refine kx_lcmp dL_law_806 ?_
                refine kx_if_eq (tgt := 812) dL_law_807 (by decide) (fun c => ?_) (fun c => ?_)
                · have h := w_ift c h
                  refine kx_goto (tgt := 3375) dL_law_812 (by decide) ?_
                  refine kx_iinc2 (v := 7) dL_law_3375 rfl (by decide) ?_
                  refine kx_goto (tgt := 28) dL_law_3378 (by decide) ?_
                  exact kx_lwF [(0, .ref (a29001)), (1, .ref (q1)), (2, .ref (q7)), (3, .ref (q13)), (4, .ref (q16)), (5, .int ((l5 + (7 : Int32))))] ⟨rfl, rfl, rfl, rfl, rfl, rfl, trivial⟩ (hI28 _ _ _ _ h)
                · have h := w_iff c h
                  refine kx_iconst (v := 0) dL_law_810 (by decide) ?_
                  exact kx_zret dL_law_811 rfl rfl (hQ _ _ ⟨_, rfl, h⟩)
              · skip
                refine kx_if_eq (tgt := 805) dL_law_798 (by decide) (fun c => ?_) (fun c => ?_)
                · have h := w_ift c h
                  refine kx_lconst (v := 0) dL_law_805 (by decide) ?_
                  exact jk29125 _ _ _ _ h
                · have h := w_iff c h
                  refine kx_lconst (v := 1) dL_law_801 (by decide) ?_
                  refine kx_goto (tgt := 806) dL_law_802 (by decide) ?_
                  exact jk29125 _ _ _ _ h
          · have h := w_iff c h
            refine kx_iconst (v := 0) dL_law_786 (by decide) ?_
            exact kx_zret dL_law_787 rfl rfl (hQ _ _ ⟨_, rfl, h⟩)
        · skip
          refine kx_if_eq (tgt := 771) dL_law_764 (by decide) (fun c => ?_) (fun c => ?_)
          · have h := w_ift c h
            refine kx_iconst (v := 0) dL_law_771 (by decide) ?_
            exact jk29117 _ _ _ _ h
          · have h := w_iff c h
            refine kx_iconst (v := 1) dL_law_767 (by decide) ?_
            refine kx_goto (tgt := 772) dL_law_768 (by decide) ?_
            exact jk29117 _ _ _ _ h
      · skip
        refine kx_if_eq (tgt := 744) dL_law_737 (by decide) (fun c => ?_) (fun c => ?_)
        · have h := w_ift c h
          refine kx_iconst (v := 0) dL_law_744 (by decide) ?_
          exact jk29108 _ _ _ _ h
        · have h := w_iff c h
          refine kx_iconst (v := 1) dL_law_740 (by decide) ?_
          refine kx_goto (tgt := 745) dL_law_741 (by decide) ?_
          exact jk29108 _ _ _ _ h
    have h := w_iff c11 h
    by_cases c12 : (v29003 &&& (63 : Int32)) = (12 : Int32)
    · have h := w_ift c12 h
      refine kx_tableIn (tgt := 815) dL_law_45 (by rw [c12]; decide) (by rw [c12]; decide) (by rw [c12]; rfl) (by decide) ?_
      refine kx_aload_n dL_law_815 rfl rfl ?_
      refine kx_aload_n dL_law_816 rfl rfl ?_
      refine kx_iload dL_law_817 rfl ?_
      refine kx_iconst (v := 1) dL_law_819 (by decide) ?_
      refine kx_iadd dL_law_820 ?_
      refine kW_lI dL_law_821 h (fun v29128 h => ?_)
      refine kx_aload_n dL_law_822 rfl rfl ?_
      refine kx_iload dL_law_823 rfl ?_
      refine kx_iconst (v := 2) dL_law_825 (by decide) ?_
      refine kx_iadd dL_law_826 ?_
      refine kW_lI dL_law_827 h (fun v29129 h => ?_)
      refine kx_aload_n dL_law_828 rfl rfl ?_
      refine kx_iload dL_law_829 rfl ?_
      refine kx_iconst (v := 3) dL_law_831 (by decide) ?_
      refine kx_iadd dL_law_832 ?_
      refine kW_lI dL_law_833 h (fun v29130 h => ?_)
      refine kW_jIa 842 [.int (v29129), .int (v29128), .ref (q1)] h (fun v29132 σ29133 bcv29132 bsv29132 h => ?_) (fun k29131 jk29131 h => ?_)
      · skip
        refine kx_aload_n dL_law_842 rfl rfl ?_
        obtain ⟨c29136, c29137, hc, hs, h⟩ := h
        refine kx_callSX dL_law_843 lk_X0_217 (kw_X0_plan h) rfl rfl (Nat.le_of_ble_eq_true rfl) (Nat.le_of_ble_eq_true rfl) (Nat.le_of_ble_eq_true rfl) hc hs (fun _ _ _ hx => kx_out rfl (hX _ _ _ hx)) (fun v_ σ29135 hq => ?_)
        obtain ⟨v29134, rfl, h⟩ := hq
        refine kx_istore dL_law_846 (Nat.le_of_ble_eq_true rfl) ?_
        refine kx_aload_n dL_law_848 rfl rfl ?_
        refine kx_aload_n dL_law_849 rfl rfl ?_
        refine kx_iload dL_law_850 rfl ?_
        refine kx_iconst (v := 1) dL_law_852 (by decide) ?_
        refine kx_iadd dL_law_853 ?_
        refine kW_lI dL_law_854 h (fun v29138 h => ?_)
        refine kx_aload_n dL_law_855 rfl rfl ?_
        refine kx_iload dL_law_856 rfl ?_
        refine kx_iconst (v := 2) dL_law_858 (by decide) ?_
        refine kx_iadd dL_law_859 ?_
        refine kW_lI dL_law_860 h (fun v29139 h => ?_)
        refine kx_aload_n dL_law_861 rfl rfl ?_
        refine kx_iload dL_law_862 rfl ?_
        refine kx_iconst (v := 3) dL_law_864 (by decide) ?_
        refine kx_iadd dL_law_865 ?_
        refine kW_lI dL_law_866 h (fun v29140 h => ?_)
        refine kW_jIa 875 [.int (v29139), .int (v29138), .ref (q7)] h (fun v29142 σ29143 bcv29142 bsv29142 h => ?_) (fun k29141 jk29141 h => ?_)
        · skip
          refine kW_MI dL_law_875 lk_X0_220 (fun hd_ h_ => mM_plan hd_ h_) rfl rfl (Nat.le_of_ble_eq_true rfl) (Nat.le_of_ble_eq_true rfl) (Nat.le_of_ble_eq_true rfl) h (fun v29144 σ29145 h => ?_)
          refine kx_istore dL_law_878 (Nat.le_of_ble_eq_true rfl) ?_
          refine kx_aload_n dL_law_880 rfl rfl ?_
          refine kW_MI dL_law_881 lk_X0_172 (fun hd_ h_ => mM_thrown hd_ h_) rfl rfl (Nat.le_of_ble_eq_true rfl) (Nat.le_of_ble_eq_true rfl) (Nat.le_of_ble_eq_true rfl) h (fun v29146 σ29147 h => ?_)
          refine kx_iload dL_law_884 rfl ?_
          refine kx_icmp_eq (tgt := 891) dL_law_886 (by decide) (fun c => ?_) (fun c => ?_)
          · have h := w_ift c h
            refine kx_iload dL_law_891 rfl ?_
            refine kx_if_ne (tgt := 908) dL_law_893 (by decide) (fun c => ?_) (fun c => ?_)
            · have h := w_iff c h
              refine kx_goto (tgt := 3375) dL_law_908 (by decide) ?_
              refine kx_iinc2 (v := 7) dL_law_3375 rfl (by decide) ?_
              refine kx_goto (tgt := 28) dL_law_3378 (by decide) ?_
              exact kx_lwF [(0, .ref (a29001)), (1, .ref (q1)), (2, .ref (q7)), (3, .ref (q13)), (4, .ref (q16)), (5, .int ((l5 + (7 : Int32))))] ⟨rfl, rfl, rfl, rfl, rfl, rfl, trivial⟩ (hI28 _ _ _ _ h)
            · have h := w_ift c h
              refine kx_aload_n dL_law_896 rfl rfl ?_
              refine kx_iconst (v := 0) dL_law_897 (by decide) ?_
              refine kW_lJ dL_law_898 h (fun v29148 h => ?_)
              refine kx_iload dL_law_899 rfl ?_
              refine kx_i2l dL_law_901 rfl ?_
              refine kx_lcmp dL_law_902 ?_
              refine kx_if_eq (tgt := 908) dL_law_903 (by decide) (fun c => ?_) (fun c => ?_)
              · have h := w_ift c h
                refine kx_goto (tgt := 3375) dL_law_908 (by decide) ?_
                refine kx_iinc2 (v := 7) dL_law_3375 rfl (by decide) ?_
                refine kx_goto (tgt := 28) dL_law_3378 (by decide) ?_
                exact kx_lwF [(0, .ref (a29001)), (1, .ref (q1)), (2, .ref (q7)), (3, .ref (q13)), (4, .ref (q16)), (5, .int ((l5 + (7 : Int32))))] ⟨rfl, rfl, rfl, rfl, rfl, rfl, trivial⟩ (hI28 _ _ _ _ h)
              · have h := w_iff c h
                refine kx_iconst (v := 0) dL_law_906 (by decide) ?_
                exact kx_zret dL_law_907 rfl rfl (hQ _ _ ⟨_, rfl, h⟩)
          · have h := w_iff c h
            refine kx_iconst (v := 0) dL_law_889 (by decide) ?_
            exact kx_zret dL_law_890 rfl rfl (hQ _ _ ⟨_, rfl, h⟩)
        · skip
          refine kx_if_eq (tgt := 874) dL_law_867 (by decide) (fun c => ?_) (fun c => ?_)
          · have h := w_ift c h
            refine kx_iconst (v := 0) dL_law_874 (by decide) ?_
            exact jk29141 _ _ _ _ h
          · have h := w_iff c h
            refine kx_iconst (v := 1) dL_law_870 (by decide) ?_
            refine kx_goto (tgt := 875) dL_law_871 (by decide) ?_
            exact jk29141 _ _ _ _ h
      · skip
        refine kx_if_eq (tgt := 841) dL_law_834 (by decide) (fun c => ?_) (fun c => ?_)
        · have h := w_ift c h
          refine kx_iconst (v := 0) dL_law_841 (by decide) ?_
          exact jk29131 _ _ _ _ h
        · have h := w_iff c h
          refine kx_iconst (v := 1) dL_law_837 (by decide) ?_
          refine kx_goto (tgt := 842) dL_law_838 (by decide) ?_
          exact jk29131 _ _ _ _ h
    have h := w_iff c12 h
    by_cases c13 : (v29003 &&& (63 : Int32)) = (13 : Int32)
    · have h := w_ift c13 h
      refine kx_tableIn (tgt := 911) dL_law_45 (by rw [c13]; decide) (by rw [c13]; decide) (by rw [c13]; rfl) (by decide) ?_
      refine kx_aload_n dL_law_911 rfl rfl ?_
      refine kx_aload_n dL_law_912 rfl rfl ?_
      refine kx_iload dL_law_913 rfl ?_
      refine kx_iconst (v := 1) dL_law_915 (by decide) ?_
      refine kx_iadd dL_law_916 ?_
      refine kW_lI dL_law_917 h (fun v29149 h => ?_)
      refine kx_aload_n dL_law_918 rfl rfl ?_
      obtain ⟨c29152, c29153, hc, hs, h⟩ := h
      refine kx_callSX dL_law_919 lk_X0_221 (kw_X0_nextSwitch h) rfl rfl (Nat.le_of_ble_eq_true rfl) (Nat.le_of_ble_eq_true rfl) (Nat.le_of_ble_eq_true rfl) hc hs (fun _ _ _ hx => kx_out rfl (hX _ _ _ hx)) (fun v_ σ29151 hq => ?_)
      obtain ⟨v29150, rfl, h⟩ := hq
      refine kx_istore dL_law_922 (Nat.le_of_ble_eq_true rfl) ?_
      refine kx_aload_n dL_law_924 rfl rfl ?_
      refine kx_aload_n dL_law_925 rfl rfl ?_
      refine kx_iload dL_law_926 rfl ?_
      refine kx_iconst (v := 1) dL_law_928 (by decide) ?_
      refine kx_iadd dL_law_929 ?_
      refine kW_lI dL_law_930 h (fun v29154 h => ?_)
      refine kW_MI dL_law_931 lk_X0_223 (fun hd_ h_ => mM_nextSwitch hd_ h_) rfl rfl (Nat.le_of_ble_eq_true rfl) (Nat.le_of_ble_eq_true rfl) (Nat.le_of_ble_eq_true rfl) h (fun v29155 σ29156 h => ?_)
      refine kx_istore dL_law_934 (Nat.le_of_ble_eq_true rfl) ?_
      refine kx_aload_n dL_law_936 rfl rfl ?_
      refine kW_MI dL_law_937 lk_X0_172 (fun hd_ h_ => mM_thrown hd_ h_) rfl rfl (Nat.le_of_ble_eq_true rfl) (Nat.le_of_ble_eq_true rfl) (Nat.le_of_ble_eq_true rfl) h (fun v29157 σ29158 h => ?_)
      refine kx_iload dL_law_940 rfl ?_
      refine kx_icmp_eq (tgt := 947) dL_law_942 (by decide) (fun c => ?_) (fun c => ?_)
      · have h := w_ift c h
        refine kx_iload dL_law_947 rfl ?_
        refine kx_if_ne (tgt := 964) dL_law_949 (by decide) (fun c => ?_) (fun c => ?_)
        · have h := w_iff c h
          refine kx_goto (tgt := 3375) dL_law_964 (by decide) ?_
          refine kx_iinc2 (v := 7) dL_law_3375 rfl (by decide) ?_
          refine kx_goto (tgt := 28) dL_law_3378 (by decide) ?_
          exact kx_lwF [(0, .ref (a29001)), (1, .ref (q1)), (2, .ref (q7)), (3, .ref (q13)), (4, .ref (q16)), (5, .int ((l5 + (7 : Int32))))] ⟨rfl, rfl, rfl, rfl, rfl, rfl, trivial⟩ (hI28 _ _ _ _ h)
        · have h := w_ift c h
          refine kx_aload_n dL_law_952 rfl rfl ?_
          refine kx_iconst (v := 0) dL_law_953 (by decide) ?_
          refine kW_lJ dL_law_954 h (fun v29159 h => ?_)
          refine kx_iload dL_law_955 rfl ?_
          refine kx_i2l dL_law_957 rfl ?_
          refine kx_lcmp dL_law_958 ?_
          refine kx_if_eq (tgt := 964) dL_law_959 (by decide) (fun c => ?_) (fun c => ?_)
          · have h := w_ift c h
            refine kx_goto (tgt := 3375) dL_law_964 (by decide) ?_
            refine kx_iinc2 (v := 7) dL_law_3375 rfl (by decide) ?_
            refine kx_goto (tgt := 28) dL_law_3378 (by decide) ?_
            exact kx_lwF [(0, .ref (a29001)), (1, .ref (q1)), (2, .ref (q7)), (3, .ref (q13)), (4, .ref (q16)), (5, .int ((l5 + (7 : Int32))))] ⟨rfl, rfl, rfl, rfl, rfl, rfl, trivial⟩ (hI28 _ _ _ _ h)
          · have h := w_iff c h
            refine kx_iconst (v := 0) dL_law_962 (by decide) ?_
            exact kx_zret dL_law_963 rfl rfl (hQ _ _ ⟨_, rfl, h⟩)
      · have h := w_iff c h
        refine kx_iconst (v := 0) dL_law_945 (by decide) ?_
        exact kx_zret dL_law_946 rfl rfl (hQ _ _ ⟨_, rfl, h⟩)
    have h := w_iff c13 h
    by_cases c14 : (v29003 &&& (63 : Int32)) = (14 : Int32)
    · have h := w_ift c14 h
      refine kx_tableIn (tgt := 967) dL_law_45 (by rw [c14]; decide) (by rw [c14]; decide) (by rw [c14]; rfl) (by decide) ?_
      refine kx_aload_n dL_law_967 rfl rfl ?_
      refine kx_aload_n dL_law_968 rfl rfl ?_
      refine kx_iload dL_law_969 rfl ?_
      refine kx_iconst (v := 1) dL_law_971 (by decide) ?_
      refine kx_iadd dL_law_972 ?_
      refine kW_lI dL_law_973 h (fun v29160 h => ?_)
      refine kx_aload_n dL_law_974 rfl rfl ?_
      obtain ⟨c29163, c29164, hc, hs, h⟩ := h
      refine kx_callSX dL_law_975 lk_X0_224 (kw_X0_state h) rfl rfl (Nat.le_of_ble_eq_true rfl) (Nat.le_of_ble_eq_true rfl) (Nat.le_of_ble_eq_true rfl) hc hs (fun _ _ _ hx => kx_out rfl (hX _ _ _ hx)) (fun v_ σ29162 hq => ?_)
      obtain ⟨v29161, rfl, h⟩ := hq
      refine kx_istore dL_law_978 (Nat.le_of_ble_eq_true rfl) ?_
      refine kx_aload_n dL_law_980 rfl rfl ?_
      refine kx_aload_n dL_law_981 rfl rfl ?_
      refine kx_iload dL_law_982 rfl ?_
      refine kx_iconst (v := 1) dL_law_984 (by decide) ?_
      refine kx_iadd dL_law_985 ?_
      refine kW_lI dL_law_986 h (fun v29165 h => ?_)
      refine kW_MI dL_law_987 lk_X0_226 (fun hd_ h_ => mM_state hd_ h_) rfl rfl (Nat.le_of_ble_eq_true rfl) (Nat.le_of_ble_eq_true rfl) (Nat.le_of_ble_eq_true rfl) h (fun v29166 σ29167 h => ?_)
      refine kx_istore dL_law_990 (Nat.le_of_ble_eq_true rfl) ?_
      refine kx_aload_n dL_law_992 rfl rfl ?_
      refine kW_MI dL_law_993 lk_X0_172 (fun hd_ h_ => mM_thrown hd_ h_) rfl rfl (Nat.le_of_ble_eq_true rfl) (Nat.le_of_ble_eq_true rfl) (Nat.le_of_ble_eq_true rfl) h (fun v29168 σ29169 h => ?_)
      refine kx_iload dL_law_996 rfl ?_
      refine kx_icmp_eq (tgt := 1003) dL_law_998 (by decide) (fun c => ?_) (fun c => ?_)
      · have h := w_ift c h
        refine kx_iload dL_law_1003 rfl ?_
        refine kx_if_ne (tgt := 1020) dL_law_1005 (by decide) (fun c => ?_) (fun c => ?_)
        · have h := w_iff c h
          refine kx_goto (tgt := 3375) dL_law_1020 (by decide) ?_
          refine kx_iinc2 (v := 7) dL_law_3375 rfl (by decide) ?_
          refine kx_goto (tgt := 28) dL_law_3378 (by decide) ?_
          exact kx_lwF [(0, .ref (a29001)), (1, .ref (q1)), (2, .ref (q7)), (3, .ref (q13)), (4, .ref (q16)), (5, .int ((l5 + (7 : Int32))))] ⟨rfl, rfl, rfl, rfl, rfl, rfl, trivial⟩ (hI28 _ _ _ _ h)
        · have h := w_ift c h
          refine kx_aload_n dL_law_1008 rfl rfl ?_
          refine kx_iconst (v := 0) dL_law_1009 (by decide) ?_
          refine kW_lJ dL_law_1010 h (fun v29170 h => ?_)
          refine kx_iload dL_law_1011 rfl ?_
          refine kx_i2l dL_law_1013 rfl ?_
          refine kx_lcmp dL_law_1014 ?_
          refine kx_if_eq (tgt := 1020) dL_law_1015 (by decide) (fun c => ?_) (fun c => ?_)
          · have h := w_ift c h
            refine kx_goto (tgt := 3375) dL_law_1020 (by decide) ?_
            refine kx_iinc2 (v := 7) dL_law_3375 rfl (by decide) ?_
            refine kx_goto (tgt := 28) dL_law_3378 (by decide) ?_
            exact kx_lwF [(0, .ref (a29001)), (1, .ref (q1)), (2, .ref (q7)), (3, .ref (q13)), (4, .ref (q16)), (5, .int ((l5 + (7 : Int32))))] ⟨rfl, rfl, rfl, rfl, rfl, rfl, trivial⟩ (hI28 _ _ _ _ h)
          · have h := w_iff c h
            refine kx_iconst (v := 0) dL_law_1018 (by decide) ?_
            exact kx_zret dL_law_1019 rfl rfl (hQ _ _ ⟨_, rfl, h⟩)
      · have h := w_iff c h
        refine kx_iconst (v := 0) dL_law_1001 (by decide) ?_
        exact kx_zret dL_law_1002 rfl rfl (hQ _ _ ⟨_, rfl, h⟩)
    have h := w_iff c14 h
    by_cases c15 : (v29003 &&& (63 : Int32)) = (15 : Int32)
    · have h := w_ift c15 h
      refine kx_tableIn (tgt := 1023) dL_law_45 (by rw [c15]; decide) (by rw [c15]; decide) (by rw [c15]; rfl) (by decide) ?_
      refine kx_aload_n dL_law_1023 rfl rfl ?_
      refine kx_aload_n dL_law_1024 rfl rfl ?_
      refine kx_iload dL_law_1025 rfl ?_
      refine kx_iconst (v := 1) dL_law_1027 (by decide) ?_
      refine kx_iadd dL_law_1028 ?_
      refine kW_lI dL_law_1029 h (fun v29171 h => ?_)
      refine kx_aload_n dL_law_1030 rfl rfl ?_
      obtain ⟨c29174, c29175, hc, hs, h⟩ := h
      refine kx_callSX dL_law_1031 lk_X0_227 (kw_X0_run h) rfl rfl (Nat.le_of_ble_eq_true rfl) (Nat.le_of_ble_eq_true rfl) (Nat.le_of_ble_eq_true rfl) hc hs (fun _ _ _ hx => kx_out rfl (hX _ _ _ hx)) (fun v_ σ29173 hq => ?_)
      obtain ⟨v29172, rfl, h⟩ := hq
      refine kx_istore dL_law_1034 (Nat.le_of_ble_eq_true rfl) ?_
      refine kx_aload_n dL_law_1036 rfl rfl ?_
      refine kx_aload_n dL_law_1037 rfl rfl ?_
      refine kx_iload dL_law_1038 rfl ?_
      refine kx_iconst (v := 1) dL_law_1040 (by decide) ?_
      refine kx_iadd dL_law_1041 ?_
      refine kW_lI dL_law_1042 h (fun v29176 h => ?_)
      refine kW_MI dL_law_1043 lk_X0_229 (fun hd_ h_ => mM_run hd_ h_) rfl rfl (Nat.le_of_ble_eq_true rfl) (Nat.le_of_ble_eq_true rfl) (Nat.le_of_ble_eq_true rfl) h (fun v29177 σ29178 h => ?_)
      refine kx_istore dL_law_1046 (Nat.le_of_ble_eq_true rfl) ?_
      refine kx_aload_n dL_law_1048 rfl rfl ?_
      refine kW_MI dL_law_1049 lk_X0_172 (fun hd_ h_ => mM_thrown hd_ h_) rfl rfl (Nat.le_of_ble_eq_true rfl) (Nat.le_of_ble_eq_true rfl) (Nat.le_of_ble_eq_true rfl) h (fun v29179 σ29180 h => ?_)
      refine kx_iload dL_law_1052 rfl ?_
      refine kx_icmp_eq (tgt := 1059) dL_law_1054 (by decide) (fun c => ?_) (fun c => ?_)
      · have h := w_ift c h
        refine kx_iload dL_law_1059 rfl ?_
        refine kx_if_ne (tgt := 1076) dL_law_1061 (by decide) (fun c => ?_) (fun c => ?_)
        · have h := w_iff c h
          refine kx_goto (tgt := 3375) dL_law_1076 (by decide) ?_
          refine kx_iinc2 (v := 7) dL_law_3375 rfl (by decide) ?_
          refine kx_goto (tgt := 28) dL_law_3378 (by decide) ?_
          exact kx_lwF [(0, .ref (a29001)), (1, .ref (q1)), (2, .ref (q7)), (3, .ref (q13)), (4, .ref (q16)), (5, .int ((l5 + (7 : Int32))))] ⟨rfl, rfl, rfl, rfl, rfl, rfl, trivial⟩ (hI28 _ _ _ _ h)
        · have h := w_ift c h
          refine kx_aload_n dL_law_1064 rfl rfl ?_
          refine kx_iconst (v := 0) dL_law_1065 (by decide) ?_
          refine kW_lJ dL_law_1066 h (fun v29181 h => ?_)
          refine kx_iload dL_law_1067 rfl ?_
          refine kx_i2l dL_law_1069 rfl ?_
          refine kx_lcmp dL_law_1070 ?_
          refine kx_if_eq (tgt := 1076) dL_law_1071 (by decide) (fun c => ?_) (fun c => ?_)
          · have h := w_ift c h
            refine kx_goto (tgt := 3375) dL_law_1076 (by decide) ?_
            refine kx_iinc2 (v := 7) dL_law_3375 rfl (by decide) ?_
            refine kx_goto (tgt := 28) dL_law_3378 (by decide) ?_
            exact kx_lwF [(0, .ref (a29001)), (1, .ref (q1)), (2, .ref (q7)), (3, .ref (q13)), (4, .ref (q16)), (5, .int ((l5 + (7 : Int32))))] ⟨rfl, rfl, rfl, rfl, rfl, rfl, trivial⟩ (hI28 _ _ _ _ h)
          · have h := w_iff c h
            refine kx_iconst (v := 0) dL_law_1074 (by decide) ?_
            exact kx_zret dL_law_1075 rfl rfl (hQ _ _ ⟨_, rfl, h⟩)
      · have h := w_iff c h
        refine kx_iconst (v := 0) dL_law_1057 (by decide) ?_
        exact kx_zret dL_law_1058 rfl rfl (hQ _ _ ⟨_, rfl, h⟩)
    have h := w_iff c15 h
    by_cases c16 : (v29003 &&& (63 : Int32)) = (16 : Int32)
    · have h := w_ift c16 h
      refine kx_tableIn (tgt := 1079) dL_law_45 (by rw [c16]; decide) (by rw [c16]; decide) (by rw [c16]; rfl) (by decide) ?_
      refine kx_aload_n dL_law_1079 rfl rfl ?_
      refine kx_aload_n dL_law_1080 rfl rfl ?_
      refine kx_iload dL_law_1081 rfl ?_
      refine kx_iconst (v := 1) dL_law_1083 (by decide) ?_
      refine kx_iadd dL_law_1084 ?_
      refine kW_lI dL_law_1085 h (fun v29182 h => ?_)
      refine kx_aload_n dL_law_1086 rfl rfl ?_
      refine kx_iload dL_law_1087 rfl ?_
      refine kx_iconst (v := 2) dL_law_1089 (by decide) ?_
      refine kx_iadd dL_law_1090 ?_
      refine kW_lI dL_law_1091 h (fun v29183 h => ?_)
      refine kx_aload dL_law_1092 rfl ?_
      obtain ⟨c29186, c29187, hc, hs, h⟩ := h
      refine kx_callSX dL_law_1094 lk_X0_230 (kw_X0_sample h) rfl rfl (Nat.le_of_ble_eq_true rfl) (Nat.le_of_ble_eq_true rfl) (Nat.le_of_ble_eq_true rfl) hc hs (fun _ _ _ hx => kx_out rfl (hX _ _ _ hx)) (fun v_ σ29185 hq => ?_)
      obtain ⟨v29184, rfl, h⟩ := hq
      refine kx_istore dL_law_1097 (Nat.le_of_ble_eq_true rfl) ?_
      refine kx_aload_n dL_law_1099 rfl rfl ?_
      refine kx_aload_n dL_law_1100 rfl rfl ?_
      refine kx_iload dL_law_1101 rfl ?_
      refine kx_iconst (v := 1) dL_law_1103 (by decide) ?_
      refine kx_iadd dL_law_1104 ?_
      refine kW_lI dL_law_1105 h (fun v29188 h => ?_)
      refine kx_aload_n dL_law_1106 rfl rfl ?_
      refine kx_iload dL_law_1107 rfl ?_
      refine kx_iconst (v := 2) dL_law_1109 (by decide) ?_
      refine kx_iadd dL_law_1110 ?_
      refine kW_lI dL_law_1111 h (fun v29189 h => ?_)
      refine kW_MF dL_law_1112 lk_X0_233 (fun hd_ h_ => mM_sample hd_ h_) rfl rfl (Nat.le_of_ble_eq_true rfl) (Nat.le_of_ble_eq_true rfl) (Nat.le_of_ble_eq_true rfl) h (fun v29190 σ29191 h => ?_)
      refine kx_fstore dL_law_1115 (Nat.le_of_ble_eq_true rfl) ?_
      refine kx_aload_n dL_law_1117 rfl rfl ?_
      refine kW_MI dL_law_1118 lk_X0_172 (fun hd_ h_ => mM_thrown hd_ h_) rfl rfl (Nat.le_of_ble_eq_true rfl) (Nat.le_of_ble_eq_true rfl) (Nat.le_of_ble_eq_true rfl) h (fun v29192 σ29193 h => ?_)
      refine kx_iload dL_law_1121 rfl ?_
      refine kx_icmp_eq (tgt := 1128) dL_law_1123 (by decide) (fun c => ?_) (fun c => ?_)
      · have h := w_ift c h
        refine kx_iload dL_law_1128 rfl ?_
        refine kx_if_ne (tgt := 1166) dL_law_1130 (by decide) (fun c => ?_) (fun c => ?_)
        · have h := w_iff c h
          refine kx_goto (tgt := 3375) dL_law_1166 (by decide) ?_
          refine kx_iinc2 (v := 7) dL_law_3375 rfl (by decide) ?_
          refine kx_goto (tgt := 28) dL_law_3378 (by decide) ?_
          exact kx_lwF [(0, .ref (a29001)), (1, .ref (q1)), (2, .ref (q7)), (3, .ref (q13)), (4, .ref (q16)), (5, .int ((l5 + (7 : Int32))))] ⟨rfl, rfl, rfl, rfl, rfl, rfl, trivial⟩ (hI28 _ _ _ _ h)
        · have h := w_ift c h
          refine kx_aload dL_law_1133 rfl ?_
          refine kx_iconst (v := 0) dL_law_1135 (by decide) ?_
          refine kW_lD dL_law_1136 h (fun v29194 h => ?_)
          refine kx_fload dL_law_1137 rfl ?_
          refine kW_f2d dL_law_1139 h (fun v29195 h => ?_)
          refine kx_dcmp dL_law_1140 ?_
          refine kx_if_eq (tgt := 1166) dL_law_1141 (by decide) (fun c => ?_) (fun c => ?_)
          · have h := w_ift c h
            refine kx_goto (tgt := 3375) dL_law_1166 (by decide) ?_
            refine kx_iinc2 (v := 7) dL_law_3375 rfl (by decide) ?_
            refine kx_goto (tgt := 28) dL_law_3378 (by decide) ?_
            exact kx_lwF [(0, .ref (a29001)), (1, .ref (q1)), (2, .ref (q7)), (3, .ref (q13)), (4, .ref (q16)), (5, .int ((l5 + (7 : Int32))))] ⟨rfl, rfl, rfl, rfl, rfl, rfl, trivial⟩ (hI28 _ _ _ _ h)
          · have h := w_iff c h
            refine kx_aload dL_law_1144 rfl ?_
            refine kx_iconst (v := 0) dL_law_1146 (by decide) ?_
            refine kW_lD dL_law_1147 h (fun v29196 h => ?_)
            refine kx_aload dL_law_1148 rfl ?_
            refine kx_iconst (v := 0) dL_law_1150 (by decide) ?_
            refine kW_lD dL_law_1151 h (fun v29197 h => ?_)
            refine kx_dcmp dL_law_1152 ?_
            refine kx_if_eq (tgt := 1164) dL_law_1153 (by decide) (fun c => ?_) (fun c => ?_)
            · have h := w_ift c h
              refine kx_iconst (v := 0) dL_law_1164 (by decide) ?_
              exact kx_zret dL_law_1165 rfl rfl (hQ _ _ ⟨_, rfl, h⟩)
            · have h := w_iff c h
              refine kx_fload dL_law_1156 rfl ?_
              refine kx_fload dL_law_1158 rfl ?_
              refine kx_fcmp dL_law_1160 ?_
              refine kx_if_ne (tgt := 1166) dL_law_1161 (by decide) (fun c => ?_) (fun c => ?_)
              · have h := w_iff c h
                refine kx_goto (tgt := 3375) dL_law_1166 (by decide) ?_
                refine kx_iinc2 (v := 7) dL_law_3375 rfl (by decide) ?_
                refine kx_goto (tgt := 28) dL_law_3378 (by decide) ?_
                exact kx_lwF [(0, .ref (a29001)), (1, .ref (q1)), (2, .ref (q7)), (3, .ref (q13)), (4, .ref (q16)), (5, .int ((l5 + (7 : Int32))))] ⟨rfl, rfl, rfl, rfl, rfl, rfl, trivial⟩ (hI28 _ _ _ _ h)
              · have h := w_ift c h
                refine kx_iconst (v := 0) dL_law_1164 (by decide) ?_
                exact kx_zret dL_law_1165 rfl rfl (hQ _ _ ⟨_, rfl, h⟩)
      · have h := w_iff c h
        refine kx_iconst (v := 0) dL_law_1126 (by decide) ?_
        exact kx_zret dL_law_1127 rfl rfl (hQ _ _ ⟨_, rfl, h⟩)
    have h := w_iff c16 h
    by_cases c17 : (v29003 &&& (63 : Int32)) = (17 : Int32)
    · have h := w_ift c17 h
      refine kx_tableIn (tgt := 1169) dL_law_45 (by rw [c17]; decide) (by rw [c17]; decide) (by rw [c17]; rfl) (by decide) ?_
      refine kx_aload_n dL_law_1169 rfl rfl ?_
      refine kx_aload_n dL_law_1170 rfl rfl ?_
      refine kx_iload dL_law_1171 rfl ?_
      refine kx_iconst (v := 1) dL_law_1173 (by decide) ?_
      refine kx_iadd dL_law_1174 ?_
      refine kW_lI dL_law_1175 h (fun v29198 h => ?_)
      refine kx_aload_n dL_law_1176 rfl rfl ?_
      refine kx_iload dL_law_1177 rfl ?_
      refine kx_iconst (v := 2) dL_law_1179 (by decide) ?_
      refine kx_iadd dL_law_1180 ?_
      refine kW_lI dL_law_1181 h (fun v29199 h => ?_)
      refine kx_aload dL_law_1182 rfl ?_
      obtain ⟨c29202, c29203, hc, hs, h⟩ := h
      refine kx_callSX dL_law_1184 lk_X0_234 (kw_X0_feature h) rfl rfl (Nat.le_of_ble_eq_true rfl) (Nat.le_of_ble_eq_true rfl) (Nat.le_of_ble_eq_true rfl) hc hs (fun _ _ _ hx => kx_out rfl (hX _ _ _ hx)) (fun v_ σ29201 hq => ?_)
      obtain ⟨v29200, rfl, h⟩ := hq
      refine kx_istore dL_law_1187 (Nat.le_of_ble_eq_true rfl) ?_
      refine kx_aload_n dL_law_1189 rfl rfl ?_
      refine kx_aload_n dL_law_1190 rfl rfl ?_
      refine kx_iload dL_law_1191 rfl ?_
      refine kx_iconst (v := 1) dL_law_1193 (by decide) ?_
      refine kx_iadd dL_law_1194 ?_
      refine kW_lI dL_law_1195 h (fun v29204 h => ?_)
      refine kx_aload_n dL_law_1196 rfl rfl ?_
      refine kx_iload dL_law_1197 rfl ?_
      refine kx_iconst (v := 2) dL_law_1199 (by decide) ?_
      refine kx_iadd dL_law_1200 ?_
      refine kW_lI dL_law_1201 h (fun v29205 h => ?_)
      refine kW_MF dL_law_1202 lk_X0_236 (fun hd_ h_ => mM_feature hd_ h_) rfl rfl (Nat.le_of_ble_eq_true rfl) (Nat.le_of_ble_eq_true rfl) (Nat.le_of_ble_eq_true rfl) h (fun v29206 σ29207 h => ?_)
      refine kx_fstore dL_law_1205 (Nat.le_of_ble_eq_true rfl) ?_
      refine kx_aload_n dL_law_1207 rfl rfl ?_
      refine kW_MI dL_law_1208 lk_X0_172 (fun hd_ h_ => mM_thrown hd_ h_) rfl rfl (Nat.le_of_ble_eq_true rfl) (Nat.le_of_ble_eq_true rfl) (Nat.le_of_ble_eq_true rfl) h (fun v29208 σ29209 h => ?_)
      refine kx_iload dL_law_1211 rfl ?_
      refine kx_icmp_eq (tgt := 1218) dL_law_1213 (by decide) (fun c => ?_) (fun c => ?_)
      · have h := w_ift c h
        refine kx_iload dL_law_1218 rfl ?_
        refine kx_if_ne (tgt := 1256) dL_law_1220 (by decide) (fun c => ?_) (fun c => ?_)
        · have h := w_iff c h
          refine kx_goto (tgt := 3375) dL_law_1256 (by decide) ?_
          refine kx_iinc2 (v := 7) dL_law_3375 rfl (by decide) ?_
          refine kx_goto (tgt := 28) dL_law_3378 (by decide) ?_
          exact kx_lwF [(0, .ref (a29001)), (1, .ref (q1)), (2, .ref (q7)), (3, .ref (q13)), (4, .ref (q16)), (5, .int ((l5 + (7 : Int32))))] ⟨rfl, rfl, rfl, rfl, rfl, rfl, trivial⟩ (hI28 _ _ _ _ h)
        · have h := w_ift c h
          refine kx_aload dL_law_1223 rfl ?_
          refine kx_iconst (v := 0) dL_law_1225 (by decide) ?_
          refine kW_lD dL_law_1226 h (fun v29210 h => ?_)
          refine kx_fload dL_law_1227 rfl ?_
          refine kW_f2d dL_law_1229 h (fun v29211 h => ?_)
          refine kx_dcmp dL_law_1230 ?_
          refine kx_if_eq (tgt := 1256) dL_law_1231 (by decide) (fun c => ?_) (fun c => ?_)
          · have h := w_ift c h
            refine kx_goto (tgt := 3375) dL_law_1256 (by decide) ?_
            refine kx_iinc2 (v := 7) dL_law_3375 rfl (by decide) ?_
            refine kx_goto (tgt := 28) dL_law_3378 (by decide) ?_
            exact kx_lwF [(0, .ref (a29001)), (1, .ref (q1)), (2, .ref (q7)), (3, .ref (q13)), (4, .ref (q16)), (5, .int ((l5 + (7 : Int32))))] ⟨rfl, rfl, rfl, rfl, rfl, rfl, trivial⟩ (hI28 _ _ _ _ h)
          · have h := w_iff c h
            refine kx_aload dL_law_1234 rfl ?_
            refine kx_iconst (v := 0) dL_law_1236 (by decide) ?_
            refine kW_lD dL_law_1237 h (fun v29212 h => ?_)
            refine kx_aload dL_law_1238 rfl ?_
            refine kx_iconst (v := 0) dL_law_1240 (by decide) ?_
            refine kW_lD dL_law_1241 h (fun v29213 h => ?_)
            refine kx_dcmp dL_law_1242 ?_
            refine kx_if_eq (tgt := 1254) dL_law_1243 (by decide) (fun c => ?_) (fun c => ?_)
            · have h := w_ift c h
              refine kx_iconst (v := 0) dL_law_1254 (by decide) ?_
              exact kx_zret dL_law_1255 rfl rfl (hQ _ _ ⟨_, rfl, h⟩)
            · have h := w_iff c h
              refine kx_fload dL_law_1246 rfl ?_
              refine kx_fload dL_law_1248 rfl ?_
              refine kx_fcmp dL_law_1250 ?_
              refine kx_if_ne (tgt := 1256) dL_law_1251 (by decide) (fun c => ?_) (fun c => ?_)
              · have h := w_iff c h
                refine kx_goto (tgt := 3375) dL_law_1256 (by decide) ?_
                refine kx_iinc2 (v := 7) dL_law_3375 rfl (by decide) ?_
                refine kx_goto (tgt := 28) dL_law_3378 (by decide) ?_
                exact kx_lwF [(0, .ref (a29001)), (1, .ref (q1)), (2, .ref (q7)), (3, .ref (q13)), (4, .ref (q16)), (5, .int ((l5 + (7 : Int32))))] ⟨rfl, rfl, rfl, rfl, rfl, rfl, trivial⟩ (hI28 _ _ _ _ h)
              · have h := w_ift c h
                refine kx_iconst (v := 0) dL_law_1254 (by decide) ?_
                exact kx_zret dL_law_1255 rfl rfl (hQ _ _ ⟨_, rfl, h⟩)
      · have h := w_iff c h
        refine kx_iconst (v := 0) dL_law_1216 (by decide) ?_
        exact kx_zret dL_law_1217 rfl rfl (hQ _ _ ⟨_, rfl, h⟩)
    have h := w_iff c17 h
    by_cases c18 : (v29003 &&& (63 : Int32)) = (18 : Int32)
    · have h := w_ift c18 h
      refine kx_tableIn (tgt := 1259) dL_law_45 (by rw [c18]; decide) (by rw [c18]; decide) (by rw [c18]; rfl) (by decide) ?_
      refine kx_aload_n dL_law_1259 rfl rfl ?_
      refine kx_aload_n dL_law_1260 rfl rfl ?_
      refine kx_iload dL_law_1261 rfl ?_
      refine kx_iconst (v := 1) dL_law_1263 (by decide) ?_
      refine kx_iadd dL_law_1264 ?_
      refine kW_lI dL_law_1265 h (fun v29214 h => ?_)
      refine kx_aload_n dL_law_1266 rfl rfl ?_
      obtain ⟨c29217, c29218, hc, hs, h⟩ := h
      refine kx_callSX dL_law_1267 lk_X0_237 (kw_X0_matching h) rfl rfl (Nat.le_of_ble_eq_true rfl) (Nat.le_of_ble_eq_true rfl) (Nat.le_of_ble_eq_true rfl) hc hs (fun _ _ _ hx => kx_out rfl (hX _ _ _ hx)) (fun v_ σ29216 hq => ?_)
      obtain ⟨v29215, rfl, h⟩ := hq
      refine kx_istore dL_law_1270 (Nat.le_of_ble_eq_true rfl) ?_
      refine kx_aload_n dL_law_1272 rfl rfl ?_
      refine kx_aload_n dL_law_1273 rfl rfl ?_
      refine kx_iload dL_law_1274 rfl ?_
      refine kx_iconst (v := 1) dL_law_1276 (by decide) ?_
      refine kx_iadd dL_law_1277 ?_
      refine kW_lI dL_law_1278 h (fun v29219 h => ?_)
      refine kW_MI dL_law_1279 lk_X0_239 (fun hd_ h_ => mM_matching hd_ h_) rfl rfl (Nat.le_of_ble_eq_true rfl) (Nat.le_of_ble_eq_true rfl) (Nat.le_of_ble_eq_true rfl) h (fun v29220 σ29221 h => ?_)
      refine kx_istore dL_law_1282 (Nat.le_of_ble_eq_true rfl) ?_
      refine kx_aload_n dL_law_1284 rfl rfl ?_
      refine kW_MI dL_law_1285 lk_X0_172 (fun hd_ h_ => mM_thrown hd_ h_) rfl rfl (Nat.le_of_ble_eq_true rfl) (Nat.le_of_ble_eq_true rfl) (Nat.le_of_ble_eq_true rfl) h (fun v29222 σ29223 h => ?_)
      refine kx_iload dL_law_1288 rfl ?_
      refine kx_icmp_eq (tgt := 1295) dL_law_1290 (by decide) (fun c => ?_) (fun c => ?_)
      · have h := w_ift c h
        refine kx_iload dL_law_1295 rfl ?_
        refine kx_if_ne (tgt := 1312) dL_law_1297 (by decide) (fun c => ?_) (fun c => ?_)
        · have h := w_iff c h
          refine kx_goto (tgt := 3375) dL_law_1312 (by decide) ?_
          refine kx_iinc2 (v := 7) dL_law_3375 rfl (by decide) ?_
          refine kx_goto (tgt := 28) dL_law_3378 (by decide) ?_
          exact kx_lwF [(0, .ref (a29001)), (1, .ref (q1)), (2, .ref (q7)), (3, .ref (q13)), (4, .ref (q16)), (5, .int ((l5 + (7 : Int32))))] ⟨rfl, rfl, rfl, rfl, rfl, rfl, trivial⟩ (hI28 _ _ _ _ h)
        · have h := w_ift c h
          refine kx_aload_n dL_law_1300 rfl rfl ?_
          refine kx_iconst (v := 0) dL_law_1301 (by decide) ?_
          refine kW_lJ dL_law_1302 h (fun v29224 h => ?_)
          refine kx_iload dL_law_1303 rfl ?_
          refine kx_i2l dL_law_1305 rfl ?_
          refine kx_lcmp dL_law_1306 ?_
          refine kx_if_eq (tgt := 1312) dL_law_1307 (by decide) (fun c => ?_) (fun c => ?_)
          · have h := w_ift c h
            refine kx_goto (tgt := 3375) dL_law_1312 (by decide) ?_
            refine kx_iinc2 (v := 7) dL_law_3375 rfl (by decide) ?_
            refine kx_goto (tgt := 28) dL_law_3378 (by decide) ?_
            exact kx_lwF [(0, .ref (a29001)), (1, .ref (q1)), (2, .ref (q7)), (3, .ref (q13)), (4, .ref (q16)), (5, .int ((l5 + (7 : Int32))))] ⟨rfl, rfl, rfl, rfl, rfl, rfl, trivial⟩ (hI28 _ _ _ _ h)
          · have h := w_iff c h
            refine kx_iconst (v := 0) dL_law_1310 (by decide) ?_
            exact kx_zret dL_law_1311 rfl rfl (hQ _ _ ⟨_, rfl, h⟩)
      · have h := w_iff c h
        refine kx_iconst (v := 0) dL_law_1293 (by decide) ?_
        exact kx_zret dL_law_1294 rfl rfl (hQ _ _ ⟨_, rfl, h⟩)
    have h := w_iff c18 h
    by_cases c19 : (v29003 &&& (63 : Int32)) = (19 : Int32)
    · have h := w_ift c19 h
      refine kx_tableIn (tgt := 1315) dL_law_45 (by rw [c19]; decide) (by rw [c19]; decide) (by rw [c19]; rfl) (by decide) ?_
      refine kx_aload_n dL_law_1315 rfl rfl ?_
      refine kx_aload_n dL_law_1316 rfl rfl ?_
      refine kx_iload dL_law_1317 rfl ?_
      refine kx_iconst (v := 1) dL_law_1319 (by decide) ?_
      refine kx_iadd dL_law_1320 ?_
      refine kW_lI dL_law_1321 h (fun v29225 h => ?_)
      refine kx_aload_n dL_law_1322 rfl rfl ?_
      obtain ⟨c29228, c29229, hc, hs, h⟩ := h
      refine kx_callSX dL_law_1323 lk_X0_240 (kw_X0_hiding h) rfl rfl (Nat.le_of_ble_eq_true rfl) (Nat.le_of_ble_eq_true rfl) (Nat.le_of_ble_eq_true rfl) hc hs (fun _ _ _ hx => kx_out rfl (hX _ _ _ hx)) (fun v_ σ29227 hq => ?_)
      obtain ⟨v29226, rfl, h⟩ := hq
      refine kx_istore dL_law_1326 (Nat.le_of_ble_eq_true rfl) ?_
      refine kx_aload_n dL_law_1328 rfl rfl ?_
      refine kx_aload_n dL_law_1329 rfl rfl ?_
      refine kx_iload dL_law_1330 rfl ?_
      refine kx_iconst (v := 1) dL_law_1332 (by decide) ?_
      refine kx_iadd dL_law_1333 ?_
      refine kW_lI dL_law_1334 h (fun v29230 h => ?_)
      refine kW_MI dL_law_1335 lk_X0_242 (fun hd_ h_ => mM_hiding hd_ h_) rfl rfl (Nat.le_of_ble_eq_true rfl) (Nat.le_of_ble_eq_true rfl) (Nat.le_of_ble_eq_true rfl) h (fun v29231 σ29232 h => ?_)
      refine kx_istore dL_law_1338 (Nat.le_of_ble_eq_true rfl) ?_
      refine kx_aload_n dL_law_1340 rfl rfl ?_
      refine kW_MI dL_law_1341 lk_X0_172 (fun hd_ h_ => mM_thrown hd_ h_) rfl rfl (Nat.le_of_ble_eq_true rfl) (Nat.le_of_ble_eq_true rfl) (Nat.le_of_ble_eq_true rfl) h (fun v29233 σ29234 h => ?_)
      refine kx_iload dL_law_1344 rfl ?_
      refine kx_icmp_eq (tgt := 1351) dL_law_1346 (by decide) (fun c => ?_) (fun c => ?_)
      · have h := w_ift c h
        refine kx_iload dL_law_1351 rfl ?_
        refine kx_if_ne (tgt := 1368) dL_law_1353 (by decide) (fun c => ?_) (fun c => ?_)
        · have h := w_iff c h
          refine kx_goto (tgt := 3375) dL_law_1368 (by decide) ?_
          refine kx_iinc2 (v := 7) dL_law_3375 rfl (by decide) ?_
          refine kx_goto (tgt := 28) dL_law_3378 (by decide) ?_
          exact kx_lwF [(0, .ref (a29001)), (1, .ref (q1)), (2, .ref (q7)), (3, .ref (q13)), (4, .ref (q16)), (5, .int ((l5 + (7 : Int32))))] ⟨rfl, rfl, rfl, rfl, rfl, rfl, trivial⟩ (hI28 _ _ _ _ h)
        · have h := w_ift c h
          refine kx_aload_n dL_law_1356 rfl rfl ?_
          refine kx_iconst (v := 0) dL_law_1357 (by decide) ?_
          refine kW_lJ dL_law_1358 h (fun v29235 h => ?_)
          refine kx_iload dL_law_1359 rfl ?_
          refine kx_i2l dL_law_1361 rfl ?_
          refine kx_lcmp dL_law_1362 ?_
          refine kx_if_eq (tgt := 1368) dL_law_1363 (by decide) (fun c => ?_) (fun c => ?_)
          · have h := w_ift c h
            refine kx_goto (tgt := 3375) dL_law_1368 (by decide) ?_
            refine kx_iinc2 (v := 7) dL_law_3375 rfl (by decide) ?_
            refine kx_goto (tgt := 28) dL_law_3378 (by decide) ?_
            exact kx_lwF [(0, .ref (a29001)), (1, .ref (q1)), (2, .ref (q7)), (3, .ref (q13)), (4, .ref (q16)), (5, .int ((l5 + (7 : Int32))))] ⟨rfl, rfl, rfl, rfl, rfl, rfl, trivial⟩ (hI28 _ _ _ _ h)
          · have h := w_iff c h
            refine kx_iconst (v := 0) dL_law_1366 (by decide) ?_
            exact kx_zret dL_law_1367 rfl rfl (hQ _ _ ⟨_, rfl, h⟩)
      · have h := w_iff c h
        refine kx_iconst (v := 0) dL_law_1349 (by decide) ?_
        exact kx_zret dL_law_1350 rfl rfl (hQ _ _ ⟨_, rfl, h⟩)
    have h := w_iff c19 h
    by_cases c20 : (v29003 &&& (63 : Int32)) = (20 : Int32)
    · have h := w_ift c20 h
      refine kx_tableIn (tgt := 1371) dL_law_45 (by rw [c20]; decide) (by rw [c20]; decide) (by rw [c20]; rfl) (by decide) ?_
      refine kx_aload_n dL_law_1371 rfl rfl ?_
      refine kx_aload_n dL_law_1372 rfl rfl ?_
      refine kx_iload dL_law_1373 rfl ?_
      refine kx_iconst (v := 1) dL_law_1375 (by decide) ?_
      refine kx_iadd dL_law_1376 ?_
      refine kW_lI dL_law_1377 h (fun v29236 h => ?_)
      refine kx_aload_n dL_law_1378 rfl rfl ?_
      obtain ⟨c29239, c29240, hc, hs, h⟩ := h
      refine kx_callSX dL_law_1379 lk_X0_243 (kw_X0_isSuspect h) rfl rfl (Nat.le_of_ble_eq_true rfl) (Nat.le_of_ble_eq_true rfl) (Nat.le_of_ble_eq_true rfl) hc hs (fun _ _ _ hx => kx_out rfl (hX _ _ _ hx)) (fun v_ σ29238 hq => ?_)
      obtain ⟨v29237, rfl, h⟩ := hq
      refine kx_istore dL_law_1382 (Nat.le_of_ble_eq_true rfl) ?_
      refine kx_aload_n dL_law_1384 rfl rfl ?_
      refine kx_aload_n dL_law_1385 rfl rfl ?_
      refine kx_iload dL_law_1386 rfl ?_
      refine kx_iconst (v := 1) dL_law_1388 (by decide) ?_
      refine kx_iadd dL_law_1389 ?_
      refine kW_lI dL_law_1390 h (fun v29241 h => ?_)
      refine kW_MI dL_law_1391 lk_X0_245 (fun hd_ h_ => mM_isSuspect hd_ h_) rfl rfl (Nat.le_of_ble_eq_true rfl) (Nat.le_of_ble_eq_true rfl) (Nat.le_of_ble_eq_true rfl) h (fun v29242 σ29243 h => ?_)
      refine kx_istore dL_law_1394 (Nat.le_of_ble_eq_true rfl) ?_
      refine kx_aload_n dL_law_1396 rfl rfl ?_
      refine kW_MI dL_law_1397 lk_X0_172 (fun hd_ h_ => mM_thrown hd_ h_) rfl rfl (Nat.le_of_ble_eq_true rfl) (Nat.le_of_ble_eq_true rfl) (Nat.le_of_ble_eq_true rfl) h (fun v29244 σ29245 h => ?_)
      refine kx_iload dL_law_1400 rfl ?_
      refine kx_icmp_eq (tgt := 1407) dL_law_1402 (by decide) (fun c => ?_) (fun c => ?_)
      · have h := w_ift c h
        refine kx_iload dL_law_1407 rfl ?_
        refine kx_if_ne (tgt := 1431) dL_law_1409 (by decide) (fun c => ?_) (fun c => ?_)
        · have h := w_iff c h
          refine kx_goto (tgt := 3375) dL_law_1431 (by decide) ?_
          refine kx_iinc2 (v := 7) dL_law_3375 rfl (by decide) ?_
          refine kx_goto (tgt := 28) dL_law_3378 (by decide) ?_
          exact kx_lwF [(0, .ref (a29001)), (1, .ref (q1)), (2, .ref (q7)), (3, .ref (q13)), (4, .ref (q16)), (5, .int ((l5 + (7 : Int32))))] ⟨rfl, rfl, rfl, rfl, rfl, rfl, trivial⟩ (hI28 _ _ _ _ h)
        · have h := w_ift c h
          refine kx_aload_n dL_law_1412 rfl rfl ?_
          refine kx_iconst (v := 0) dL_law_1413 (by decide) ?_
          refine kW_lJ dL_law_1414 h (fun v29246 h => ?_)
          refine kx_iload dL_law_1415 rfl ?_
          refine kW_jLa 1425 [.long (v29246)] h (fun v29248 σ29249 bcv29248 bsv29248 h => ?_) (fun k29247 jk29247 h => ?_)
          · skip
            refine kx_lcmp dL_law_1425 ?_
            refine kx_if_eq (tgt := 1431) dL_law_1426 (by decide) (fun c => ?_) (fun c => ?_)
            · have h := w_ift c h
              refine kx_goto (tgt := 3375) dL_law_1431 (by decide) ?_
              refine kx_iinc2 (v := 7) dL_law_3375 rfl (by decide) ?_
              refine kx_goto (tgt := 28) dL_law_3378 (by decide) ?_
              exact kx_lwF [(0, .ref (a29001)), (1, .ref (q1)), (2, .ref (q7)), (3, .ref (q13)), (4, .ref (q16)), (5, .int ((l5 + (7 : Int32))))] ⟨rfl, rfl, rfl, rfl, rfl, rfl, trivial⟩ (hI28 _ _ _ _ h)
            · have h := w_iff c h
              refine kx_iconst (v := 0) dL_law_1429 (by decide) ?_
              exact kx_zret dL_law_1430 rfl rfl (hQ _ _ ⟨_, rfl, h⟩)
          · skip
            refine kx_if_eq (tgt := 1424) dL_law_1417 (by decide) (fun c => ?_) (fun c => ?_)
            · have h := w_ift c h
              refine kx_lconst (v := 0) dL_law_1424 (by decide) ?_
              exact jk29247 _ _ _ _ h
            · have h := w_iff c h
              refine kx_lconst (v := 1) dL_law_1420 (by decide) ?_
              refine kx_goto (tgt := 1425) dL_law_1421 (by decide) ?_
              exact jk29247 _ _ _ _ h
      · have h := w_iff c h
        refine kx_iconst (v := 0) dL_law_1405 (by decide) ?_
        exact kx_zret dL_law_1406 rfl rfl (hQ _ _ ⟨_, rfl, h⟩)
    have h := w_iff c20 h
    by_cases c21 : (v29003 &&& (63 : Int32)) = (21 : Int32)
    · have h := w_ift c21 h
      refine kx_tableIn (tgt := 1434) dL_law_45 (by rw [c21]; decide) (by rw [c21]; decide) (by rw [c21]; rfl) (by decide) ?_
      refine kx_aload_n dL_law_1434 rfl rfl ?_
      refine kx_aload_n dL_law_1435 rfl rfl ?_
      refine kx_iload dL_law_1436 rfl ?_
      refine kx_iconst (v := 1) dL_law_1438 (by decide) ?_
      refine kx_iadd dL_law_1439 ?_
      refine kW_lI dL_law_1440 h (fun v29250 h => ?_)
      refine kx_aload_n dL_law_1441 rfl rfl ?_
      obtain ⟨c29253, c29254, hc, hs, h⟩ := h
      refine kx_callSX dL_law_1442 lk_X0_246 (kw_X0_suspects h) rfl rfl (Nat.le_of_ble_eq_true rfl) (Nat.le_of_ble_eq_true rfl) (Nat.le_of_ble_eq_true rfl) hc hs (fun _ _ _ hx => kx_out rfl (hX _ _ _ hx)) (fun v_ σ29252 hq => ?_)
      obtain ⟨v29251, rfl, h⟩ := hq
      refine kx_istore dL_law_1445 (Nat.le_of_ble_eq_true rfl) ?_
      refine kx_aload_n dL_law_1447 rfl rfl ?_
      refine kx_aload_n dL_law_1448 rfl rfl ?_
      refine kx_iload dL_law_1449 rfl ?_
      refine kx_iconst (v := 1) dL_law_1451 (by decide) ?_
      refine kx_iadd dL_law_1452 ?_
      refine kW_lI dL_law_1453 h (fun v29255 h => ?_)
      refine kW_MI dL_law_1454 lk_X0_248 (fun hd_ h_ => mM_suspects hd_ h_) rfl rfl (Nat.le_of_ble_eq_true rfl) (Nat.le_of_ble_eq_true rfl) (Nat.le_of_ble_eq_true rfl) h (fun v29256 σ29257 h => ?_)
      refine kx_istore dL_law_1457 (Nat.le_of_ble_eq_true rfl) ?_
      refine kx_aload_n dL_law_1459 rfl rfl ?_
      refine kW_MI dL_law_1460 lk_X0_172 (fun hd_ h_ => mM_thrown hd_ h_) rfl rfl (Nat.le_of_ble_eq_true rfl) (Nat.le_of_ble_eq_true rfl) (Nat.le_of_ble_eq_true rfl) h (fun v29258 σ29259 h => ?_)
      refine kx_iload dL_law_1463 rfl ?_
      refine kx_icmp_eq (tgt := 1470) dL_law_1465 (by decide) (fun c => ?_) (fun c => ?_)
      · have h := w_ift c h
        refine kx_iload dL_law_1470 rfl ?_
        refine kx_if_ne (tgt := 1487) dL_law_1472 (by decide) (fun c => ?_) (fun c => ?_)
        · have h := w_iff c h
          refine kx_goto (tgt := 3375) dL_law_1487 (by decide) ?_
          refine kx_iinc2 (v := 7) dL_law_3375 rfl (by decide) ?_
          refine kx_goto (tgt := 28) dL_law_3378 (by decide) ?_
          exact kx_lwF [(0, .ref (a29001)), (1, .ref (q1)), (2, .ref (q7)), (3, .ref (q13)), (4, .ref (q16)), (5, .int ((l5 + (7 : Int32))))] ⟨rfl, rfl, rfl, rfl, rfl, rfl, trivial⟩ (hI28 _ _ _ _ h)
        · have h := w_ift c h
          refine kx_aload_n dL_law_1475 rfl rfl ?_
          refine kx_iconst (v := 0) dL_law_1476 (by decide) ?_
          refine kW_lJ dL_law_1477 h (fun v29260 h => ?_)
          refine kx_iload dL_law_1478 rfl ?_
          refine kx_i2l dL_law_1480 rfl ?_
          refine kx_lcmp dL_law_1481 ?_
          refine kx_if_eq (tgt := 1487) dL_law_1482 (by decide) (fun c => ?_) (fun c => ?_)
          · have h := w_ift c h
            refine kx_goto (tgt := 3375) dL_law_1487 (by decide) ?_
            refine kx_iinc2 (v := 7) dL_law_3375 rfl (by decide) ?_
            refine kx_goto (tgt := 28) dL_law_3378 (by decide) ?_
            exact kx_lwF [(0, .ref (a29001)), (1, .ref (q1)), (2, .ref (q7)), (3, .ref (q13)), (4, .ref (q16)), (5, .int ((l5 + (7 : Int32))))] ⟨rfl, rfl, rfl, rfl, rfl, rfl, trivial⟩ (hI28 _ _ _ _ h)
          · have h := w_iff c h
            refine kx_iconst (v := 0) dL_law_1485 (by decide) ?_
            exact kx_zret dL_law_1486 rfl rfl (hQ _ _ ⟨_, rfl, h⟩)
      · have h := w_iff c h
        refine kx_iconst (v := 0) dL_law_1468 (by decide) ?_
        exact kx_zret dL_law_1469 rfl rfl (hQ _ _ ⟨_, rfl, h⟩)
    have h := w_iff c21 h
    by_cases c22 : (v29003 &&& (63 : Int32)) = (22 : Int32)
    · have h := w_ift c22 h
      refine kx_tableIn (tgt := 1490) dL_law_45 (by rw [c22]; decide) (by rw [c22]; decide) (by rw [c22]; rfl) (by decide) ?_
      refine kx_aload_n dL_law_1490 rfl rfl ?_
      refine kx_aload_n dL_law_1491 rfl rfl ?_
      refine kx_iload dL_law_1492 rfl ?_
      refine kx_iconst (v := 1) dL_law_1494 (by decide) ?_
      refine kx_iadd dL_law_1495 ?_
      refine kW_lI dL_law_1496 h (fun v29261 h => ?_)
      refine kx_aload_n dL_law_1497 rfl rfl ?_
      refine kx_iload dL_law_1498 rfl ?_
      refine kx_iconst (v := 2) dL_law_1500 (by decide) ?_
      refine kx_iadd dL_law_1501 ?_
      refine kW_lI dL_law_1502 h (fun v29262 h => ?_)
      refine kx_aload_n dL_law_1503 rfl rfl ?_
      obtain ⟨c29265, c29266, hc, hs, h⟩ := h
      refine kx_callSX dL_law_1504 lk_X0_249 (kw_X0_wasSuspect h) rfl rfl (Nat.le_of_ble_eq_true rfl) (Nat.le_of_ble_eq_true rfl) (Nat.le_of_ble_eq_true rfl) hc hs (fun _ _ _ hx => kx_out rfl (hX _ _ _ hx)) (fun v_ σ29264 hq => ?_)
      obtain ⟨v29263, rfl, h⟩ := hq
      refine kx_istore dL_law_1507 (Nat.le_of_ble_eq_true rfl) ?_
      refine kx_aload_n dL_law_1509 rfl rfl ?_
      refine kx_aload_n dL_law_1510 rfl rfl ?_
      refine kx_iload dL_law_1511 rfl ?_
      refine kx_iconst (v := 1) dL_law_1513 (by decide) ?_
      refine kx_iadd dL_law_1514 ?_
      refine kW_lI dL_law_1515 h (fun v29267 h => ?_)
      refine kx_aload_n dL_law_1516 rfl rfl ?_
      refine kx_iload dL_law_1517 rfl ?_
      refine kx_iconst (v := 2) dL_law_1519 (by decide) ?_
      refine kx_iadd dL_law_1520 ?_
      refine kW_lI dL_law_1521 h (fun v29268 h => ?_)
      refine kW_MI dL_law_1522 lk_X0_251 (fun hd_ h_ => mM_wasSuspect hd_ h_) rfl rfl (Nat.le_of_ble_eq_true rfl) (Nat.le_of_ble_eq_true rfl) (Nat.le_of_ble_eq_true rfl) h (fun v29269 σ29270 h => ?_)
      refine kx_istore dL_law_1525 (Nat.le_of_ble_eq_true rfl) ?_
      refine kx_aload_n dL_law_1527 rfl rfl ?_
      refine kW_MI dL_law_1528 lk_X0_172 (fun hd_ h_ => mM_thrown hd_ h_) rfl rfl (Nat.le_of_ble_eq_true rfl) (Nat.le_of_ble_eq_true rfl) (Nat.le_of_ble_eq_true rfl) h (fun v29271 σ29272 h => ?_)
      refine kx_iload dL_law_1531 rfl ?_
      refine kx_icmp_eq (tgt := 1538) dL_law_1533 (by decide) (fun c => ?_) (fun c => ?_)
      · have h := w_ift c h
        refine kx_iload dL_law_1538 rfl ?_
        refine kx_if_ne (tgt := 1562) dL_law_1540 (by decide) (fun c => ?_) (fun c => ?_)
        · have h := w_iff c h
          refine kx_goto (tgt := 3375) dL_law_1562 (by decide) ?_
          refine kx_iinc2 (v := 7) dL_law_3375 rfl (by decide) ?_
          refine kx_goto (tgt := 28) dL_law_3378 (by decide) ?_
          exact kx_lwF [(0, .ref (a29001)), (1, .ref (q1)), (2, .ref (q7)), (3, .ref (q13)), (4, .ref (q16)), (5, .int ((l5 + (7 : Int32))))] ⟨rfl, rfl, rfl, rfl, rfl, rfl, trivial⟩ (hI28 _ _ _ _ h)
        · have h := w_ift c h
          refine kx_aload_n dL_law_1543 rfl rfl ?_
          refine kx_iconst (v := 0) dL_law_1544 (by decide) ?_
          refine kW_lJ dL_law_1545 h (fun v29273 h => ?_)
          refine kx_iload dL_law_1546 rfl ?_
          refine kW_jLa 1556 [.long (v29273)] h (fun v29275 σ29276 bcv29275 bsv29275 h => ?_) (fun k29274 jk29274 h => ?_)
          · skip
            refine kx_lcmp dL_law_1556 ?_
            refine kx_if_eq (tgt := 1562) dL_law_1557 (by decide) (fun c => ?_) (fun c => ?_)
            · have h := w_ift c h
              refine kx_goto (tgt := 3375) dL_law_1562 (by decide) ?_
              refine kx_iinc2 (v := 7) dL_law_3375 rfl (by decide) ?_
              refine kx_goto (tgt := 28) dL_law_3378 (by decide) ?_
              exact kx_lwF [(0, .ref (a29001)), (1, .ref (q1)), (2, .ref (q7)), (3, .ref (q13)), (4, .ref (q16)), (5, .int ((l5 + (7 : Int32))))] ⟨rfl, rfl, rfl, rfl, rfl, rfl, trivial⟩ (hI28 _ _ _ _ h)
            · have h := w_iff c h
              refine kx_iconst (v := 0) dL_law_1560 (by decide) ?_
              exact kx_zret dL_law_1561 rfl rfl (hQ _ _ ⟨_, rfl, h⟩)
          · skip
            refine kx_if_eq (tgt := 1555) dL_law_1548 (by decide) (fun c => ?_) (fun c => ?_)
            · have h := w_ift c h
              refine kx_lconst (v := 0) dL_law_1555 (by decide) ?_
              exact jk29274 _ _ _ _ h
            · have h := w_iff c h
              refine kx_lconst (v := 1) dL_law_1551 (by decide) ?_
              refine kx_goto (tgt := 1556) dL_law_1552 (by decide) ?_
              exact jk29274 _ _ _ _ h
      · have h := w_iff c h
        refine kx_iconst (v := 0) dL_law_1536 (by decide) ?_
        exact kx_zret dL_law_1537 rfl rfl (hQ _ _ ⟨_, rfl, h⟩)
    have h := w_iff c22 h
    by_cases c23 : (v29003 &&& (63 : Int32)) = (23 : Int32)
    · have h := w_ift c23 h
      refine kx_tableIn (tgt := 1565) dL_law_45 (by rw [c23]; decide) (by rw [c23]; decide) (by rw [c23]; rfl) (by decide) ?_
      refine kx_aload_n dL_law_1565 rfl rfl ?_
      refine kx_aload_n dL_law_1566 rfl rfl ?_
      refine kx_iload dL_law_1567 rfl ?_
      refine kx_iconst (v := 1) dL_law_1569 (by decide) ?_
      refine kx_iadd dL_law_1570 ?_
      refine kW_lI dL_law_1571 h (fun v29277 h => ?_)
      refine kx_aload_n dL_law_1572 rfl rfl ?_
      obtain ⟨c29280, c29281, hc, hs, h⟩ := h
      refine kx_callSX dL_law_1573 lk_X0_252 (kw_X0_margin h) rfl rfl (Nat.le_of_ble_eq_true rfl) (Nat.le_of_ble_eq_true rfl) (Nat.le_of_ble_eq_true rfl) hc hs (fun _ _ _ hx => kx_out rfl (hX _ _ _ hx)) (fun v_ σ29279 hq => ?_)
      obtain ⟨v29278, rfl, h⟩ := hq
      refine kx_istore dL_law_1576 (Nat.le_of_ble_eq_true rfl) ?_
      refine kx_aload_n dL_law_1578 rfl rfl ?_
      refine kx_aload_n dL_law_1579 rfl rfl ?_
      refine kx_iload dL_law_1580 rfl ?_
      refine kx_iconst (v := 1) dL_law_1582 (by decide) ?_
      refine kx_iadd dL_law_1583 ?_
      refine kW_lI dL_law_1584 h (fun v29282 h => ?_)
      refine kW_MI dL_law_1585 lk_X0_254 (fun hd_ h_ => mM_margin hd_ h_) rfl rfl (Nat.le_of_ble_eq_true rfl) (Nat.le_of_ble_eq_true rfl) (Nat.le_of_ble_eq_true rfl) h (fun v29283 σ29284 h => ?_)
      refine kx_istore dL_law_1588 (Nat.le_of_ble_eq_true rfl) ?_
      refine kx_aload_n dL_law_1590 rfl rfl ?_
      refine kW_MI dL_law_1591 lk_X0_172 (fun hd_ h_ => mM_thrown hd_ h_) rfl rfl (Nat.le_of_ble_eq_true rfl) (Nat.le_of_ble_eq_true rfl) (Nat.le_of_ble_eq_true rfl) h (fun v29285 σ29286 h => ?_)
      refine kx_iload dL_law_1594 rfl ?_
      refine kx_icmp_eq (tgt := 1601) dL_law_1596 (by decide) (fun c => ?_) (fun c => ?_)
      · have h := w_ift c h
        refine kx_iload dL_law_1601 rfl ?_
        refine kx_if_ne (tgt := 1618) dL_law_1603 (by decide) (fun c => ?_) (fun c => ?_)
        · have h := w_iff c h
          refine kx_goto (tgt := 3375) dL_law_1618 (by decide) ?_
          refine kx_iinc2 (v := 7) dL_law_3375 rfl (by decide) ?_
          refine kx_goto (tgt := 28) dL_law_3378 (by decide) ?_
          exact kx_lwF [(0, .ref (a29001)), (1, .ref (q1)), (2, .ref (q7)), (3, .ref (q13)), (4, .ref (q16)), (5, .int ((l5 + (7 : Int32))))] ⟨rfl, rfl, rfl, rfl, rfl, rfl, trivial⟩ (hI28 _ _ _ _ h)
        · have h := w_ift c h
          refine kx_aload_n dL_law_1606 rfl rfl ?_
          refine kx_iconst (v := 0) dL_law_1607 (by decide) ?_
          refine kW_lJ dL_law_1608 h (fun v29287 h => ?_)
          refine kx_iload dL_law_1609 rfl ?_
          refine kx_i2l dL_law_1611 rfl ?_
          refine kx_lcmp dL_law_1612 ?_
          refine kx_if_eq (tgt := 1618) dL_law_1613 (by decide) (fun c => ?_) (fun c => ?_)
          · have h := w_ift c h
            refine kx_goto (tgt := 3375) dL_law_1618 (by decide) ?_
            refine kx_iinc2 (v := 7) dL_law_3375 rfl (by decide) ?_
            refine kx_goto (tgt := 28) dL_law_3378 (by decide) ?_
            exact kx_lwF [(0, .ref (a29001)), (1, .ref (q1)), (2, .ref (q7)), (3, .ref (q13)), (4, .ref (q16)), (5, .int ((l5 + (7 : Int32))))] ⟨rfl, rfl, rfl, rfl, rfl, rfl, trivial⟩ (hI28 _ _ _ _ h)
          · have h := w_iff c h
            refine kx_iconst (v := 0) dL_law_1616 (by decide) ?_
            exact kx_zret dL_law_1617 rfl rfl (hQ _ _ ⟨_, rfl, h⟩)
      · have h := w_iff c h
        refine kx_iconst (v := 0) dL_law_1599 (by decide) ?_
        exact kx_zret dL_law_1600 rfl rfl (hQ _ _ ⟨_, rfl, h⟩)
    have h := w_iff c23 h
    by_cases c24 : (v29003 &&& (63 : Int32)) = (24 : Int32)
    · have h := w_ift c24 h
      refine kx_tableIn (tgt := 1621) dL_law_45 (by rw [c24]; decide) (by rw [c24]; decide) (by rw [c24]; rfl) (by decide) ?_
      refine kx_aload_n dL_law_1621 rfl rfl ?_
      refine kx_aload_n dL_law_1622 rfl rfl ?_
      refine kx_iload dL_law_1623 rfl ?_
      refine kx_iconst (v := 1) dL_law_1625 (by decide) ?_
      refine kx_iadd dL_law_1626 ?_
      refine kW_lI dL_law_1627 h (fun v29288 h => ?_)
      refine kx_aload_n dL_law_1628 rfl rfl ?_
      obtain ⟨c29291, c29292, hc, hs, h⟩ := h
      refine kx_callSX dL_law_1629 lk_X0_255 (kw_X0_hits h) rfl rfl (Nat.le_of_ble_eq_true rfl) (Nat.le_of_ble_eq_true rfl) (Nat.le_of_ble_eq_true rfl) hc hs (fun _ _ _ hx => kx_out rfl (hX _ _ _ hx)) (fun v_ σ29290 hq => ?_)
      obtain ⟨v29289, rfl, h⟩ := hq
      refine kx_istore dL_law_1632 (Nat.le_of_ble_eq_true rfl) ?_
      refine kx_aload_n dL_law_1634 rfl rfl ?_
      refine kx_aload_n dL_law_1635 rfl rfl ?_
      refine kx_iload dL_law_1636 rfl ?_
      refine kx_iconst (v := 1) dL_law_1638 (by decide) ?_
      refine kx_iadd dL_law_1639 ?_
      refine kW_lI dL_law_1640 h (fun v29293 h => ?_)
      refine kW_MI dL_law_1641 lk_X0_257 (fun hd_ h_ => mM_hits hd_ h_) rfl rfl (Nat.le_of_ble_eq_true rfl) (Nat.le_of_ble_eq_true rfl) (Nat.le_of_ble_eq_true rfl) h (fun v29294 σ29295 h => ?_)
      refine kx_istore dL_law_1644 (Nat.le_of_ble_eq_true rfl) ?_
      refine kx_aload_n dL_law_1646 rfl rfl ?_
      refine kW_MI dL_law_1647 lk_X0_172 (fun hd_ h_ => mM_thrown hd_ h_) rfl rfl (Nat.le_of_ble_eq_true rfl) (Nat.le_of_ble_eq_true rfl) (Nat.le_of_ble_eq_true rfl) h (fun v29296 σ29297 h => ?_)
      refine kx_iload dL_law_1650 rfl ?_
      refine kx_icmp_eq (tgt := 1657) dL_law_1652 (by decide) (fun c => ?_) (fun c => ?_)
      · have h := w_ift c h
        refine kx_iload dL_law_1657 rfl ?_
        refine kx_if_ne (tgt := 1674) dL_law_1659 (by decide) (fun c => ?_) (fun c => ?_)
        · have h := w_iff c h
          refine kx_goto (tgt := 3375) dL_law_1674 (by decide) ?_
          refine kx_iinc2 (v := 7) dL_law_3375 rfl (by decide) ?_
          refine kx_goto (tgt := 28) dL_law_3378 (by decide) ?_
          exact kx_lwF [(0, .ref (a29001)), (1, .ref (q1)), (2, .ref (q7)), (3, .ref (q13)), (4, .ref (q16)), (5, .int ((l5 + (7 : Int32))))] ⟨rfl, rfl, rfl, rfl, rfl, rfl, trivial⟩ (hI28 _ _ _ _ h)
        · have h := w_ift c h
          refine kx_aload_n dL_law_1662 rfl rfl ?_
          refine kx_iconst (v := 0) dL_law_1663 (by decide) ?_
          refine kW_lJ dL_law_1664 h (fun v29298 h => ?_)
          refine kx_iload dL_law_1665 rfl ?_
          refine kx_i2l dL_law_1667 rfl ?_
          refine kx_lcmp dL_law_1668 ?_
          refine kx_if_eq (tgt := 1674) dL_law_1669 (by decide) (fun c => ?_) (fun c => ?_)
          · have h := w_ift c h
            refine kx_goto (tgt := 3375) dL_law_1674 (by decide) ?_
            refine kx_iinc2 (v := 7) dL_law_3375 rfl (by decide) ?_
            refine kx_goto (tgt := 28) dL_law_3378 (by decide) ?_
            exact kx_lwF [(0, .ref (a29001)), (1, .ref (q1)), (2, .ref (q7)), (3, .ref (q13)), (4, .ref (q16)), (5, .int ((l5 + (7 : Int32))))] ⟨rfl, rfl, rfl, rfl, rfl, rfl, trivial⟩ (hI28 _ _ _ _ h)
          · have h := w_iff c h
            refine kx_iconst (v := 0) dL_law_1672 (by decide) ?_
            exact kx_zret dL_law_1673 rfl rfl (hQ _ _ ⟨_, rfl, h⟩)
      · have h := w_iff c h
        refine kx_iconst (v := 0) dL_law_1655 (by decide) ?_
        exact kx_zret dL_law_1656 rfl rfl (hQ _ _ ⟨_, rfl, h⟩)
    have h := w_iff c24 h
    by_cases c25 : (v29003 &&& (63 : Int32)) = (25 : Int32)
    · have h := w_ift c25 h
      refine kx_tableIn (tgt := 1677) dL_law_45 (by rw [c25]; decide) (by rw [c25]; decide) (by rw [c25]; rfl) (by decide) ?_
      refine kx_aload_n dL_law_1677 rfl rfl ?_
      refine kx_aload_n dL_law_1678 rfl rfl ?_
      refine kx_iload dL_law_1679 rfl ?_
      refine kx_iconst (v := 1) dL_law_1681 (by decide) ?_
      refine kx_iadd dL_law_1682 ?_
      refine kW_lI dL_law_1683 h (fun v29299 h => ?_)
      refine kx_aload_n dL_law_1684 rfl rfl ?_
      obtain ⟨c29302, c29303, hc, hs, h⟩ := h
      refine kx_callSX dL_law_1685 lk_X0_258 (kw_X0_isAlways h) rfl rfl (Nat.le_of_ble_eq_true rfl) (Nat.le_of_ble_eq_true rfl) (Nat.le_of_ble_eq_true rfl) hc hs (fun _ _ _ hx => kx_out rfl (hX _ _ _ hx)) (fun v_ σ29301 hq => ?_)
      obtain ⟨v29300, rfl, h⟩ := hq
      refine kx_istore dL_law_1688 (Nat.le_of_ble_eq_true rfl) ?_
      refine kx_aload_n dL_law_1690 rfl rfl ?_
      refine kx_aload_n dL_law_1691 rfl rfl ?_
      refine kx_iload dL_law_1692 rfl ?_
      refine kx_iconst (v := 1) dL_law_1694 (by decide) ?_
      refine kx_iadd dL_law_1695 ?_
      refine kW_lI dL_law_1696 h (fun v29304 h => ?_)
      refine kW_MI dL_law_1697 lk_X0_260 (fun hd_ h_ => mM_isAlways hd_ h_) rfl rfl (Nat.le_of_ble_eq_true rfl) (Nat.le_of_ble_eq_true rfl) (Nat.le_of_ble_eq_true rfl) h (fun v29305 σ29306 h => ?_)
      refine kx_istore dL_law_1700 (Nat.le_of_ble_eq_true rfl) ?_
      refine kx_aload_n dL_law_1702 rfl rfl ?_
      refine kW_MI dL_law_1703 lk_X0_172 (fun hd_ h_ => mM_thrown hd_ h_) rfl rfl (Nat.le_of_ble_eq_true rfl) (Nat.le_of_ble_eq_true rfl) (Nat.le_of_ble_eq_true rfl) h (fun v29307 σ29308 h => ?_)
      refine kx_iload dL_law_1706 rfl ?_
      refine kx_icmp_eq (tgt := 1713) dL_law_1708 (by decide) (fun c => ?_) (fun c => ?_)
      · have h := w_ift c h
        refine kx_iload dL_law_1713 rfl ?_
        refine kx_if_ne (tgt := 1737) dL_law_1715 (by decide) (fun c => ?_) (fun c => ?_)
        · have h := w_iff c h
          refine kx_goto (tgt := 3375) dL_law_1737 (by decide) ?_
          refine kx_iinc2 (v := 7) dL_law_3375 rfl (by decide) ?_
          refine kx_goto (tgt := 28) dL_law_3378 (by decide) ?_
          exact kx_lwF [(0, .ref (a29001)), (1, .ref (q1)), (2, .ref (q7)), (3, .ref (q13)), (4, .ref (q16)), (5, .int ((l5 + (7 : Int32))))] ⟨rfl, rfl, rfl, rfl, rfl, rfl, trivial⟩ (hI28 _ _ _ _ h)
        · have h := w_ift c h
          refine kx_aload_n dL_law_1718 rfl rfl ?_
          refine kx_iconst (v := 0) dL_law_1719 (by decide) ?_
          refine kW_lJ dL_law_1720 h (fun v29309 h => ?_)
          refine kx_iload dL_law_1721 rfl ?_
          refine kW_jLa 1731 [.long (v29309)] h (fun v29311 σ29312 bcv29311 bsv29311 h => ?_) (fun k29310 jk29310 h => ?_)
          · skip
            refine kx_lcmp dL_law_1731 ?_
            refine kx_if_eq (tgt := 1737) dL_law_1732 (by decide) (fun c => ?_) (fun c => ?_)
            · have h := w_ift c h
              refine kx_goto (tgt := 3375) dL_law_1737 (by decide) ?_
              refine kx_iinc2 (v := 7) dL_law_3375 rfl (by decide) ?_
              refine kx_goto (tgt := 28) dL_law_3378 (by decide) ?_
              exact kx_lwF [(0, .ref (a29001)), (1, .ref (q1)), (2, .ref (q7)), (3, .ref (q13)), (4, .ref (q16)), (5, .int ((l5 + (7 : Int32))))] ⟨rfl, rfl, rfl, rfl, rfl, rfl, trivial⟩ (hI28 _ _ _ _ h)
            · have h := w_iff c h
              refine kx_iconst (v := 0) dL_law_1735 (by decide) ?_
              exact kx_zret dL_law_1736 rfl rfl (hQ _ _ ⟨_, rfl, h⟩)
          · skip
            refine kx_if_eq (tgt := 1730) dL_law_1723 (by decide) (fun c => ?_) (fun c => ?_)
            · have h := w_ift c h
              refine kx_lconst (v := 0) dL_law_1730 (by decide) ?_
              exact jk29310 _ _ _ _ h
            · have h := w_iff c h
              refine kx_lconst (v := 1) dL_law_1726 (by decide) ?_
              refine kx_goto (tgt := 1731) dL_law_1727 (by decide) ?_
              exact jk29310 _ _ _ _ h
      · have h := w_iff c h
        refine kx_iconst (v := 0) dL_law_1711 (by decide) ?_
        exact kx_zret dL_law_1712 rfl rfl (hQ _ _ ⟨_, rfl, h⟩)
    have h := w_iff c25 h
    by_cases c26 : (v29003 &&& (63 : Int32)) = (26 : Int32)
    · have h := w_ift c26 h
      refine kx_tableIn (tgt := 1740) dL_law_45 (by rw [c26]; decide) (by rw [c26]; decide) (by rw [c26]; rfl) (by decide) ?_
      refine kx_aload_n dL_law_1740 rfl rfl ?_
      refine kx_aload_n dL_law_1741 rfl rfl ?_
      refine kx_iload dL_law_1742 rfl ?_
      refine kx_iconst (v := 1) dL_law_1744 (by decide) ?_
      refine kx_iadd dL_law_1745 ?_
      refine kW_lI dL_law_1746 h (fun v29313 h => ?_)
      refine kx_aload_n dL_law_1747 rfl rfl ?_
      obtain ⟨c29316, c29317, hc, hs, h⟩ := h
      refine kx_callSX dL_law_1748 lk_X0_261 (kw_X0_nuisanceHits h) rfl rfl (Nat.le_of_ble_eq_true rfl) (Nat.le_of_ble_eq_true rfl) (Nat.le_of_ble_eq_true rfl) hc hs (fun _ _ _ hx => kx_out rfl (hX _ _ _ hx)) (fun v_ σ29315 hq => ?_)
      obtain ⟨v29314, rfl, h⟩ := hq
      refine kx_istore dL_law_1751 (Nat.le_of_ble_eq_true rfl) ?_
      refine kx_aload_n dL_law_1753 rfl rfl ?_
      refine kx_aload_n dL_law_1754 rfl rfl ?_
      refine kx_iload dL_law_1755 rfl ?_
      refine kx_iconst (v := 1) dL_law_1757 (by decide) ?_
      refine kx_iadd dL_law_1758 ?_
      refine kW_lI dL_law_1759 h (fun v29318 h => ?_)
      refine kW_MI dL_law_1760 lk_X0_263 (fun hd_ h_ => mM_nuisanceHits hd_ h_) rfl rfl (Nat.le_of_ble_eq_true rfl) (Nat.le_of_ble_eq_true rfl) (Nat.le_of_ble_eq_true rfl) h (fun v29319 σ29320 h => ?_)
      refine kx_istore dL_law_1763 (Nat.le_of_ble_eq_true rfl) ?_
      refine kx_aload_n dL_law_1765 rfl rfl ?_
      refine kW_MI dL_law_1766 lk_X0_172 (fun hd_ h_ => mM_thrown hd_ h_) rfl rfl (Nat.le_of_ble_eq_true rfl) (Nat.le_of_ble_eq_true rfl) (Nat.le_of_ble_eq_true rfl) h (fun v29321 σ29322 h => ?_)
      refine kx_iload dL_law_1769 rfl ?_
      refine kx_icmp_eq (tgt := 1776) dL_law_1771 (by decide) (fun c => ?_) (fun c => ?_)
      · have h := w_ift c h
        refine kx_iload dL_law_1776 rfl ?_
        refine kx_if_ne (tgt := 1793) dL_law_1778 (by decide) (fun c => ?_) (fun c => ?_)
        · have h := w_iff c h
          refine kx_goto (tgt := 3375) dL_law_1793 (by decide) ?_
          refine kx_iinc2 (v := 7) dL_law_3375 rfl (by decide) ?_
          refine kx_goto (tgt := 28) dL_law_3378 (by decide) ?_
          exact kx_lwF [(0, .ref (a29001)), (1, .ref (q1)), (2, .ref (q7)), (3, .ref (q13)), (4, .ref (q16)), (5, .int ((l5 + (7 : Int32))))] ⟨rfl, rfl, rfl, rfl, rfl, rfl, trivial⟩ (hI28 _ _ _ _ h)
        · have h := w_ift c h
          refine kx_aload_n dL_law_1781 rfl rfl ?_
          refine kx_iconst (v := 0) dL_law_1782 (by decide) ?_
          refine kW_lJ dL_law_1783 h (fun v29323 h => ?_)
          refine kx_iload dL_law_1784 rfl ?_
          refine kx_i2l dL_law_1786 rfl ?_
          refine kx_lcmp dL_law_1787 ?_
          refine kx_if_eq (tgt := 1793) dL_law_1788 (by decide) (fun c => ?_) (fun c => ?_)
          · have h := w_ift c h
            refine kx_goto (tgt := 3375) dL_law_1793 (by decide) ?_
            refine kx_iinc2 (v := 7) dL_law_3375 rfl (by decide) ?_
            refine kx_goto (tgt := 28) dL_law_3378 (by decide) ?_
            exact kx_lwF [(0, .ref (a29001)), (1, .ref (q1)), (2, .ref (q7)), (3, .ref (q13)), (4, .ref (q16)), (5, .int ((l5 + (7 : Int32))))] ⟨rfl, rfl, rfl, rfl, rfl, rfl, trivial⟩ (hI28 _ _ _ _ h)
          · have h := w_iff c h
            refine kx_iconst (v := 0) dL_law_1791 (by decide) ?_
            exact kx_zret dL_law_1792 rfl rfl (hQ _ _ ⟨_, rfl, h⟩)
      · have h := w_iff c h
        refine kx_iconst (v := 0) dL_law_1774 (by decide) ?_
        exact kx_zret dL_law_1775 rfl rfl (hQ _ _ ⟨_, rfl, h⟩)
    have h := w_iff c26 h
    by_cases c27 : (v29003 &&& (63 : Int32)) = (27 : Int32)
    · have h := w_ift c27 h
      refine kx_tableIn (tgt := 1796) dL_law_45 (by rw [c27]; decide) (by rw [c27]; decide) (by rw [c27]; rfl) (by decide) ?_
      refine kx_aload_n dL_law_1796 rfl rfl ?_
      refine kx_aload_n dL_law_1797 rfl rfl ?_
      refine kx_iload dL_law_1798 rfl ?_
      refine kx_iconst (v := 1) dL_law_1800 (by decide) ?_
      refine kx_iadd dL_law_1801 ?_
      refine kW_lI dL_law_1802 h (fun v29324 h => ?_)
      refine kx_aload_n dL_law_1803 rfl rfl ?_
      refine kx_iload dL_law_1804 rfl ?_
      refine kx_iconst (v := 2) dL_law_1806 (by decide) ?_
      refine kx_iadd dL_law_1807 ?_
      refine kW_lI dL_law_1808 h (fun v29325 h => ?_)
      refine kx_i2f dL_law_1809 ?_
      refine kx_ldcwf dL_law_1810 q3451 ?_
      refine kW_fmul dL_law_1813 h (fun v29326 h => ?_)
      refine kx_aload_n dL_law_1814 rfl rfl ?_
      refine kx_iload dL_law_1815 rfl ?_
      refine kx_iconst (v := 3) dL_law_1817 (by decide) ?_
      refine kx_iadd dL_law_1818 ?_
      refine kW_lI dL_law_1819 h (fun v29327 h => ?_)
      refine kx_i2f dL_law_1820 ?_
      refine kx_ldcwf dL_law_1821 q3451 ?_
      refine kW_fmul dL_law_1824 h (fun v29328 h => ?_)
      refine kx_aload_n dL_law_1825 rfl rfl ?_
      refine kx_iload dL_law_1826 rfl ?_
      refine kx_iconst (v := 4) dL_law_1828 (by decide) ?_
      refine kx_iadd dL_law_1829 ?_
      refine kW_lI dL_law_1830 h (fun v29329 h => ?_)
      refine kx_i2f dL_law_1831 ?_
      refine kx_ldcwf dL_law_1832 q3451 ?_
      refine kW_fmul dL_law_1835 h (fun v29330 h => ?_)
      refine kx_aload_n dL_law_1836 rfl rfl ?_
      refine kx_iload dL_law_1837 rfl ?_
      refine kx_iconst (v := 5) dL_law_1839 (by decide) ?_
      refine kx_iadd dL_law_1840 ?_
      refine kW_lI dL_law_1841 h (fun v29331 h => ?_)
      refine kx_i2f dL_law_1842 ?_
      refine kx_ldcwf dL_law_1843 q3451 ?_
      refine kW_fmul dL_law_1846 h (fun v29332 h => ?_)
      refine kx_aload_n dL_law_1847 rfl rfl ?_
      refine kx_iload dL_law_1848 rfl ?_
      refine kx_bipush (v := 6) dL_law_1850 (by decide) ?_
      refine kx_iadd dL_law_1852 ?_
      refine kW_lI dL_law_1853 h (fun v29333 h => ?_)
      refine kx_i2f dL_law_1854 ?_
      refine kx_ldcwf dL_law_1855 q3451 ?_
      refine kW_fmul dL_law_1858 h (fun v29334 h => ?_)
      refine kx_aload_n dL_law_1859 rfl rfl ?_
      obtain ⟨c29337, c29338, hc, hs, h⟩ := h
      refine kx_callSX dL_law_1860 lk_X0_265 (kw_X0_wouldMatch h) rfl rfl (Nat.le_of_ble_eq_true rfl) (Nat.le_of_ble_eq_true rfl) (Nat.le_of_ble_eq_true rfl) hc hs (fun _ _ _ hx => kx_out rfl (hX _ _ _ hx)) (fun v_ σ29336 hq => ?_)
      obtain ⟨v29335, rfl, h⟩ := hq
      refine kx_istore dL_law_1863 (Nat.le_of_ble_eq_true rfl) ?_
      refine kx_aload_n dL_law_1865 rfl rfl ?_
      refine kx_aload_n dL_law_1866 rfl rfl ?_
      refine kx_iload dL_law_1867 rfl ?_
      refine kx_iconst (v := 1) dL_law_1869 (by decide) ?_
      refine kx_iadd dL_law_1870 ?_
      refine kW_lI dL_law_1871 h (fun v29339 h => ?_)
      refine kx_aload_n dL_law_1872 rfl rfl ?_
      refine kx_iload dL_law_1873 rfl ?_
      refine kx_iconst (v := 2) dL_law_1875 (by decide) ?_
      refine kx_iadd dL_law_1876 ?_
      refine kW_lI dL_law_1877 h (fun v29340 h => ?_)
      refine kx_i2f dL_law_1878 ?_
      refine kx_ldcwf dL_law_1879 q3451 ?_
      refine kW_fmul dL_law_1882 h (fun v29341 h => ?_)
      refine kx_aload_n dL_law_1883 rfl rfl ?_
      refine kx_iload dL_law_1884 rfl ?_
      refine kx_iconst (v := 3) dL_law_1886 (by decide) ?_
      refine kx_iadd dL_law_1887 ?_
      refine kW_lI dL_law_1888 h (fun v29342 h => ?_)
      refine kx_i2f dL_law_1889 ?_
      refine kx_ldcwf dL_law_1890 q3451 ?_
      refine kW_fmul dL_law_1893 h (fun v29343 h => ?_)
      refine kx_aload_n dL_law_1894 rfl rfl ?_
      refine kx_iload dL_law_1895 rfl ?_
      refine kx_iconst (v := 4) dL_law_1897 (by decide) ?_
      refine kx_iadd dL_law_1898 ?_
      refine kW_lI dL_law_1899 h (fun v29344 h => ?_)
      refine kx_i2f dL_law_1900 ?_
      refine kx_ldcwf dL_law_1901 q3451 ?_
      refine kW_fmul dL_law_1904 h (fun v29345 h => ?_)
      refine kx_aload_n dL_law_1905 rfl rfl ?_
      refine kx_iload dL_law_1906 rfl ?_
      refine kx_iconst (v := 5) dL_law_1908 (by decide) ?_
      refine kx_iadd dL_law_1909 ?_
      refine kW_lI dL_law_1910 h (fun v29346 h => ?_)
      refine kx_i2f dL_law_1911 ?_
      refine kx_ldcwf dL_law_1912 q3451 ?_
      refine kW_fmul dL_law_1915 h (fun v29347 h => ?_)
      refine kx_aload_n dL_law_1916 rfl rfl ?_
      refine kx_iload dL_law_1917 rfl ?_
      refine kx_bipush (v := 6) dL_law_1919 (by decide) ?_
      refine kx_iadd dL_law_1921 ?_
      refine kW_lI dL_law_1922 h (fun v29348 h => ?_)
      refine kx_i2f dL_law_1923 ?_
      refine kx_ldcwf dL_law_1924 q3451 ?_
      refine kW_fmul dL_law_1927 h (fun v29349 h => ?_)
      refine kW_MI dL_law_1928 lk_X0_268 (fun hd_ h_ => mM_wouldMatch hd_ h_) rfl rfl (Nat.le_of_ble_eq_true rfl) (Nat.le_of_ble_eq_true rfl) (Nat.le_of_ble_eq_true rfl) h (fun v29350 σ29351 h => ?_)
      refine kx_istore dL_law_1931 (Nat.le_of_ble_eq_true rfl) ?_
      refine kx_aload_n dL_law_1933 rfl rfl ?_
      refine kW_MI dL_law_1934 lk_X0_172 (fun hd_ h_ => mM_thrown hd_ h_) rfl rfl (Nat.le_of_ble_eq_true rfl) (Nat.le_of_ble_eq_true rfl) (Nat.le_of_ble_eq_true rfl) h (fun v29352 σ29353 h => ?_)
      refine kx_iload dL_law_1937 rfl ?_
      refine kx_icmp_eq (tgt := 1944) dL_law_1939 (by decide) (fun c => ?_) (fun c => ?_)
      · have h := w_ift c h
        refine kx_iload dL_law_1944 rfl ?_
        refine kx_if_ne (tgt := 1968) dL_law_1946 (by decide) (fun c => ?_) (fun c => ?_)
        · have h := w_iff c h
          refine kx_goto (tgt := 3375) dL_law_1968 (by decide) ?_
          refine kx_iinc2 (v := 7) dL_law_3375 rfl (by decide) ?_
          refine kx_goto (tgt := 28) dL_law_3378 (by decide) ?_
          exact kx_lwF [(0, .ref (a29001)), (1, .ref (q1)), (2, .ref (q7)), (3, .ref (q13)), (4, .ref (q16)), (5, .int ((l5 + (7 : Int32))))] ⟨rfl, rfl, rfl, rfl, rfl, rfl, trivial⟩ (hI28 _ _ _ _ h)
        · have h := w_ift c h
          refine kx_aload_n dL_law_1949 rfl rfl ?_
          refine kx_iconst (v := 0) dL_law_1950 (by decide) ?_
          refine kW_lJ dL_law_1951 h (fun v29354 h => ?_)
          refine kx_iload dL_law_1952 rfl ?_
          refine kW_jLa 1962 [.long (v29354)] h (fun v29356 σ29357 bcv29356 bsv29356 h => ?_) (fun k29355 jk29355 h => ?_)
          · skip
            refine kx_lcmp dL_law_1962 ?_
            refine kx_if_eq (tgt := 1968) dL_law_1963 (by decide) (fun c => ?_) (fun c => ?_)
            · have h := w_ift c h
              refine kx_goto (tgt := 3375) dL_law_1968 (by decide) ?_
              refine kx_iinc2 (v := 7) dL_law_3375 rfl (by decide) ?_
              refine kx_goto (tgt := 28) dL_law_3378 (by decide) ?_
              exact kx_lwF [(0, .ref (a29001)), (1, .ref (q1)), (2, .ref (q7)), (3, .ref (q13)), (4, .ref (q16)), (5, .int ((l5 + (7 : Int32))))] ⟨rfl, rfl, rfl, rfl, rfl, rfl, trivial⟩ (hI28 _ _ _ _ h)
            · have h := w_iff c h
              refine kx_iconst (v := 0) dL_law_1966 (by decide) ?_
              exact kx_zret dL_law_1967 rfl rfl (hQ _ _ ⟨_, rfl, h⟩)
          · skip
            refine kx_if_eq (tgt := 1961) dL_law_1954 (by decide) (fun c => ?_) (fun c => ?_)
            · have h := w_ift c h
              refine kx_lconst (v := 0) dL_law_1961 (by decide) ?_
              exact jk29355 _ _ _ _ h
            · have h := w_iff c h
              refine kx_lconst (v := 1) dL_law_1957 (by decide) ?_
              refine kx_goto (tgt := 1962) dL_law_1958 (by decide) ?_
              exact jk29355 _ _ _ _ h
      · have h := w_iff c h
        refine kx_iconst (v := 0) dL_law_1942 (by decide) ?_
        exact kx_zret dL_law_1943 rfl rfl (hQ _ _ ⟨_, rfl, h⟩)
    have h := w_iff c27 h
    by_cases c28 : (v29003 &&& (63 : Int32)) = (28 : Int32)
    · have h := w_ift c28 h
      refine kx_tableIn (tgt := 1971) dL_law_45 (by rw [c28]; decide) (by rw [c28]; decide) (by rw [c28]; rfl) (by decide) ?_
      refine kx_aload_n dL_law_1971 rfl rfl ?_
      refine kx_aload_n dL_law_1972 rfl rfl ?_
      refine kx_iload dL_law_1973 rfl ?_
      refine kx_iconst (v := 1) dL_law_1975 (by decide) ?_
      refine kx_iadd dL_law_1976 ?_
      refine kW_lI dL_law_1977 h (fun v29358 h => ?_)
      refine kx_aload_n dL_law_1978 rfl rfl ?_
      obtain ⟨c29361, c29362, hc, hs, h⟩ := h
      refine kx_callSX dL_law_1979 lk_X0_269 (kw_X0_learn h) rfl rfl (Nat.le_of_ble_eq_true rfl) (Nat.le_of_ble_eq_true rfl) (Nat.le_of_ble_eq_true rfl) hc hs (fun _ _ _ hx => kx_out rfl (hX _ _ _ hx)) (fun v_ σ29360 hq => ?_)
      obtain ⟨v29359, rfl, h⟩ := hq
      refine kx_istore dL_law_1982 (Nat.le_of_ble_eq_true rfl) ?_
      refine kx_aload_n dL_law_1984 rfl rfl ?_
      refine kx_aload_n dL_law_1985 rfl rfl ?_
      refine kx_iload dL_law_1986 rfl ?_
      refine kx_iconst (v := 1) dL_law_1988 (by decide) ?_
      refine kx_iadd dL_law_1989 ?_
      refine kW_lI dL_law_1990 h (fun v29363 h => ?_)
      refine kW_MI dL_law_1991 lk_X0_271 (fun hd_ h_ => mM_learn hd_ h_) rfl rfl (Nat.le_of_ble_eq_true rfl) (Nat.le_of_ble_eq_true rfl) (Nat.le_of_ble_eq_true rfl) h (fun v29364 σ29365 h => ?_)
      refine kx_istore dL_law_1994 (Nat.le_of_ble_eq_true rfl) ?_
      refine kx_aload_n dL_law_1996 rfl rfl ?_
      refine kW_MI dL_law_1997 lk_X0_172 (fun hd_ h_ => mM_thrown hd_ h_) rfl rfl (Nat.le_of_ble_eq_true rfl) (Nat.le_of_ble_eq_true rfl) (Nat.le_of_ble_eq_true rfl) h (fun v29366 σ29367 h => ?_)
      refine kx_iload dL_law_2000 rfl ?_
      refine kx_icmp_eq (tgt := 2007) dL_law_2002 (by decide) (fun c => ?_) (fun c => ?_)
      · have h := w_ift c h
        refine kx_iload dL_law_2007 rfl ?_
        refine kx_if_ne (tgt := 2024) dL_law_2009 (by decide) (fun c => ?_) (fun c => ?_)
        · have h := w_iff c h
          refine kx_goto (tgt := 3375) dL_law_2024 (by decide) ?_
          refine kx_iinc2 (v := 7) dL_law_3375 rfl (by decide) ?_
          refine kx_goto (tgt := 28) dL_law_3378 (by decide) ?_
          exact kx_lwF [(0, .ref (a29001)), (1, .ref (q1)), (2, .ref (q7)), (3, .ref (q13)), (4, .ref (q16)), (5, .int ((l5 + (7 : Int32))))] ⟨rfl, rfl, rfl, rfl, rfl, rfl, trivial⟩ (hI28 _ _ _ _ h)
        · have h := w_ift c h
          refine kx_aload_n dL_law_2012 rfl rfl ?_
          refine kx_iconst (v := 0) dL_law_2013 (by decide) ?_
          refine kW_lJ dL_law_2014 h (fun v29368 h => ?_)
          refine kx_iload dL_law_2015 rfl ?_
          refine kx_i2l dL_law_2017 rfl ?_
          refine kx_lcmp dL_law_2018 ?_
          refine kx_if_eq (tgt := 2024) dL_law_2019 (by decide) (fun c => ?_) (fun c => ?_)
          · have h := w_ift c h
            refine kx_goto (tgt := 3375) dL_law_2024 (by decide) ?_
            refine kx_iinc2 (v := 7) dL_law_3375 rfl (by decide) ?_
            refine kx_goto (tgt := 28) dL_law_3378 (by decide) ?_
            exact kx_lwF [(0, .ref (a29001)), (1, .ref (q1)), (2, .ref (q7)), (3, .ref (q13)), (4, .ref (q16)), (5, .int ((l5 + (7 : Int32))))] ⟨rfl, rfl, rfl, rfl, rfl, rfl, trivial⟩ (hI28 _ _ _ _ h)
          · have h := w_iff c h
            refine kx_iconst (v := 0) dL_law_2022 (by decide) ?_
            exact kx_zret dL_law_2023 rfl rfl (hQ _ _ ⟨_, rfl, h⟩)
      · have h := w_iff c h
        refine kx_iconst (v := 0) dL_law_2005 (by decide) ?_
        exact kx_zret dL_law_2006 rfl rfl (hQ _ _ ⟨_, rfl, h⟩)
    have h := w_iff c28 h
    by_cases c29 : (v29003 &&& (63 : Int32)) = (29 : Int32)
    · have h := w_ift c29 h
      refine kx_tableIn (tgt := 2027) dL_law_45 (by rw [c29]; decide) (by rw [c29]; decide) (by rw [c29]; rfl) (by decide) ?_
      refine kx_aload_n dL_law_2027 rfl rfl ?_
      refine kx_aload_n dL_law_2028 rfl rfl ?_
      refine kx_iload dL_law_2029 rfl ?_
      refine kx_iconst (v := 1) dL_law_2031 (by decide) ?_
      refine kx_iadd dL_law_2032 ?_
      refine kW_lI dL_law_2033 h (fun v29369 h => ?_)
      refine kx_aload_n dL_law_2034 rfl rfl ?_
      obtain ⟨c29372, c29373, hc, hs, h⟩ := h
      refine kx_callSX dL_law_2035 lk_X0_272 (kw_X0_forget h) rfl rfl (Nat.le_of_ble_eq_true rfl) (Nat.le_of_ble_eq_true rfl) (Nat.le_of_ble_eq_true rfl) hc hs (fun _ _ _ hx => kx_out rfl (hX _ _ _ hx)) (fun v_ σ29371 hq => ?_)
      obtain ⟨v29370, rfl, h⟩ := hq
      refine kx_istore dL_law_2038 (Nat.le_of_ble_eq_true rfl) ?_
      refine kx_aload_n dL_law_2040 rfl rfl ?_
      refine kx_aload_n dL_law_2041 rfl rfl ?_
      refine kx_iload dL_law_2042 rfl ?_
      refine kx_iconst (v := 1) dL_law_2044 (by decide) ?_
      refine kx_iadd dL_law_2045 ?_
      refine kW_lI dL_law_2046 h (fun v29374 h => ?_)
      refine kW_MI dL_law_2047 lk_X0_274 (fun hd_ h_ => mM_forget hd_ h_) rfl rfl (Nat.le_of_ble_eq_true rfl) (Nat.le_of_ble_eq_true rfl) (Nat.le_of_ble_eq_true rfl) h (fun v29375 σ29376 h => ?_)
      refine kx_istore dL_law_2050 (Nat.le_of_ble_eq_true rfl) ?_
      refine kx_aload_n dL_law_2052 rfl rfl ?_
      refine kW_MI dL_law_2053 lk_X0_172 (fun hd_ h_ => mM_thrown hd_ h_) rfl rfl (Nat.le_of_ble_eq_true rfl) (Nat.le_of_ble_eq_true rfl) (Nat.le_of_ble_eq_true rfl) h (fun v29377 σ29378 h => ?_)
      refine kx_iload dL_law_2056 rfl ?_
      refine kx_icmp_eq (tgt := 2063) dL_law_2058 (by decide) (fun c => ?_) (fun c => ?_)
      · have h := w_ift c h
        refine kx_iload dL_law_2063 rfl ?_
        refine kx_if_ne (tgt := 2080) dL_law_2065 (by decide) (fun c => ?_) (fun c => ?_)
        · have h := w_iff c h
          refine kx_goto (tgt := 3375) dL_law_2080 (by decide) ?_
          refine kx_iinc2 (v := 7) dL_law_3375 rfl (by decide) ?_
          refine kx_goto (tgt := 28) dL_law_3378 (by decide) ?_
          exact kx_lwF [(0, .ref (a29001)), (1, .ref (q1)), (2, .ref (q7)), (3, .ref (q13)), (4, .ref (q16)), (5, .int ((l5 + (7 : Int32))))] ⟨rfl, rfl, rfl, rfl, rfl, rfl, trivial⟩ (hI28 _ _ _ _ h)
        · have h := w_ift c h
          refine kx_aload_n dL_law_2068 rfl rfl ?_
          refine kx_iconst (v := 0) dL_law_2069 (by decide) ?_
          refine kW_lJ dL_law_2070 h (fun v29379 h => ?_)
          refine kx_iload dL_law_2071 rfl ?_
          refine kx_i2l dL_law_2073 rfl ?_
          refine kx_lcmp dL_law_2074 ?_
          refine kx_if_eq (tgt := 2080) dL_law_2075 (by decide) (fun c => ?_) (fun c => ?_)
          · have h := w_ift c h
            refine kx_goto (tgt := 3375) dL_law_2080 (by decide) ?_
            refine kx_iinc2 (v := 7) dL_law_3375 rfl (by decide) ?_
            refine kx_goto (tgt := 28) dL_law_3378 (by decide) ?_
            exact kx_lwF [(0, .ref (a29001)), (1, .ref (q1)), (2, .ref (q7)), (3, .ref (q13)), (4, .ref (q16)), (5, .int ((l5 + (7 : Int32))))] ⟨rfl, rfl, rfl, rfl, rfl, rfl, trivial⟩ (hI28 _ _ _ _ h)
          · have h := w_iff c h
            refine kx_iconst (v := 0) dL_law_2078 (by decide) ?_
            exact kx_zret dL_law_2079 rfl rfl (hQ _ _ ⟨_, rfl, h⟩)
      · have h := w_iff c h
        refine kx_iconst (v := 0) dL_law_2061 (by decide) ?_
        exact kx_zret dL_law_2062 rfl rfl (hQ _ _ ⟨_, rfl, h⟩)
    have h := w_iff c29 h
    by_cases c30 : (v29003 &&& (63 : Int32)) = (30 : Int32)
    · have h := w_ift c30 h
      refine kx_tableIn (tgt := 2083) dL_law_45 (by rw [c30]; decide) (by rw [c30]; decide) (by rw [c30]; rfl) (by decide) ?_
      refine kx_aload_n dL_law_2083 rfl rfl ?_
      refine kx_aload_n dL_law_2084 rfl rfl ?_
      refine kx_iload dL_law_2085 rfl ?_
      refine kx_iconst (v := 1) dL_law_2087 (by decide) ?_
      refine kx_iadd dL_law_2088 ?_
      refine kW_lI dL_law_2089 h (fun v29380 h => ?_)
      refine kx_aload_n dL_law_2090 rfl rfl ?_
      refine kx_iload dL_law_2091 rfl ?_
      refine kx_iconst (v := 2) dL_law_2093 (by decide) ?_
      refine kx_iadd dL_law_2094 ?_
      refine kW_lI dL_law_2095 h (fun v29381 h => ?_)
      refine kx_aload_n dL_law_2096 rfl rfl ?_
      obtain ⟨c29384, c29385, hc, hs, h⟩ := h
      refine kx_callSX dL_law_2097 lk_X0_275 (kw_X0_setLimits h) rfl rfl (Nat.le_of_ble_eq_true rfl) (Nat.le_of_ble_eq_true rfl) (Nat.le_of_ble_eq_true rfl) hc hs (fun _ _ _ hx => kx_out rfl (hX _ _ _ hx)) (fun v_ σ29383 hq => ?_)
      obtain ⟨v29382, rfl, h⟩ := hq
      refine kx_istore dL_law_2100 (Nat.le_of_ble_eq_true rfl) ?_
      refine kx_aload_n dL_law_2102 rfl rfl ?_
      refine kx_aload_n dL_law_2103 rfl rfl ?_
      refine kx_iload dL_law_2104 rfl ?_
      refine kx_iconst (v := 1) dL_law_2106 (by decide) ?_
      refine kx_iadd dL_law_2107 ?_
      refine kW_lI dL_law_2108 h (fun v29386 h => ?_)
      refine kx_aload_n dL_law_2109 rfl rfl ?_
      refine kx_iload dL_law_2110 rfl ?_
      refine kx_iconst (v := 2) dL_law_2112 (by decide) ?_
      refine kx_iadd dL_law_2113 ?_
      refine kW_lI dL_law_2114 h (fun v29387 h => ?_)
      refine kW_MI dL_law_2115 lk_X0_277 (fun hd_ h_ => mM_setLimits hd_ h_) rfl rfl (Nat.le_of_ble_eq_true rfl) (Nat.le_of_ble_eq_true rfl) (Nat.le_of_ble_eq_true rfl) h (fun v29388 σ29389 h => ?_)
      refine kx_istore dL_law_2118 (Nat.le_of_ble_eq_true rfl) ?_
      refine kx_aload_n dL_law_2120 rfl rfl ?_
      refine kW_MI dL_law_2121 lk_X0_172 (fun hd_ h_ => mM_thrown hd_ h_) rfl rfl (Nat.le_of_ble_eq_true rfl) (Nat.le_of_ble_eq_true rfl) (Nat.le_of_ble_eq_true rfl) h (fun v29390 σ29391 h => ?_)
      refine kx_iload dL_law_2124 rfl ?_
      refine kx_icmp_eq (tgt := 2131) dL_law_2126 (by decide) (fun c => ?_) (fun c => ?_)
      · have h := w_ift c h
        refine kx_iload dL_law_2131 rfl ?_
        refine kx_if_ne (tgt := 2148) dL_law_2133 (by decide) (fun c => ?_) (fun c => ?_)
        · have h := w_iff c h
          refine kx_goto (tgt := 3375) dL_law_2148 (by decide) ?_
          refine kx_iinc2 (v := 7) dL_law_3375 rfl (by decide) ?_
          refine kx_goto (tgt := 28) dL_law_3378 (by decide) ?_
          exact kx_lwF [(0, .ref (a29001)), (1, .ref (q1)), (2, .ref (q7)), (3, .ref (q13)), (4, .ref (q16)), (5, .int ((l5 + (7 : Int32))))] ⟨rfl, rfl, rfl, rfl, rfl, rfl, trivial⟩ (hI28 _ _ _ _ h)
        · have h := w_ift c h
          refine kx_aload_n dL_law_2136 rfl rfl ?_
          refine kx_iconst (v := 0) dL_law_2137 (by decide) ?_
          refine kW_lJ dL_law_2138 h (fun v29392 h => ?_)
          refine kx_iload dL_law_2139 rfl ?_
          refine kx_i2l dL_law_2141 rfl ?_
          refine kx_lcmp dL_law_2142 ?_
          refine kx_if_eq (tgt := 2148) dL_law_2143 (by decide) (fun c => ?_) (fun c => ?_)
          · have h := w_ift c h
            refine kx_goto (tgt := 3375) dL_law_2148 (by decide) ?_
            refine kx_iinc2 (v := 7) dL_law_3375 rfl (by decide) ?_
            refine kx_goto (tgt := 28) dL_law_3378 (by decide) ?_
            exact kx_lwF [(0, .ref (a29001)), (1, .ref (q1)), (2, .ref (q7)), (3, .ref (q13)), (4, .ref (q16)), (5, .int ((l5 + (7 : Int32))))] ⟨rfl, rfl, rfl, rfl, rfl, rfl, trivial⟩ (hI28 _ _ _ _ h)
          · have h := w_iff c h
            refine kx_iconst (v := 0) dL_law_2146 (by decide) ?_
            exact kx_zret dL_law_2147 rfl rfl (hQ _ _ ⟨_, rfl, h⟩)
      · have h := w_iff c h
        refine kx_iconst (v := 0) dL_law_2129 (by decide) ?_
        exact kx_zret dL_law_2130 rfl rfl (hQ _ _ ⟨_, rfl, h⟩)
    have h := w_iff c30 h
    by_cases c31 : (v29003 &&& (63 : Int32)) = (31 : Int32)
    · have h := w_ift c31 h
      refine kx_tableIn (tgt := 2151) dL_law_45 (by rw [c31]; decide) (by rw [c31]; decide) (by rw [c31]; rfl) (by decide) ?_
      refine kx_aload_n dL_law_2151 rfl rfl ?_
      refine kx_aload_n dL_law_2152 rfl rfl ?_
      refine kx_iload dL_law_2153 rfl ?_
      refine kx_iconst (v := 1) dL_law_2155 (by decide) ?_
      refine kx_iadd dL_law_2156 ?_
      refine kW_lI dL_law_2157 h (fun v29393 h => ?_)
      refine kx_aload_n dL_law_2158 rfl rfl ?_
      obtain ⟨c29396, c29397, hc, hs, h⟩ := h
      refine kx_callSX dL_law_2159 lk_X0_278 (kw_X0_reset h) rfl rfl (Nat.le_of_ble_eq_true rfl) (Nat.le_of_ble_eq_true rfl) (Nat.le_of_ble_eq_true rfl) hc hs (fun _ _ _ hx => kx_out rfl (hX _ _ _ hx)) (fun v_ σ29395 hq => ?_)
      obtain ⟨v29394, rfl, h⟩ := hq
      refine kx_istore dL_law_2162 (Nat.le_of_ble_eq_true rfl) ?_
      refine kx_aload_n dL_law_2164 rfl rfl ?_
      refine kx_aload_n dL_law_2165 rfl rfl ?_
      refine kx_iload dL_law_2166 rfl ?_
      refine kx_iconst (v := 1) dL_law_2168 (by decide) ?_
      refine kx_iadd dL_law_2169 ?_
      refine kW_lI dL_law_2170 h (fun v29398 h => ?_)
      refine kW_MI dL_law_2171 lk_X0_280 (fun hd_ h_ => mM_reset hd_ h_) rfl rfl (Nat.le_of_ble_eq_true rfl) (Nat.le_of_ble_eq_true rfl) (Nat.le_of_ble_eq_true rfl) h (fun v29399 σ29400 h => ?_)
      refine kx_istore dL_law_2174 (Nat.le_of_ble_eq_true rfl) ?_
      refine kx_aload_n dL_law_2176 rfl rfl ?_
      refine kW_MI dL_law_2177 lk_X0_172 (fun hd_ h_ => mM_thrown hd_ h_) rfl rfl (Nat.le_of_ble_eq_true rfl) (Nat.le_of_ble_eq_true rfl) (Nat.le_of_ble_eq_true rfl) h (fun v29401 σ29402 h => ?_)
      refine kx_iload dL_law_2180 rfl ?_
      refine kx_icmp_eq (tgt := 2187) dL_law_2182 (by decide) (fun c => ?_) (fun c => ?_)
      · have h := w_ift c h
        refine kx_iload dL_law_2187 rfl ?_
        refine kx_if_ne (tgt := 2204) dL_law_2189 (by decide) (fun c => ?_) (fun c => ?_)
        · have h := w_iff c h
          refine kx_goto (tgt := 3375) dL_law_2204 (by decide) ?_
          refine kx_iinc2 (v := 7) dL_law_3375 rfl (by decide) ?_
          refine kx_goto (tgt := 28) dL_law_3378 (by decide) ?_
          exact kx_lwF [(0, .ref (a29001)), (1, .ref (q1)), (2, .ref (q7)), (3, .ref (q13)), (4, .ref (q16)), (5, .int ((l5 + (7 : Int32))))] ⟨rfl, rfl, rfl, rfl, rfl, rfl, trivial⟩ (hI28 _ _ _ _ h)
        · have h := w_ift c h
          refine kx_aload_n dL_law_2192 rfl rfl ?_
          refine kx_iconst (v := 0) dL_law_2193 (by decide) ?_
          refine kW_lJ dL_law_2194 h (fun v29403 h => ?_)
          refine kx_iload dL_law_2195 rfl ?_
          refine kx_i2l dL_law_2197 rfl ?_
          refine kx_lcmp dL_law_2198 ?_
          refine kx_if_eq (tgt := 2204) dL_law_2199 (by decide) (fun c => ?_) (fun c => ?_)
          · have h := w_ift c h
            refine kx_goto (tgt := 3375) dL_law_2204 (by decide) ?_
            refine kx_iinc2 (v := 7) dL_law_3375 rfl (by decide) ?_
            refine kx_goto (tgt := 28) dL_law_3378 (by decide) ?_
            exact kx_lwF [(0, .ref (a29001)), (1, .ref (q1)), (2, .ref (q7)), (3, .ref (q13)), (4, .ref (q16)), (5, .int ((l5 + (7 : Int32))))] ⟨rfl, rfl, rfl, rfl, rfl, rfl, trivial⟩ (hI28 _ _ _ _ h)
          · have h := w_iff c h
            refine kx_iconst (v := 0) dL_law_2202 (by decide) ?_
            exact kx_zret dL_law_2203 rfl rfl (hQ _ _ ⟨_, rfl, h⟩)
      · have h := w_iff c h
        refine kx_iconst (v := 0) dL_law_2185 (by decide) ?_
        exact kx_zret dL_law_2186 rfl rfl (hQ _ _ ⟨_, rfl, h⟩)
    have h := w_iff c31 h
    by_cases c32 : (v29003 &&& (63 : Int32)) = (32 : Int32)
    · have h := w_ift c32 h
      refine kx_tableIn (tgt := 2207) dL_law_45 (by rw [c32]; decide) (by rw [c32]; decide) (by rw [c32]; rfl) (by decide) ?_
      refine kx_aload_n dL_law_2207 rfl rfl ?_
      refine kx_aload_n dL_law_2208 rfl rfl ?_
      refine kx_iload dL_law_2209 rfl ?_
      refine kx_iconst (v := 1) dL_law_2211 (by decide) ?_
      refine kx_iadd dL_law_2212 ?_
      refine kW_lI dL_law_2213 h (fun v29404 h => ?_)
      refine kx_aload_n dL_law_2214 rfl rfl ?_
      obtain ⟨c29407, c29408, hc, hs, h⟩ := h
      refine kx_callSX dL_law_2215 lk_X0_281 (kw_X0_service h) rfl rfl (Nat.le_of_ble_eq_true rfl) (Nat.le_of_ble_eq_true rfl) (Nat.le_of_ble_eq_true rfl) hc hs (fun _ _ _ hx => kx_out rfl (hX _ _ _ hx)) (fun v_ σ29406 hq => ?_)
      obtain ⟨v29405, rfl, h⟩ := hq
      refine kx_istore dL_law_2218 (Nat.le_of_ble_eq_true rfl) ?_
      refine kx_aload_n dL_law_2220 rfl rfl ?_
      refine kx_aload_n dL_law_2221 rfl rfl ?_
      refine kx_iload dL_law_2222 rfl ?_
      refine kx_iconst (v := 1) dL_law_2224 (by decide) ?_
      refine kx_iadd dL_law_2225 ?_
      refine kW_lI dL_law_2226 h (fun v29409 h => ?_)
      refine kW_MI dL_law_2227 lk_X0_283 (fun hd_ h_ => mM_service hd_ h_) rfl rfl (Nat.le_of_ble_eq_true rfl) (Nat.le_of_ble_eq_true rfl) (Nat.le_of_ble_eq_true rfl) h (fun v29410 σ29411 h => ?_)
      refine kx_istore dL_law_2230 (Nat.le_of_ble_eq_true rfl) ?_
      refine kx_aload_n dL_law_2232 rfl rfl ?_
      refine kW_MI dL_law_2233 lk_X0_172 (fun hd_ h_ => mM_thrown hd_ h_) rfl rfl (Nat.le_of_ble_eq_true rfl) (Nat.le_of_ble_eq_true rfl) (Nat.le_of_ble_eq_true rfl) h (fun v29412 σ29413 h => ?_)
      refine kx_iload dL_law_2236 rfl ?_
      refine kx_icmp_eq (tgt := 2243) dL_law_2238 (by decide) (fun c => ?_) (fun c => ?_)
      · have h := w_ift c h
        refine kx_iload dL_law_2243 rfl ?_
        refine kx_if_ne (tgt := 2260) dL_law_2245 (by decide) (fun c => ?_) (fun c => ?_)
        · have h := w_iff c h
          refine kx_goto (tgt := 3375) dL_law_2260 (by decide) ?_
          refine kx_iinc2 (v := 7) dL_law_3375 rfl (by decide) ?_
          refine kx_goto (tgt := 28) dL_law_3378 (by decide) ?_
          exact kx_lwF [(0, .ref (a29001)), (1, .ref (q1)), (2, .ref (q7)), (3, .ref (q13)), (4, .ref (q16)), (5, .int ((l5 + (7 : Int32))))] ⟨rfl, rfl, rfl, rfl, rfl, rfl, trivial⟩ (hI28 _ _ _ _ h)
        · have h := w_ift c h
          refine kx_aload_n dL_law_2248 rfl rfl ?_
          refine kx_iconst (v := 0) dL_law_2249 (by decide) ?_
          refine kW_lJ dL_law_2250 h (fun v29414 h => ?_)
          refine kx_iload dL_law_2251 rfl ?_
          refine kx_i2l dL_law_2253 rfl ?_
          refine kx_lcmp dL_law_2254 ?_
          refine kx_if_eq (tgt := 2260) dL_law_2255 (by decide) (fun c => ?_) (fun c => ?_)
          · have h := w_ift c h
            refine kx_goto (tgt := 3375) dL_law_2260 (by decide) ?_
            refine kx_iinc2 (v := 7) dL_law_3375 rfl (by decide) ?_
            refine kx_goto (tgt := 28) dL_law_3378 (by decide) ?_
            exact kx_lwF [(0, .ref (a29001)), (1, .ref (q1)), (2, .ref (q7)), (3, .ref (q13)), (4, .ref (q16)), (5, .int ((l5 + (7 : Int32))))] ⟨rfl, rfl, rfl, rfl, rfl, rfl, trivial⟩ (hI28 _ _ _ _ h)
          · have h := w_iff c h
            refine kx_iconst (v := 0) dL_law_2258 (by decide) ?_
            exact kx_zret dL_law_2259 rfl rfl (hQ _ _ ⟨_, rfl, h⟩)
      · have h := w_iff c h
        refine kx_iconst (v := 0) dL_law_2241 (by decide) ?_
        exact kx_zret dL_law_2242 rfl rfl (hQ _ _ ⟨_, rfl, h⟩)
    have h := w_iff c32 h
    by_cases c33 : (v29003 &&& (63 : Int32)) = (33 : Int32)
    · have h := w_ift c33 h
      refine kx_tableIn (tgt := 2263) dL_law_45 (by rw [c33]; decide) (by rw [c33]; decide) (by rw [c33]; rfl) (by decide) ?_
      refine kx_aload_n dL_law_2263 rfl rfl ?_
      refine kx_aload_n dL_law_2264 rfl rfl ?_
      refine kx_iload dL_law_2265 rfl ?_
      refine kx_iconst (v := 1) dL_law_2267 (by decide) ?_
      refine kx_iadd dL_law_2268 ?_
      refine kW_lI dL_law_2269 h (fun v29415 h => ?_)
      refine kx_aload_n dL_law_2270 rfl rfl ?_
      obtain ⟨c29418, c29419, hc, hs, h⟩ := h
      refine kx_callSX dL_law_2271 lk_X0_284 (kw_X0_test h) rfl rfl (Nat.le_of_ble_eq_true rfl) (Nat.le_of_ble_eq_true rfl) (Nat.le_of_ble_eq_true rfl) hc hs (fun _ _ _ hx => kx_out rfl (hX _ _ _ hx)) (fun v_ σ29417 hq => ?_)
      obtain ⟨v29416, rfl, h⟩ := hq
      refine kx_istore dL_law_2274 (Nat.le_of_ble_eq_true rfl) ?_
      refine kx_aload_n dL_law_2276 rfl rfl ?_
      refine kx_aload_n dL_law_2277 rfl rfl ?_
      refine kx_iload dL_law_2278 rfl ?_
      refine kx_iconst (v := 1) dL_law_2280 (by decide) ?_
      refine kx_iadd dL_law_2281 ?_
      refine kW_lI dL_law_2282 h (fun v29420 h => ?_)
      refine kW_MI dL_law_2283 lk_X0_286 (fun hd_ h_ => mM_test hd_ h_) rfl rfl (Nat.le_of_ble_eq_true rfl) (Nat.le_of_ble_eq_true rfl) (Nat.le_of_ble_eq_true rfl) h (fun v29421 σ29422 h => ?_)
      refine kx_istore dL_law_2286 (Nat.le_of_ble_eq_true rfl) ?_
      refine kx_aload_n dL_law_2288 rfl rfl ?_
      refine kW_MI dL_law_2289 lk_X0_172 (fun hd_ h_ => mM_thrown hd_ h_) rfl rfl (Nat.le_of_ble_eq_true rfl) (Nat.le_of_ble_eq_true rfl) (Nat.le_of_ble_eq_true rfl) h (fun v29423 σ29424 h => ?_)
      refine kx_iload dL_law_2292 rfl ?_
      refine kx_icmp_eq (tgt := 2299) dL_law_2294 (by decide) (fun c => ?_) (fun c => ?_)
      · have h := w_ift c h
        refine kx_iload dL_law_2299 rfl ?_
        refine kx_if_ne (tgt := 2316) dL_law_2301 (by decide) (fun c => ?_) (fun c => ?_)
        · have h := w_iff c h
          refine kx_goto (tgt := 3375) dL_law_2316 (by decide) ?_
          refine kx_iinc2 (v := 7) dL_law_3375 rfl (by decide) ?_
          refine kx_goto (tgt := 28) dL_law_3378 (by decide) ?_
          exact kx_lwF [(0, .ref (a29001)), (1, .ref (q1)), (2, .ref (q7)), (3, .ref (q13)), (4, .ref (q16)), (5, .int ((l5 + (7 : Int32))))] ⟨rfl, rfl, rfl, rfl, rfl, rfl, trivial⟩ (hI28 _ _ _ _ h)
        · have h := w_ift c h
          refine kx_aload_n dL_law_2304 rfl rfl ?_
          refine kx_iconst (v := 0) dL_law_2305 (by decide) ?_
          refine kW_lJ dL_law_2306 h (fun v29425 h => ?_)
          refine kx_iload dL_law_2307 rfl ?_
          refine kx_i2l dL_law_2309 rfl ?_
          refine kx_lcmp dL_law_2310 ?_
          refine kx_if_eq (tgt := 2316) dL_law_2311 (by decide) (fun c => ?_) (fun c => ?_)
          · have h := w_ift c h
            refine kx_goto (tgt := 3375) dL_law_2316 (by decide) ?_
            refine kx_iinc2 (v := 7) dL_law_3375 rfl (by decide) ?_
            refine kx_goto (tgt := 28) dL_law_3378 (by decide) ?_
            exact kx_lwF [(0, .ref (a29001)), (1, .ref (q1)), (2, .ref (q7)), (3, .ref (q13)), (4, .ref (q16)), (5, .int ((l5 + (7 : Int32))))] ⟨rfl, rfl, rfl, rfl, rfl, rfl, trivial⟩ (hI28 _ _ _ _ h)
          · have h := w_iff c h
            refine kx_iconst (v := 0) dL_law_2314 (by decide) ?_
            exact kx_zret dL_law_2315 rfl rfl (hQ _ _ ⟨_, rfl, h⟩)
      · have h := w_iff c h
        refine kx_iconst (v := 0) dL_law_2297 (by decide) ?_
        exact kx_zret dL_law_2298 rfl rfl (hQ _ _ ⟨_, rfl, h⟩)
    have h := w_iff c33 h
    by_cases c34 : (v29003 &&& (63 : Int32)) = (34 : Int32)
    · have h := w_ift c34 h
      refine kx_tableIn (tgt := 2319) dL_law_45 (by rw [c34]; decide) (by rw [c34]; decide) (by rw [c34]; rfl) (by decide) ?_
      refine kx_aload_n dL_law_2319 rfl rfl ?_
      refine kx_aload_n dL_law_2320 rfl rfl ?_
      refine kx_iload dL_law_2321 rfl ?_
      refine kx_iconst (v := 1) dL_law_2323 (by decide) ?_
      refine kx_iadd dL_law_2324 ?_
      refine kW_lI dL_law_2325 h (fun v29426 h => ?_)
      refine kx_aload_n dL_law_2326 rfl rfl ?_
      obtain ⟨c29429, c29430, hc, hs, h⟩ := h
      refine kx_callSX dL_law_2327 lk_X0_287 (kw_X0_isTested h) rfl rfl (Nat.le_of_ble_eq_true rfl) (Nat.le_of_ble_eq_true rfl) (Nat.le_of_ble_eq_true rfl) hc hs (fun _ _ _ hx => kx_out rfl (hX _ _ _ hx)) (fun v_ σ29428 hq => ?_)
      obtain ⟨v29427, rfl, h⟩ := hq
      refine kx_istore dL_law_2330 (Nat.le_of_ble_eq_true rfl) ?_
      refine kx_aload_n dL_law_2332 rfl rfl ?_
      refine kx_aload_n dL_law_2333 rfl rfl ?_
      refine kx_iload dL_law_2334 rfl ?_
      refine kx_iconst (v := 1) dL_law_2336 (by decide) ?_
      refine kx_iadd dL_law_2337 ?_
      refine kW_lI dL_law_2338 h (fun v29431 h => ?_)
      refine kW_MI dL_law_2339 lk_X0_289 (fun hd_ h_ => mM_isTested hd_ h_) rfl rfl (Nat.le_of_ble_eq_true rfl) (Nat.le_of_ble_eq_true rfl) (Nat.le_of_ble_eq_true rfl) h (fun v29432 σ29433 h => ?_)
      refine kx_istore dL_law_2342 (Nat.le_of_ble_eq_true rfl) ?_
      refine kx_aload_n dL_law_2344 rfl rfl ?_
      refine kW_MI dL_law_2345 lk_X0_172 (fun hd_ h_ => mM_thrown hd_ h_) rfl rfl (Nat.le_of_ble_eq_true rfl) (Nat.le_of_ble_eq_true rfl) (Nat.le_of_ble_eq_true rfl) h (fun v29434 σ29435 h => ?_)
      refine kx_iload dL_law_2348 rfl ?_
      refine kx_icmp_eq (tgt := 2355) dL_law_2350 (by decide) (fun c => ?_) (fun c => ?_)
      · have h := w_ift c h
        refine kx_iload dL_law_2355 rfl ?_
        refine kx_if_ne (tgt := 2379) dL_law_2357 (by decide) (fun c => ?_) (fun c => ?_)
        · have h := w_iff c h
          refine kx_goto (tgt := 3375) dL_law_2379 (by decide) ?_
          refine kx_iinc2 (v := 7) dL_law_3375 rfl (by decide) ?_
          refine kx_goto (tgt := 28) dL_law_3378 (by decide) ?_
          exact kx_lwF [(0, .ref (a29001)), (1, .ref (q1)), (2, .ref (q7)), (3, .ref (q13)), (4, .ref (q16)), (5, .int ((l5 + (7 : Int32))))] ⟨rfl, rfl, rfl, rfl, rfl, rfl, trivial⟩ (hI28 _ _ _ _ h)
        · have h := w_ift c h
          refine kx_aload_n dL_law_2360 rfl rfl ?_
          refine kx_iconst (v := 0) dL_law_2361 (by decide) ?_
          refine kW_lJ dL_law_2362 h (fun v29436 h => ?_)
          refine kx_iload dL_law_2363 rfl ?_
          refine kW_jLa 2373 [.long (v29436)] h (fun v29438 σ29439 bcv29438 bsv29438 h => ?_) (fun k29437 jk29437 h => ?_)
          · skip
            refine kx_lcmp dL_law_2373 ?_
            refine kx_if_eq (tgt := 2379) dL_law_2374 (by decide) (fun c => ?_) (fun c => ?_)
            · have h := w_ift c h
              refine kx_goto (tgt := 3375) dL_law_2379 (by decide) ?_
              refine kx_iinc2 (v := 7) dL_law_3375 rfl (by decide) ?_
              refine kx_goto (tgt := 28) dL_law_3378 (by decide) ?_
              exact kx_lwF [(0, .ref (a29001)), (1, .ref (q1)), (2, .ref (q7)), (3, .ref (q13)), (4, .ref (q16)), (5, .int ((l5 + (7 : Int32))))] ⟨rfl, rfl, rfl, rfl, rfl, rfl, trivial⟩ (hI28 _ _ _ _ h)
            · have h := w_iff c h
              refine kx_iconst (v := 0) dL_law_2377 (by decide) ?_
              exact kx_zret dL_law_2378 rfl rfl (hQ _ _ ⟨_, rfl, h⟩)
          · skip
            refine kx_if_eq (tgt := 2372) dL_law_2365 (by decide) (fun c => ?_) (fun c => ?_)
            · have h := w_ift c h
              refine kx_lconst (v := 0) dL_law_2372 (by decide) ?_
              exact jk29437 _ _ _ _ h
            · have h := w_iff c h
              refine kx_lconst (v := 1) dL_law_2368 (by decide) ?_
              refine kx_goto (tgt := 2373) dL_law_2369 (by decide) ?_
              exact jk29437 _ _ _ _ h
      · have h := w_iff c h
        refine kx_iconst (v := 0) dL_law_2353 (by decide) ?_
        exact kx_zret dL_law_2354 rfl rfl (hQ _ _ ⟨_, rfl, h⟩)
    have h := w_iff c34 h
    by_cases c35 : (v29003 &&& (63 : Int32)) = (35 : Int32)
    · have h := w_ift c35 h
      refine kx_tableIn (tgt := 2382) dL_law_45 (by rw [c35]; decide) (by rw [c35]; decide) (by rw [c35]; rfl) (by decide) ?_
      refine kx_aload_n dL_law_2382 rfl rfl ?_
      obtain ⟨hr, h⟩ := h
      obtain ⟨c29442, c29443, hc, hs, h⟩ := h
      refine kx_callV dL_law_2383 lk_X0_290 (kw_X1_losePower h) rfl (wR_rc hr rfl) rfl (Nat.le_of_ble_eq_true rfl) (Nat.le_of_ble_eq_true rfl) (Nat.le_of_ble_eq_true rfl) hc hs (fun _ _ _ hx => kx_out rfl (hX _ _ _ hx)) (fun v_ σ29441 hq => ?_)
      obtain ⟨v29440, rfl, h⟩ := hq
      refine kx_aload_n dL_law_2386 rfl rfl ?_
      refine kW_MI dL_law_2387 lk_X0_293 (fun hd_ h_ => mM_losePower hd_ h_) rfl rfl (Nat.le_of_ble_eq_true rfl) (Nat.le_of_ble_eq_true rfl) (Nat.le_of_ble_eq_true rfl) h (fun v29444 σ29445 h => ?_)
      refine kx_icmp_eq (tgt := 3375) dL_law_2390 (by decide) (fun c => ?_) (fun c => ?_)
      · have h := w_ift c h
        refine kx_iinc2 (v := 7) dL_law_3375 rfl (by decide) ?_
        refine kx_goto (tgt := 28) dL_law_3378 (by decide) ?_
        exact kx_lwF [(0, .ref (a29001)), (1, .ref (q1)), (2, .ref (q7)), (3, .ref (q13)), (4, .ref (q16)), (5, .int ((l5 + (7 : Int32))))] ⟨rfl, rfl, rfl, rfl, rfl, rfl, trivial⟩ (hI28 _ _ _ _ h)
      · have h := w_iff c h
        refine kx_iconst (v := 0) dL_law_2393 (by decide) ?_
        exact kx_zret dL_law_2394 rfl rfl (hQ _ _ ⟨_, rfl, h⟩)
    have h := w_iff c35 h
    by_cases c36 : (v29003 &&& (63 : Int32)) = (36 : Int32)
    · have h := w_ift c36 h
      refine kx_tableIn (tgt := 2395) dL_law_45 (by rw [c36]; decide) (by rw [c36]; decide) (by rw [c36]; rfl) (by decide) ?_
      refine kx_aload_n dL_law_2395 rfl rfl ?_
      refine kx_aload_n dL_law_2396 rfl rfl ?_
      refine kx_iload dL_law_2397 rfl ?_
      refine kx_iconst (v := 1) dL_law_2399 (by decide) ?_
      refine kx_iadd dL_law_2400 ?_
      refine kW_lI dL_law_2401 h (fun v29446 h => ?_)
      refine kx_aload_n dL_law_2402 rfl rfl ?_
      obtain ⟨c29449, c29450, hc, hs, h⟩ := h
      refine kx_callSX dL_law_2403 lk_X0_294 (kw_X0_trips h) rfl rfl (Nat.le_of_ble_eq_true rfl) (Nat.le_of_ble_eq_true rfl) (Nat.le_of_ble_eq_true rfl) hc hs (fun _ _ _ hx => kx_out rfl (hX _ _ _ hx)) (fun v_ σ29448 hq => ?_)
      obtain ⟨v29447, rfl, h⟩ := hq
      refine kx_istore dL_law_2406 (Nat.le_of_ble_eq_true rfl) ?_
      refine kx_aload_n dL_law_2408 rfl rfl ?_
      refine kx_aload_n dL_law_2409 rfl rfl ?_
      refine kx_iload dL_law_2410 rfl ?_
      refine kx_iconst (v := 1) dL_law_2412 (by decide) ?_
      refine kx_iadd dL_law_2413 ?_
      refine kW_lI dL_law_2414 h (fun v29451 h => ?_)
      refine kW_MI dL_law_2415 lk_X0_296 (fun hd_ h_ => mM_trips hd_ h_) rfl rfl (Nat.le_of_ble_eq_true rfl) (Nat.le_of_ble_eq_true rfl) (Nat.le_of_ble_eq_true rfl) h (fun v29452 σ29453 h => ?_)
      refine kx_istore dL_law_2418 (Nat.le_of_ble_eq_true rfl) ?_
      refine kx_aload_n dL_law_2420 rfl rfl ?_
      refine kW_MI dL_law_2421 lk_X0_172 (fun hd_ h_ => mM_thrown hd_ h_) rfl rfl (Nat.le_of_ble_eq_true rfl) (Nat.le_of_ble_eq_true rfl) (Nat.le_of_ble_eq_true rfl) h (fun v29454 σ29455 h => ?_)
      refine kx_iload dL_law_2424 rfl ?_
      refine kx_icmp_eq (tgt := 2431) dL_law_2426 (by decide) (fun c => ?_) (fun c => ?_)
      · have h := w_ift c h
        refine kx_iload dL_law_2431 rfl ?_
        refine kx_if_ne (tgt := 2448) dL_law_2433 (by decide) (fun c => ?_) (fun c => ?_)
        · have h := w_iff c h
          refine kx_goto (tgt := 3375) dL_law_2448 (by decide) ?_
          refine kx_iinc2 (v := 7) dL_law_3375 rfl (by decide) ?_
          refine kx_goto (tgt := 28) dL_law_3378 (by decide) ?_
          exact kx_lwF [(0, .ref (a29001)), (1, .ref (q1)), (2, .ref (q7)), (3, .ref (q13)), (4, .ref (q16)), (5, .int ((l5 + (7 : Int32))))] ⟨rfl, rfl, rfl, rfl, rfl, rfl, trivial⟩ (hI28 _ _ _ _ h)
        · have h := w_ift c h
          refine kx_aload_n dL_law_2436 rfl rfl ?_
          refine kx_iconst (v := 0) dL_law_2437 (by decide) ?_
          refine kW_lJ dL_law_2438 h (fun v29456 h => ?_)
          refine kx_iload dL_law_2439 rfl ?_
          refine kx_i2l dL_law_2441 rfl ?_
          refine kx_lcmp dL_law_2442 ?_
          refine kx_if_eq (tgt := 2448) dL_law_2443 (by decide) (fun c => ?_) (fun c => ?_)
          · have h := w_ift c h
            refine kx_goto (tgt := 3375) dL_law_2448 (by decide) ?_
            refine kx_iinc2 (v := 7) dL_law_3375 rfl (by decide) ?_
            refine kx_goto (tgt := 28) dL_law_3378 (by decide) ?_
            exact kx_lwF [(0, .ref (a29001)), (1, .ref (q1)), (2, .ref (q7)), (3, .ref (q13)), (4, .ref (q16)), (5, .int ((l5 + (7 : Int32))))] ⟨rfl, rfl, rfl, rfl, rfl, rfl, trivial⟩ (hI28 _ _ _ _ h)
          · have h := w_iff c h
            refine kx_iconst (v := 0) dL_law_2446 (by decide) ?_
            exact kx_zret dL_law_2447 rfl rfl (hQ _ _ ⟨_, rfl, h⟩)
      · have h := w_iff c h
        refine kx_iconst (v := 0) dL_law_2429 (by decide) ?_
        exact kx_zret dL_law_2430 rfl rfl (hQ _ _ ⟨_, rfl, h⟩)
    have h := w_iff c36 h
    by_cases c37 : (v29003 &&& (63 : Int32)) = (37 : Int32)
    · have h := w_ift c37 h
      refine kx_tableIn (tgt := 2451) dL_law_45 (by rw [c37]; decide) (by rw [c37]; decide) (by rw [c37]; rfl) (by decide) ?_
      refine kx_aload_n dL_law_2451 rfl rfl ?_
      obtain ⟨hr, h⟩ := h
      refine kx_callV dL_law_2452 lk_X0_297 (kw_X1_memoryCount h) rfl (wR_rc hr rfl) rfl (Nat.le_of_ble_eq_true rfl) (Nat.le_of_ble_eq_true rfl) (Nat.le_of_ble_eq_true rfl) (Nat.le_of_ble_eq_true rfl) (Nat.le_of_ble_eq_true rfl) (fun _ _ _ hx => kx_out rfl (hX _ _ _ hx)) (fun v_ σ29458 hq => ?_)
      obtain ⟨v29457, rfl, h⟩ := hq
      refine kx_aload_n dL_law_2455 rfl rfl ?_
      refine kW_MI dL_law_2456 lk_X0_300 (fun hd_ h_ => mM_memoryCount hd_ h_) rfl rfl (Nat.le_of_ble_eq_true rfl) (Nat.le_of_ble_eq_true rfl) (Nat.le_of_ble_eq_true rfl) h (fun v29459 σ29460 h => ?_)
      refine kx_icmp_eq (tgt := 3375) dL_law_2459 (by decide) (fun c => ?_) (fun c => ?_)
      · have h := w_ift c h
        refine kx_iinc2 (v := 7) dL_law_3375 rfl (by decide) ?_
        refine kx_goto (tgt := 28) dL_law_3378 (by decide) ?_
        exact kx_lwF [(0, .ref (a29001)), (1, .ref (q1)), (2, .ref (q7)), (3, .ref (q13)), (4, .ref (q16)), (5, .int ((l5 + (7 : Int32))))] ⟨rfl, rfl, rfl, rfl, rfl, rfl, trivial⟩ (hI28 _ _ _ _ h)
      · have h := w_iff c h
        refine kx_iconst (v := 0) dL_law_2462 (by decide) ?_
        exact kx_zret dL_law_2463 rfl rfl (hQ _ _ ⟨_, rfl, h⟩)
    have h := w_iff c37 h
    by_cases c38 : (v29003 &&& (63 : Int32)) = (38 : Int32)
    · have h := w_ift c38 h
      refine kx_tableIn (tgt := 2464) dL_law_45 (by rw [c38]; decide) (by rw [c38]; decide) (by rw [c38]; rfl) (by decide) ?_
      refine kx_aload_n dL_law_2464 rfl rfl ?_
      refine kx_aload_n dL_law_2465 rfl rfl ?_
      refine kx_iload dL_law_2466 rfl ?_
      refine kx_iconst (v := 1) dL_law_2468 (by decide) ?_
      refine kx_iadd dL_law_2469 ?_
      refine kW_lI dL_law_2470 h (fun v29461 h => ?_)
      refine kx_aload_n dL_law_2471 rfl rfl ?_
      refine kx_iload dL_law_2472 rfl ?_
      refine kx_iconst (v := 2) dL_law_2474 (by decide) ?_
      refine kx_iadd dL_law_2475 ?_
      refine kW_lI dL_law_2476 h (fun v29462 h => ?_)
      refine kx_aload_n dL_law_2477 rfl rfl ?_
      obtain ⟨c29465, c29466, hc, hs, h⟩ := h
      refine kx_callSX dL_law_2478 lk_X0_301 (kw_X0_memory h) rfl rfl (Nat.le_of_ble_eq_true rfl) (Nat.le_of_ble_eq_true rfl) (Nat.le_of_ble_eq_true rfl) hc hs (fun _ _ _ hx => kx_out rfl (hX _ _ _ hx)) (fun v_ σ29464 hq => ?_)
      obtain ⟨v29463, rfl, h⟩ := hq
      refine kx_istore dL_law_2481 (Nat.le_of_ble_eq_true rfl) ?_
      refine kx_aload_n dL_law_2483 rfl rfl ?_
      refine kx_aload_n dL_law_2484 rfl rfl ?_
      refine kx_iload dL_law_2485 rfl ?_
      refine kx_iconst (v := 1) dL_law_2487 (by decide) ?_
      refine kx_iadd dL_law_2488 ?_
      refine kW_lI dL_law_2489 h (fun v29467 h => ?_)
      refine kx_aload_n dL_law_2490 rfl rfl ?_
      refine kx_iload dL_law_2491 rfl ?_
      refine kx_iconst (v := 2) dL_law_2493 (by decide) ?_
      refine kx_iadd dL_law_2494 ?_
      refine kW_lI dL_law_2495 h (fun v29468 h => ?_)
      refine kW_MI dL_law_2496 lk_X0_303 (fun hd_ h_ => mM_memory hd_ h_) rfl rfl (Nat.le_of_ble_eq_true rfl) (Nat.le_of_ble_eq_true rfl) (Nat.le_of_ble_eq_true rfl) h (fun v29469 σ29470 h => ?_)
      refine kx_istore dL_law_2499 (Nat.le_of_ble_eq_true rfl) ?_
      refine kx_aload_n dL_law_2501 rfl rfl ?_
      refine kW_MI dL_law_2502 lk_X0_172 (fun hd_ h_ => mM_thrown hd_ h_) rfl rfl (Nat.le_of_ble_eq_true rfl) (Nat.le_of_ble_eq_true rfl) (Nat.le_of_ble_eq_true rfl) h (fun v29471 σ29472 h => ?_)
      refine kx_iload dL_law_2505 rfl ?_
      refine kx_icmp_eq (tgt := 2512) dL_law_2507 (by decide) (fun c => ?_) (fun c => ?_)
      · have h := w_ift c h
        refine kx_iload dL_law_2512 rfl ?_
        refine kx_if_ne (tgt := 2529) dL_law_2514 (by decide) (fun c => ?_) (fun c => ?_)
        · have h := w_iff c h
          refine kx_goto (tgt := 3375) dL_law_2529 (by decide) ?_
          refine kx_iinc2 (v := 7) dL_law_3375 rfl (by decide) ?_
          refine kx_goto (tgt := 28) dL_law_3378 (by decide) ?_
          exact kx_lwF [(0, .ref (a29001)), (1, .ref (q1)), (2, .ref (q7)), (3, .ref (q13)), (4, .ref (q16)), (5, .int ((l5 + (7 : Int32))))] ⟨rfl, rfl, rfl, rfl, rfl, rfl, trivial⟩ (hI28 _ _ _ _ h)
        · have h := w_ift c h
          refine kx_aload_n dL_law_2517 rfl rfl ?_
          refine kx_iconst (v := 0) dL_law_2518 (by decide) ?_
          refine kW_lJ dL_law_2519 h (fun v29473 h => ?_)
          refine kx_iload dL_law_2520 rfl ?_
          refine kx_i2l dL_law_2522 rfl ?_
          refine kx_lcmp dL_law_2523 ?_
          refine kx_if_eq (tgt := 2529) dL_law_2524 (by decide) (fun c => ?_) (fun c => ?_)
          · have h := w_ift c h
            refine kx_goto (tgt := 3375) dL_law_2529 (by decide) ?_
            refine kx_iinc2 (v := 7) dL_law_3375 rfl (by decide) ?_
            refine kx_goto (tgt := 28) dL_law_3378 (by decide) ?_
            exact kx_lwF [(0, .ref (a29001)), (1, .ref (q1)), (2, .ref (q7)), (3, .ref (q13)), (4, .ref (q16)), (5, .int ((l5 + (7 : Int32))))] ⟨rfl, rfl, rfl, rfl, rfl, rfl, trivial⟩ (hI28 _ _ _ _ h)
          · have h := w_iff c h
            refine kx_iconst (v := 0) dL_law_2527 (by decide) ?_
            exact kx_zret dL_law_2528 rfl rfl (hQ _ _ ⟨_, rfl, h⟩)
      · have h := w_iff c h
        refine kx_iconst (v := 0) dL_law_2510 (by decide) ?_
        exact kx_zret dL_law_2511 rfl rfl (hQ _ _ ⟨_, rfl, h⟩)
    have h := w_iff c38 h
    by_cases c39 : (v29003 &&& (63 : Int32)) = (39 : Int32)
    · have h := w_ift c39 h
      refine kx_tableIn (tgt := 2532) dL_law_45 (by rw [c39]; decide) (by rw [c39]; decide) (by rw [c39]; rfl) (by decide) ?_
      refine kx_aload_n dL_law_2532 rfl rfl ?_
      refine kx_aload_n dL_law_2533 rfl rfl ?_
      refine kx_iload dL_law_2534 rfl ?_
      refine kx_iconst (v := 1) dL_law_2536 (by decide) ?_
      refine kx_iadd dL_law_2537 ?_
      refine kW_lI dL_law_2538 h (fun v29474 h => ?_)
      refine kx_aload_n dL_law_2539 rfl rfl ?_
      refine kx_iload dL_law_2540 rfl ?_
      refine kx_iconst (v := 2) dL_law_2542 (by decide) ?_
      refine kx_iadd dL_law_2543 ?_
      refine kW_lI dL_law_2544 h (fun v29475 h => ?_)
      refine kx_aload_n dL_law_2545 rfl rfl ?_
      obtain ⟨c29478, c29479, hc, hs, h⟩ := h
      refine kx_callSX dL_law_2546 lk_X0_304 (kw_X0_named h) rfl rfl (Nat.le_of_ble_eq_true rfl) (Nat.le_of_ble_eq_true rfl) (Nat.le_of_ble_eq_true rfl) hc hs (fun _ _ _ hx => kx_out rfl (hX _ _ _ hx)) (fun v_ σ29477 hq => ?_)
      obtain ⟨v29476, rfl, h⟩ := hq
      refine kx_istore dL_law_2549 (Nat.le_of_ble_eq_true rfl) ?_
      refine kx_aload_n dL_law_2551 rfl rfl ?_
      refine kx_aload_n dL_law_2552 rfl rfl ?_
      refine kx_iload dL_law_2553 rfl ?_
      refine kx_iconst (v := 1) dL_law_2555 (by decide) ?_
      refine kx_iadd dL_law_2556 ?_
      refine kW_lI dL_law_2557 h (fun v29480 h => ?_)
      refine kx_aload_n dL_law_2558 rfl rfl ?_
      refine kx_iload dL_law_2559 rfl ?_
      refine kx_iconst (v := 2) dL_law_2561 (by decide) ?_
      refine kx_iadd dL_law_2562 ?_
      refine kW_lI dL_law_2563 h (fun v29481 h => ?_)
      refine kW_MI dL_law_2564 lk_X0_306 (fun hd_ h_ => mM_named hd_ h_) rfl rfl (Nat.le_of_ble_eq_true rfl) (Nat.le_of_ble_eq_true rfl) (Nat.le_of_ble_eq_true rfl) h (fun v29482 σ29483 h => ?_)
      refine kx_istore dL_law_2567 (Nat.le_of_ble_eq_true rfl) ?_
      refine kx_aload_n dL_law_2569 rfl rfl ?_
      refine kW_MI dL_law_2570 lk_X0_172 (fun hd_ h_ => mM_thrown hd_ h_) rfl rfl (Nat.le_of_ble_eq_true rfl) (Nat.le_of_ble_eq_true rfl) (Nat.le_of_ble_eq_true rfl) h (fun v29484 σ29485 h => ?_)
      refine kx_iload dL_law_2573 rfl ?_
      refine kx_icmp_eq (tgt := 2580) dL_law_2575 (by decide) (fun c => ?_) (fun c => ?_)
      · have h := w_ift c h
        refine kx_iload dL_law_2580 rfl ?_
        refine kx_if_ne (tgt := 2597) dL_law_2582 (by decide) (fun c => ?_) (fun c => ?_)
        · have h := w_iff c h
          refine kx_goto (tgt := 3375) dL_law_2597 (by decide) ?_
          refine kx_iinc2 (v := 7) dL_law_3375 rfl (by decide) ?_
          refine kx_goto (tgt := 28) dL_law_3378 (by decide) ?_
          exact kx_lwF [(0, .ref (a29001)), (1, .ref (q1)), (2, .ref (q7)), (3, .ref (q13)), (4, .ref (q16)), (5, .int ((l5 + (7 : Int32))))] ⟨rfl, rfl, rfl, rfl, rfl, rfl, trivial⟩ (hI28 _ _ _ _ h)
        · have h := w_ift c h
          refine kx_aload_n dL_law_2585 rfl rfl ?_
          refine kx_iconst (v := 0) dL_law_2586 (by decide) ?_
          refine kW_lJ dL_law_2587 h (fun v29486 h => ?_)
          refine kx_iload dL_law_2588 rfl ?_
          refine kx_i2l dL_law_2590 rfl ?_
          refine kx_lcmp dL_law_2591 ?_
          refine kx_if_eq (tgt := 2597) dL_law_2592 (by decide) (fun c => ?_) (fun c => ?_)
          · have h := w_ift c h
            refine kx_goto (tgt := 3375) dL_law_2597 (by decide) ?_
            refine kx_iinc2 (v := 7) dL_law_3375 rfl (by decide) ?_
            refine kx_goto (tgt := 28) dL_law_3378 (by decide) ?_
            exact kx_lwF [(0, .ref (a29001)), (1, .ref (q1)), (2, .ref (q7)), (3, .ref (q13)), (4, .ref (q16)), (5, .int ((l5 + (7 : Int32))))] ⟨rfl, rfl, rfl, rfl, rfl, rfl, trivial⟩ (hI28 _ _ _ _ h)
          · have h := w_iff c h
            refine kx_iconst (v := 0) dL_law_2595 (by decide) ?_
            exact kx_zret dL_law_2596 rfl rfl (hQ _ _ ⟨_, rfl, h⟩)
      · have h := w_iff c h
        refine kx_iconst (v := 0) dL_law_2578 (by decide) ?_
        exact kx_zret dL_law_2579 rfl rfl (hQ _ _ ⟨_, rfl, h⟩)
    have h := w_iff c39 h
    by_cases c40 : (v29003 &&& (63 : Int32)) = (40 : Int32)
    · have h := w_ift c40 h
      refine kx_tableIn (tgt := 2600) dL_law_45 (by rw [c40]; decide) (by rw [c40]; decide) (by rw [c40]; rfl) (by decide) ?_
      refine kx_aload_n dL_law_2600 rfl rfl ?_
      refine kx_aload_n dL_law_2601 rfl rfl ?_
      refine kx_iload dL_law_2602 rfl ?_
      refine kx_iconst (v := 1) dL_law_2604 (by decide) ?_
      refine kx_iadd dL_law_2605 ?_
      refine kW_lI dL_law_2606 h (fun v29487 h => ?_)
      refine kx_aload dL_law_2607 rfl ?_
      obtain ⟨c29490, c29491, hc, hs, h⟩ := h
      refine kx_callSX dL_law_2609 lk_X0_307 (kw_X0_peakOf h) rfl rfl (Nat.le_of_ble_eq_true rfl) (Nat.le_of_ble_eq_true rfl) (Nat.le_of_ble_eq_true rfl) hc hs (fun _ _ _ hx => kx_out rfl (hX _ _ _ hx)) (fun v_ σ29489 hq => ?_)
      obtain ⟨v29488, rfl, h⟩ := hq
      refine kx_istore dL_law_2612 (Nat.le_of_ble_eq_true rfl) ?_
      refine kx_aload_n dL_law_2614 rfl rfl ?_
      refine kx_aload_n dL_law_2615 rfl rfl ?_
      refine kx_iload dL_law_2616 rfl ?_
      refine kx_iconst (v := 1) dL_law_2618 (by decide) ?_
      refine kx_iadd dL_law_2619 ?_
      refine kW_lI dL_law_2620 h (fun v29492 h => ?_)
      refine kW_MF dL_law_2621 lk_X0_310 (fun hd_ h_ => mM_peakOf hd_ h_) rfl rfl (Nat.le_of_ble_eq_true rfl) (Nat.le_of_ble_eq_true rfl) (Nat.le_of_ble_eq_true rfl) h (fun v29493 σ29494 h => ?_)
      refine kx_fstore dL_law_2624 (Nat.le_of_ble_eq_true rfl) ?_
      refine kx_aload_n dL_law_2626 rfl rfl ?_
      refine kW_MI dL_law_2627 lk_X0_172 (fun hd_ h_ => mM_thrown hd_ h_) rfl rfl (Nat.le_of_ble_eq_true rfl) (Nat.le_of_ble_eq_true rfl) (Nat.le_of_ble_eq_true rfl) h (fun v29495 σ29496 h => ?_)
      refine kx_iload dL_law_2630 rfl ?_
      refine kx_icmp_eq (tgt := 2637) dL_law_2632 (by decide) (fun c => ?_) (fun c => ?_)
      · have h := w_ift c h
        refine kx_iload dL_law_2637 rfl ?_
        refine kx_if_ne (tgt := 2675) dL_law_2639 (by decide) (fun c => ?_) (fun c => ?_)
        · have h := w_iff c h
          refine kx_goto (tgt := 3375) dL_law_2675 (by decide) ?_
          refine kx_iinc2 (v := 7) dL_law_3375 rfl (by decide) ?_
          refine kx_goto (tgt := 28) dL_law_3378 (by decide) ?_
          exact kx_lwF [(0, .ref (a29001)), (1, .ref (q1)), (2, .ref (q7)), (3, .ref (q13)), (4, .ref (q16)), (5, .int ((l5 + (7 : Int32))))] ⟨rfl, rfl, rfl, rfl, rfl, rfl, trivial⟩ (hI28 _ _ _ _ h)
        · have h := w_ift c h
          refine kx_aload dL_law_2642 rfl ?_
          refine kx_iconst (v := 0) dL_law_2644 (by decide) ?_
          refine kW_lD dL_law_2645 h (fun v29497 h => ?_)
          refine kx_fload dL_law_2646 rfl ?_
          refine kW_f2d dL_law_2648 h (fun v29498 h => ?_)
          refine kx_dcmp dL_law_2649 ?_
          refine kx_if_eq (tgt := 2675) dL_law_2650 (by decide) (fun c => ?_) (fun c => ?_)
          · have h := w_ift c h
            refine kx_goto (tgt := 3375) dL_law_2675 (by decide) ?_
            refine kx_iinc2 (v := 7) dL_law_3375 rfl (by decide) ?_
            refine kx_goto (tgt := 28) dL_law_3378 (by decide) ?_
            exact kx_lwF [(0, .ref (a29001)), (1, .ref (q1)), (2, .ref (q7)), (3, .ref (q13)), (4, .ref (q16)), (5, .int ((l5 + (7 : Int32))))] ⟨rfl, rfl, rfl, rfl, rfl, rfl, trivial⟩ (hI28 _ _ _ _ h)
          · have h := w_iff c h
            refine kx_aload dL_law_2653 rfl ?_
            refine kx_iconst (v := 0) dL_law_2655 (by decide) ?_
            refine kW_lD dL_law_2656 h (fun v29499 h => ?_)
            refine kx_aload dL_law_2657 rfl ?_
            refine kx_iconst (v := 0) dL_law_2659 (by decide) ?_
            refine kW_lD dL_law_2660 h (fun v29500 h => ?_)
            refine kx_dcmp dL_law_2661 ?_
            refine kx_if_eq (tgt := 2673) dL_law_2662 (by decide) (fun c => ?_) (fun c => ?_)
            · have h := w_ift c h
              refine kx_iconst (v := 0) dL_law_2673 (by decide) ?_
              exact kx_zret dL_law_2674 rfl rfl (hQ _ _ ⟨_, rfl, h⟩)
            · have h := w_iff c h
              refine kx_fload dL_law_2665 rfl ?_
              refine kx_fload dL_law_2667 rfl ?_
              refine kx_fcmp dL_law_2669 ?_
              refine kx_if_ne (tgt := 2675) dL_law_2670 (by decide) (fun c => ?_) (fun c => ?_)
              · have h := w_iff c h
                refine kx_goto (tgt := 3375) dL_law_2675 (by decide) ?_
                refine kx_iinc2 (v := 7) dL_law_3375 rfl (by decide) ?_
                refine kx_goto (tgt := 28) dL_law_3378 (by decide) ?_
                exact kx_lwF [(0, .ref (a29001)), (1, .ref (q1)), (2, .ref (q7)), (3, .ref (q13)), (4, .ref (q16)), (5, .int ((l5 + (7 : Int32))))] ⟨rfl, rfl, rfl, rfl, rfl, rfl, trivial⟩ (hI28 _ _ _ _ h)
              · have h := w_ift c h
                refine kx_iconst (v := 0) dL_law_2673 (by decide) ?_
                exact kx_zret dL_law_2674 rfl rfl (hQ _ _ ⟨_, rfl, h⟩)
      · have h := w_iff c h
        refine kx_iconst (v := 0) dL_law_2635 (by decide) ?_
        exact kx_zret dL_law_2636 rfl rfl (hQ _ _ ⟨_, rfl, h⟩)
    have h := w_iff c40 h
    by_cases c41 : (v29003 &&& (63 : Int32)) = (41 : Int32)
    · have h := w_ift c41 h
      refine kx_tableIn (tgt := 2678) dL_law_45 (by rw [c41]; decide) (by rw [c41]; decide) (by rw [c41]; rfl) (by decide) ?_
      refine kx_aload_n dL_law_2678 rfl rfl ?_
      obtain ⟨hr, h⟩ := h
      obtain ⟨c29503, c29504, hc, hs, h⟩ := h
      refine kx_callV dL_law_2679 lk_X0_311 (kw_X1_clearMemory h) rfl (wR_rc hr rfl) rfl (Nat.le_of_ble_eq_true rfl) (Nat.le_of_ble_eq_true rfl) (Nat.le_of_ble_eq_true rfl) hc hs (fun _ _ _ hx => kx_out rfl (hX _ _ _ hx)) (fun v_ σ29502 hq => ?_)
      obtain ⟨v29501, rfl, h⟩ := hq
      refine kx_aload_n dL_law_2682 rfl rfl ?_
      refine kW_MI dL_law_2683 lk_X0_314 (fun hd_ h_ => mM_clearMemory hd_ h_) rfl rfl (Nat.le_of_ble_eq_true rfl) (Nat.le_of_ble_eq_true rfl) (Nat.le_of_ble_eq_true rfl) h (fun v29505 σ29506 h => ?_)
      refine kx_icmp_eq (tgt := 3375) dL_law_2686 (by decide) (fun c => ?_) (fun c => ?_)
      · have h := w_ift c h
        refine kx_iinc2 (v := 7) dL_law_3375 rfl (by decide) ?_
        refine kx_goto (tgt := 28) dL_law_3378 (by decide) ?_
        exact kx_lwF [(0, .ref (a29001)), (1, .ref (q1)), (2, .ref (q7)), (3, .ref (q13)), (4, .ref (q16)), (5, .int ((l5 + (7 : Int32))))] ⟨rfl, rfl, rfl, rfl, rfl, rfl, trivial⟩ (hI28 _ _ _ _ h)
      · have h := w_iff c h
        refine kx_iconst (v := 0) dL_law_2689 (by decide) ?_
        exact kx_zret dL_law_2690 rfl rfl (hQ _ _ ⟨_, rfl, h⟩)
    have h := w_iff c41 h
    by_cases c42 : (v29003 &&& (63 : Int32)) = (42 : Int32)
    · have h := w_ift c42 h
      refine kx_tableIn (tgt := 2691) dL_law_45 (by rw [c42]; decide) (by rw [c42]; decide) (by rw [c42]; rfl) (by decide) ?_
      refine kx_aload_n dL_law_2691 rfl rfl ?_
      refine kx_aload_n dL_law_2692 rfl rfl ?_
      refine kx_iload dL_law_2693 rfl ?_
      refine kx_iconst (v := 1) dL_law_2695 (by decide) ?_
      refine kx_iadd dL_law_2696 ?_
      refine kW_lI dL_law_2697 h (fun v29507 h => ?_)
      refine kx_aload_n dL_law_2698 rfl rfl ?_
      obtain ⟨c29510, c29511, hc, hs, h⟩ := h
      refine kx_callSX dL_law_2699 lk_X0_315 (kw_X0_tripIn h) rfl rfl (Nat.le_of_ble_eq_true rfl) (Nat.le_of_ble_eq_true rfl) (Nat.le_of_ble_eq_true rfl) hc hs (fun _ _ _ hx => kx_out rfl (hX _ _ _ hx)) (fun v_ σ29509 hq => ?_)
      obtain ⟨v29508, rfl, h⟩ := hq
      refine kx_istore dL_law_2702 (Nat.le_of_ble_eq_true rfl) ?_
      refine kx_aload_n dL_law_2704 rfl rfl ?_
      refine kx_aload_n dL_law_2705 rfl rfl ?_
      refine kx_iload dL_law_2706 rfl ?_
      refine kx_iconst (v := 1) dL_law_2708 (by decide) ?_
      refine kx_iadd dL_law_2709 ?_
      refine kW_lI dL_law_2710 h (fun v29512 h => ?_)
      refine kW_MI dL_law_2711 lk_X0_317 (fun hd_ h_ => mM_tripIn hd_ h_) rfl rfl (Nat.le_of_ble_eq_true rfl) (Nat.le_of_ble_eq_true rfl) (Nat.le_of_ble_eq_true rfl) h (fun v29513 σ29514 h => ?_)
      refine kx_istore dL_law_2714 (Nat.le_of_ble_eq_true rfl) ?_
      refine kx_aload_n dL_law_2716 rfl rfl ?_
      refine kW_MI dL_law_2717 lk_X0_172 (fun hd_ h_ => mM_thrown hd_ h_) rfl rfl (Nat.le_of_ble_eq_true rfl) (Nat.le_of_ble_eq_true rfl) (Nat.le_of_ble_eq_true rfl) h (fun v29515 σ29516 h => ?_)
      refine kx_iload dL_law_2720 rfl ?_
      refine kx_icmp_eq (tgt := 2727) dL_law_2722 (by decide) (fun c => ?_) (fun c => ?_)
      · have h := w_ift c h
        refine kx_iload dL_law_2727 rfl ?_
        refine kx_if_ne (tgt := 2744) dL_law_2729 (by decide) (fun c => ?_) (fun c => ?_)
        · have h := w_iff c h
          refine kx_goto (tgt := 3375) dL_law_2744 (by decide) ?_
          refine kx_iinc2 (v := 7) dL_law_3375 rfl (by decide) ?_
          refine kx_goto (tgt := 28) dL_law_3378 (by decide) ?_
          exact kx_lwF [(0, .ref (a29001)), (1, .ref (q1)), (2, .ref (q7)), (3, .ref (q13)), (4, .ref (q16)), (5, .int ((l5 + (7 : Int32))))] ⟨rfl, rfl, rfl, rfl, rfl, rfl, trivial⟩ (hI28 _ _ _ _ h)
        · have h := w_ift c h
          refine kx_aload_n dL_law_2732 rfl rfl ?_
          refine kx_iconst (v := 0) dL_law_2733 (by decide) ?_
          refine kW_lJ dL_law_2734 h (fun v29517 h => ?_)
          refine kx_iload dL_law_2735 rfl ?_
          refine kx_i2l dL_law_2737 rfl ?_
          refine kx_lcmp dL_law_2738 ?_
          refine kx_if_eq (tgt := 2744) dL_law_2739 (by decide) (fun c => ?_) (fun c => ?_)
          · have h := w_ift c h
            refine kx_goto (tgt := 3375) dL_law_2744 (by decide) ?_
            refine kx_iinc2 (v := 7) dL_law_3375 rfl (by decide) ?_
            refine kx_goto (tgt := 28) dL_law_3378 (by decide) ?_
            exact kx_lwF [(0, .ref (a29001)), (1, .ref (q1)), (2, .ref (q7)), (3, .ref (q13)), (4, .ref (q16)), (5, .int ((l5 + (7 : Int32))))] ⟨rfl, rfl, rfl, rfl, rfl, rfl, trivial⟩ (hI28 _ _ _ _ h)
          · have h := w_iff c h
            refine kx_iconst (v := 0) dL_law_2742 (by decide) ?_
            exact kx_zret dL_law_2743 rfl rfl (hQ _ _ ⟨_, rfl, h⟩)
      · have h := w_iff c h
        refine kx_iconst (v := 0) dL_law_2725 (by decide) ?_
        exact kx_zret dL_law_2726 rfl rfl (hQ _ _ ⟨_, rfl, h⟩)
    have h := w_iff c42 h
    by_cases c43 : (v29003 &&& (63 : Int32)) = (43 : Int32)
    · have h := w_ift c43 h
      refine kx_tableIn (tgt := 2747) dL_law_45 (by rw [c43]; decide) (by rw [c43]; decide) (by rw [c43]; rfl) (by decide) ?_
      refine kx_aload_n dL_law_2747 rfl rfl ?_
      refine kx_aload_n dL_law_2748 rfl rfl ?_
      refine kx_iload dL_law_2749 rfl ?_
      refine kx_iconst (v := 1) dL_law_2751 (by decide) ?_
      refine kx_iadd dL_law_2752 ?_
      refine kW_lI dL_law_2753 h (fun v29518 h => ?_)
      refine kx_aload_n dL_law_2754 rfl rfl ?_
      obtain ⟨c29521, c29522, hc, hs, h⟩ := h
      refine kx_callSX dL_law_2755 lk_X0_318 (kw_X0_tripping h) rfl rfl (Nat.le_of_ble_eq_true rfl) (Nat.le_of_ble_eq_true rfl) (Nat.le_of_ble_eq_true rfl) hc hs (fun _ _ _ hx => kx_out rfl (hX _ _ _ hx)) (fun v_ σ29520 hq => ?_)
      obtain ⟨v29519, rfl, h⟩ := hq
      refine kx_istore dL_law_2758 (Nat.le_of_ble_eq_true rfl) ?_
      refine kx_aload_n dL_law_2760 rfl rfl ?_
      refine kx_aload_n dL_law_2761 rfl rfl ?_
      refine kx_iload dL_law_2762 rfl ?_
      refine kx_iconst (v := 1) dL_law_2764 (by decide) ?_
      refine kx_iadd dL_law_2765 ?_
      refine kW_lI dL_law_2766 h (fun v29523 h => ?_)
      refine kW_MI dL_law_2767 lk_X0_320 (fun hd_ h_ => mM_tripping hd_ h_) rfl rfl (Nat.le_of_ble_eq_true rfl) (Nat.le_of_ble_eq_true rfl) (Nat.le_of_ble_eq_true rfl) h (fun v29524 σ29525 h => ?_)
      refine kx_istore dL_law_2770 (Nat.le_of_ble_eq_true rfl) ?_
      refine kx_aload_n dL_law_2772 rfl rfl ?_
      refine kW_MI dL_law_2773 lk_X0_172 (fun hd_ h_ => mM_thrown hd_ h_) rfl rfl (Nat.le_of_ble_eq_true rfl) (Nat.le_of_ble_eq_true rfl) (Nat.le_of_ble_eq_true rfl) h (fun v29526 σ29527 h => ?_)
      refine kx_iload dL_law_2776 rfl ?_
      refine kx_icmp_eq (tgt := 2783) dL_law_2778 (by decide) (fun c => ?_) (fun c => ?_)
      · have h := w_ift c h
        refine kx_iload dL_law_2783 rfl ?_
        refine kx_if_ne (tgt := 2800) dL_law_2785 (by decide) (fun c => ?_) (fun c => ?_)
        · have h := w_iff c h
          refine kx_goto (tgt := 3375) dL_law_2800 (by decide) ?_
          refine kx_iinc2 (v := 7) dL_law_3375 rfl (by decide) ?_
          refine kx_goto (tgt := 28) dL_law_3378 (by decide) ?_
          exact kx_lwF [(0, .ref (a29001)), (1, .ref (q1)), (2, .ref (q7)), (3, .ref (q13)), (4, .ref (q16)), (5, .int ((l5 + (7 : Int32))))] ⟨rfl, rfl, rfl, rfl, rfl, rfl, trivial⟩ (hI28 _ _ _ _ h)
        · have h := w_ift c h
          refine kx_aload_n dL_law_2788 rfl rfl ?_
          refine kx_iconst (v := 0) dL_law_2789 (by decide) ?_
          refine kW_lJ dL_law_2790 h (fun v29528 h => ?_)
          refine kx_iload dL_law_2791 rfl ?_
          refine kx_i2l dL_law_2793 rfl ?_
          refine kx_lcmp dL_law_2794 ?_
          refine kx_if_eq (tgt := 2800) dL_law_2795 (by decide) (fun c => ?_) (fun c => ?_)
          · have h := w_ift c h
            refine kx_goto (tgt := 3375) dL_law_2800 (by decide) ?_
            refine kx_iinc2 (v := 7) dL_law_3375 rfl (by decide) ?_
            refine kx_goto (tgt := 28) dL_law_3378 (by decide) ?_
            exact kx_lwF [(0, .ref (a29001)), (1, .ref (q1)), (2, .ref (q7)), (3, .ref (q13)), (4, .ref (q16)), (5, .int ((l5 + (7 : Int32))))] ⟨rfl, rfl, rfl, rfl, rfl, rfl, trivial⟩ (hI28 _ _ _ _ h)
          · have h := w_iff c h
            refine kx_iconst (v := 0) dL_law_2798 (by decide) ?_
            exact kx_zret dL_law_2799 rfl rfl (hQ _ _ ⟨_, rfl, h⟩)
      · have h := w_iff c h
        refine kx_iconst (v := 0) dL_law_2781 (by decide) ?_
        exact kx_zret dL_law_2782 rfl rfl (hQ _ _ ⟨_, rfl, h⟩)
    have h := w_iff c43 h
    by_cases c44 : (v29003 &&& (63 : Int32)) = (44 : Int32)
    · have h := w_ift c44 h
      refine kx_tableIn (tgt := 2803) dL_law_45 (by rw [c44]; decide) (by rw [c44]; decide) (by rw [c44]; rfl) (by decide) ?_
      refine kx_aload_n dL_law_2803 rfl rfl ?_
      refine kx_aload_n dL_law_2804 rfl rfl ?_
      refine kx_iload dL_law_2805 rfl ?_
      refine kx_iconst (v := 1) dL_law_2807 (by decide) ?_
      refine kx_iadd dL_law_2808 ?_
      refine kW_lI dL_law_2809 h (fun v29529 h => ?_)
      refine kx_aload_n dL_law_2810 rfl rfl ?_
      refine kx_iload dL_law_2811 rfl ?_
      refine kx_iconst (v := 2) dL_law_2813 (by decide) ?_
      refine kx_iadd dL_law_2814 ?_
      refine kW_lI dL_law_2815 h (fun v29530 h => ?_)
      refine kx_aload_n dL_law_2816 rfl rfl ?_
      refine kx_iload dL_law_2817 rfl ?_
      refine kx_iconst (v := 3) dL_law_2819 (by decide) ?_
      refine kx_iadd dL_law_2820 ?_
      refine kW_lI dL_law_2821 h (fun v29531 h => ?_)
      refine kx_aload dL_law_2822 rfl ?_
      obtain ⟨c29534, c29535, hc, hs, h⟩ := h
      refine kx_callSX dL_law_2824 lk_X0_321 (kw_X0_featureAfter h) rfl rfl (Nat.le_of_ble_eq_true rfl) (Nat.le_of_ble_eq_true rfl) (Nat.le_of_ble_eq_true rfl) hc hs (fun _ _ _ hx => kx_out rfl (hX _ _ _ hx)) (fun v_ σ29533 hq => ?_)
      obtain ⟨v29532, rfl, h⟩ := hq
      refine kx_istore dL_law_2827 (Nat.le_of_ble_eq_true rfl) ?_
      refine kx_aload_n dL_law_2829 rfl rfl ?_
      refine kx_aload_n dL_law_2830 rfl rfl ?_
      refine kx_iload dL_law_2831 rfl ?_
      refine kx_iconst (v := 1) dL_law_2833 (by decide) ?_
      refine kx_iadd dL_law_2834 ?_
      refine kW_lI dL_law_2835 h (fun v29536 h => ?_)
      refine kx_aload_n dL_law_2836 rfl rfl ?_
      refine kx_iload dL_law_2837 rfl ?_
      refine kx_iconst (v := 2) dL_law_2839 (by decide) ?_
      refine kx_iadd dL_law_2840 ?_
      refine kW_lI dL_law_2841 h (fun v29537 h => ?_)
      refine kx_aload_n dL_law_2842 rfl rfl ?_
      refine kx_iload dL_law_2843 rfl ?_
      refine kx_iconst (v := 3) dL_law_2845 (by decide) ?_
      refine kx_iadd dL_law_2846 ?_
      refine kW_lI dL_law_2847 h (fun v29538 h => ?_)
      refine kW_MF dL_law_2848 lk_X0_324 (fun hd_ h_ => mM_featureAfter hd_ h_) rfl rfl (Nat.le_of_ble_eq_true rfl) (Nat.le_of_ble_eq_true rfl) (Nat.le_of_ble_eq_true rfl) h (fun v29539 σ29540 h => ?_)
      refine kx_fstore dL_law_2851 (Nat.le_of_ble_eq_true rfl) ?_
      refine kx_aload_n dL_law_2853 rfl rfl ?_
      refine kW_MI dL_law_2854 lk_X0_172 (fun hd_ h_ => mM_thrown hd_ h_) rfl rfl (Nat.le_of_ble_eq_true rfl) (Nat.le_of_ble_eq_true rfl) (Nat.le_of_ble_eq_true rfl) h (fun v29541 σ29542 h => ?_)
      refine kx_iload dL_law_2857 rfl ?_
      refine kx_icmp_eq (tgt := 2864) dL_law_2859 (by decide) (fun c => ?_) (fun c => ?_)
      · have h := w_ift c h
        refine kx_iload dL_law_2864 rfl ?_
        refine kx_if_ne (tgt := 2902) dL_law_2866 (by decide) (fun c => ?_) (fun c => ?_)
        · have h := w_iff c h
          refine kx_goto (tgt := 3375) dL_law_2902 (by decide) ?_
          refine kx_iinc2 (v := 7) dL_law_3375 rfl (by decide) ?_
          refine kx_goto (tgt := 28) dL_law_3378 (by decide) ?_
          exact kx_lwF [(0, .ref (a29001)), (1, .ref (q1)), (2, .ref (q7)), (3, .ref (q13)), (4, .ref (q16)), (5, .int ((l5 + (7 : Int32))))] ⟨rfl, rfl, rfl, rfl, rfl, rfl, trivial⟩ (hI28 _ _ _ _ h)
        · have h := w_ift c h
          refine kx_aload dL_law_2869 rfl ?_
          refine kx_iconst (v := 0) dL_law_2871 (by decide) ?_
          refine kW_lD dL_law_2872 h (fun v29543 h => ?_)
          refine kx_fload dL_law_2873 rfl ?_
          refine kW_f2d dL_law_2875 h (fun v29544 h => ?_)
          refine kx_dcmp dL_law_2876 ?_
          refine kx_if_eq (tgt := 2902) dL_law_2877 (by decide) (fun c => ?_) (fun c => ?_)
          · have h := w_ift c h
            refine kx_goto (tgt := 3375) dL_law_2902 (by decide) ?_
            refine kx_iinc2 (v := 7) dL_law_3375 rfl (by decide) ?_
            refine kx_goto (tgt := 28) dL_law_3378 (by decide) ?_
            exact kx_lwF [(0, .ref (a29001)), (1, .ref (q1)), (2, .ref (q7)), (3, .ref (q13)), (4, .ref (q16)), (5, .int ((l5 + (7 : Int32))))] ⟨rfl, rfl, rfl, rfl, rfl, rfl, trivial⟩ (hI28 _ _ _ _ h)
          · have h := w_iff c h
            refine kx_aload dL_law_2880 rfl ?_
            refine kx_iconst (v := 0) dL_law_2882 (by decide) ?_
            refine kW_lD dL_law_2883 h (fun v29545 h => ?_)
            refine kx_aload dL_law_2884 rfl ?_
            refine kx_iconst (v := 0) dL_law_2886 (by decide) ?_
            refine kW_lD dL_law_2887 h (fun v29546 h => ?_)
            refine kx_dcmp dL_law_2888 ?_
            refine kx_if_eq (tgt := 2900) dL_law_2889 (by decide) (fun c => ?_) (fun c => ?_)
            · have h := w_ift c h
              refine kx_iconst (v := 0) dL_law_2900 (by decide) ?_
              exact kx_zret dL_law_2901 rfl rfl (hQ _ _ ⟨_, rfl, h⟩)
            · have h := w_iff c h
              refine kx_fload dL_law_2892 rfl ?_
              refine kx_fload dL_law_2894 rfl ?_
              refine kx_fcmp dL_law_2896 ?_
              refine kx_if_ne (tgt := 2902) dL_law_2897 (by decide) (fun c => ?_) (fun c => ?_)
              · have h := w_iff c h
                refine kx_goto (tgt := 3375) dL_law_2902 (by decide) ?_
                refine kx_iinc2 (v := 7) dL_law_3375 rfl (by decide) ?_
                refine kx_goto (tgt := 28) dL_law_3378 (by decide) ?_
                exact kx_lwF [(0, .ref (a29001)), (1, .ref (q1)), (2, .ref (q7)), (3, .ref (q13)), (4, .ref (q16)), (5, .int ((l5 + (7 : Int32))))] ⟨rfl, rfl, rfl, rfl, rfl, rfl, trivial⟩ (hI28 _ _ _ _ h)
              · have h := w_ift c h
                refine kx_iconst (v := 0) dL_law_2900 (by decide) ?_
                exact kx_zret dL_law_2901 rfl rfl (hQ _ _ ⟨_, rfl, h⟩)
      · have h := w_iff c h
        refine kx_iconst (v := 0) dL_law_2862 (by decide) ?_
        exact kx_zret dL_law_2863 rfl rfl (hQ _ _ ⟨_, rfl, h⟩)
    have h := w_iff c44 h
    by_cases c45 : (v29003 &&& (63 : Int32)) = (45 : Int32)
    · have h := w_ift c45 h
      refine kx_tableIn (tgt := 2905) dL_law_45 (by rw [c45]; decide) (by rw [c45]; decide) (by rw [c45]; rfl) (by decide) ?_
      refine kx_aload_n dL_law_2905 rfl rfl ?_
      refine kx_aload_n dL_law_2906 rfl rfl ?_
      refine kx_iload dL_law_2907 rfl ?_
      refine kx_iconst (v := 1) dL_law_2909 (by decide) ?_
      refine kx_iadd dL_law_2910 ?_
      refine kW_lI dL_law_2911 h (fun v29547 h => ?_)
      refine kx_aload_n dL_law_2912 rfl rfl ?_
      obtain ⟨c29550, c29551, hc, hs, h⟩ := h
      refine kx_callSX dL_law_2913 lk_X0_325 (kw_X0_culprit h) rfl rfl (Nat.le_of_ble_eq_true rfl) (Nat.le_of_ble_eq_true rfl) (Nat.le_of_ble_eq_true rfl) hc hs (fun _ _ _ hx => kx_out rfl (hX _ _ _ hx)) (fun v_ σ29549 hq => ?_)
      obtain ⟨v29548, rfl, h⟩ := hq
      refine kx_istore dL_law_2916 (Nat.le_of_ble_eq_true rfl) ?_
      refine kx_aload_n dL_law_2918 rfl rfl ?_
      refine kx_aload_n dL_law_2919 rfl rfl ?_
      refine kx_iload dL_law_2920 rfl ?_
      refine kx_iconst (v := 1) dL_law_2922 (by decide) ?_
      refine kx_iadd dL_law_2923 ?_
      refine kW_lI dL_law_2924 h (fun v29552 h => ?_)
      refine kW_MI dL_law_2925 lk_X0_327 (fun hd_ h_ => mM_culprit hd_ h_) rfl rfl (Nat.le_of_ble_eq_true rfl) (Nat.le_of_ble_eq_true rfl) (Nat.le_of_ble_eq_true rfl) h (fun v29553 σ29554 h => ?_)
      refine kx_istore dL_law_2928 (Nat.le_of_ble_eq_true rfl) ?_
      refine kx_aload_n dL_law_2930 rfl rfl ?_
      refine kW_MI dL_law_2931 lk_X0_172 (fun hd_ h_ => mM_thrown hd_ h_) rfl rfl (Nat.le_of_ble_eq_true rfl) (Nat.le_of_ble_eq_true rfl) (Nat.le_of_ble_eq_true rfl) h (fun v29555 σ29556 h => ?_)
      refine kx_iload dL_law_2934 rfl ?_
      refine kx_icmp_eq (tgt := 2941) dL_law_2936 (by decide) (fun c => ?_) (fun c => ?_)
      · have h := w_ift c h
        refine kx_iload dL_law_2941 rfl ?_
        refine kx_if_ne (tgt := 2958) dL_law_2943 (by decide) (fun c => ?_) (fun c => ?_)
        · have h := w_iff c h
          refine kx_goto (tgt := 3375) dL_law_2958 (by decide) ?_
          refine kx_iinc2 (v := 7) dL_law_3375 rfl (by decide) ?_
          refine kx_goto (tgt := 28) dL_law_3378 (by decide) ?_
          exact kx_lwF [(0, .ref (a29001)), (1, .ref (q1)), (2, .ref (q7)), (3, .ref (q13)), (4, .ref (q16)), (5, .int ((l5 + (7 : Int32))))] ⟨rfl, rfl, rfl, rfl, rfl, rfl, trivial⟩ (hI28 _ _ _ _ h)
        · have h := w_ift c h
          refine kx_aload_n dL_law_2946 rfl rfl ?_
          refine kx_iconst (v := 0) dL_law_2947 (by decide) ?_
          refine kW_lJ dL_law_2948 h (fun v29557 h => ?_)
          refine kx_iload dL_law_2949 rfl ?_
          refine kx_i2l dL_law_2951 rfl ?_
          refine kx_lcmp dL_law_2952 ?_
          refine kx_if_eq (tgt := 2958) dL_law_2953 (by decide) (fun c => ?_) (fun c => ?_)
          · have h := w_ift c h
            refine kx_goto (tgt := 3375) dL_law_2958 (by decide) ?_
            refine kx_iinc2 (v := 7) dL_law_3375 rfl (by decide) ?_
            refine kx_goto (tgt := 28) dL_law_3378 (by decide) ?_
            exact kx_lwF [(0, .ref (a29001)), (1, .ref (q1)), (2, .ref (q7)), (3, .ref (q13)), (4, .ref (q16)), (5, .int ((l5 + (7 : Int32))))] ⟨rfl, rfl, rfl, rfl, rfl, rfl, trivial⟩ (hI28 _ _ _ _ h)
          · have h := w_iff c h
            refine kx_iconst (v := 0) dL_law_2956 (by decide) ?_
            exact kx_zret dL_law_2957 rfl rfl (hQ _ _ ⟨_, rfl, h⟩)
      · have h := w_iff c h
        refine kx_iconst (v := 0) dL_law_2939 (by decide) ?_
        exact kx_zret dL_law_2940 rfl rfl (hQ _ _ ⟨_, rfl, h⟩)
    have h := w_iff c45 h
    by_cases c46 : (v29003 &&& (63 : Int32)) = (46 : Int32)
    · have h := w_ift c46 h
      refine kx_tableIn (tgt := 2961) dL_law_45 (by rw [c46]; decide) (by rw [c46]; decide) (by rw [c46]; rfl) (by decide) ?_
      refine kx_aload_n dL_law_2961 rfl rfl ?_
      refine kx_aload_n dL_law_2962 rfl rfl ?_
      refine kx_iload dL_law_2963 rfl ?_
      refine kx_iconst (v := 1) dL_law_2965 (by decide) ?_
      refine kx_iadd dL_law_2966 ?_
      refine kW_lI dL_law_2967 h (fun v29558 h => ?_)
      refine kx_aload_n dL_law_2968 rfl rfl ?_
      obtain ⟨c29561, c29562, hc, hs, h⟩ := h
      refine kx_callSX dL_law_2969 lk_X0_328 (kw_X0_hitsAhead h) rfl rfl (Nat.le_of_ble_eq_true rfl) (Nat.le_of_ble_eq_true rfl) (Nat.le_of_ble_eq_true rfl) hc hs (fun _ _ _ hx => kx_out rfl (hX _ _ _ hx)) (fun v_ σ29560 hq => ?_)
      obtain ⟨v29559, rfl, h⟩ := hq
      refine kx_istore dL_law_2972 (Nat.le_of_ble_eq_true rfl) ?_
      refine kx_aload_n dL_law_2974 rfl rfl ?_
      refine kx_aload_n dL_law_2975 rfl rfl ?_
      refine kx_iload dL_law_2976 rfl ?_
      refine kx_iconst (v := 1) dL_law_2978 (by decide) ?_
      refine kx_iadd dL_law_2979 ?_
      refine kW_lI dL_law_2980 h (fun v29563 h => ?_)
      refine kW_MI dL_law_2981 lk_X0_330 (fun hd_ h_ => mM_hitsAhead hd_ h_) rfl rfl (Nat.le_of_ble_eq_true rfl) (Nat.le_of_ble_eq_true rfl) (Nat.le_of_ble_eq_true rfl) h (fun v29564 σ29565 h => ?_)
      refine kx_istore dL_law_2984 (Nat.le_of_ble_eq_true rfl) ?_
      refine kx_aload_n dL_law_2986 rfl rfl ?_
      refine kW_MI dL_law_2987 lk_X0_172 (fun hd_ h_ => mM_thrown hd_ h_) rfl rfl (Nat.le_of_ble_eq_true rfl) (Nat.le_of_ble_eq_true rfl) (Nat.le_of_ble_eq_true rfl) h (fun v29566 σ29567 h => ?_)
      refine kx_iload dL_law_2990 rfl ?_
      refine kx_icmp_eq (tgt := 2997) dL_law_2992 (by decide) (fun c => ?_) (fun c => ?_)
      · have h := w_ift c h
        refine kx_iload dL_law_2997 rfl ?_
        refine kx_if_ne (tgt := 3014) dL_law_2999 (by decide) (fun c => ?_) (fun c => ?_)
        · have h := w_iff c h
          refine kx_goto (tgt := 3375) dL_law_3014 (by decide) ?_
          refine kx_iinc2 (v := 7) dL_law_3375 rfl (by decide) ?_
          refine kx_goto (tgt := 28) dL_law_3378 (by decide) ?_
          exact kx_lwF [(0, .ref (a29001)), (1, .ref (q1)), (2, .ref (q7)), (3, .ref (q13)), (4, .ref (q16)), (5, .int ((l5 + (7 : Int32))))] ⟨rfl, rfl, rfl, rfl, rfl, rfl, trivial⟩ (hI28 _ _ _ _ h)
        · have h := w_ift c h
          refine kx_aload_n dL_law_3002 rfl rfl ?_
          refine kx_iconst (v := 0) dL_law_3003 (by decide) ?_
          refine kW_lJ dL_law_3004 h (fun v29568 h => ?_)
          refine kx_iload dL_law_3005 rfl ?_
          refine kx_i2l dL_law_3007 rfl ?_
          refine kx_lcmp dL_law_3008 ?_
          refine kx_if_eq (tgt := 3014) dL_law_3009 (by decide) (fun c => ?_) (fun c => ?_)
          · have h := w_ift c h
            refine kx_goto (tgt := 3375) dL_law_3014 (by decide) ?_
            refine kx_iinc2 (v := 7) dL_law_3375 rfl (by decide) ?_
            refine kx_goto (tgt := 28) dL_law_3378 (by decide) ?_
            exact kx_lwF [(0, .ref (a29001)), (1, .ref (q1)), (2, .ref (q7)), (3, .ref (q13)), (4, .ref (q16)), (5, .int ((l5 + (7 : Int32))))] ⟨rfl, rfl, rfl, rfl, rfl, rfl, trivial⟩ (hI28 _ _ _ _ h)
          · have h := w_iff c h
            refine kx_iconst (v := 0) dL_law_3012 (by decide) ?_
            exact kx_zret dL_law_3013 rfl rfl (hQ _ _ ⟨_, rfl, h⟩)
      · have h := w_iff c h
        refine kx_iconst (v := 0) dL_law_2995 (by decide) ?_
        exact kx_zret dL_law_2996 rfl rfl (hQ _ _ ⟨_, rfl, h⟩)
    have h := w_iff c46 h
    by_cases c47 : (v29003 &&& (63 : Int32)) = (47 : Int32)
    · have h := w_ift c47 h
      refine kx_tableIn (tgt := 3017) dL_law_45 (by rw [c47]; decide) (by rw [c47]; decide) (by rw [c47]; rfl) (by decide) ?_
      refine kx_aload_n dL_law_3017 rfl rfl ?_
      refine kx_aload_n dL_law_3018 rfl rfl ?_
      refine kx_iload dL_law_3019 rfl ?_
      refine kx_iconst (v := 1) dL_law_3021 (by decide) ?_
      refine kx_iadd dL_law_3022 ?_
      refine kW_lI dL_law_3023 h (fun v29569 h => ?_)
      refine kx_aload_n dL_law_3024 rfl rfl ?_
      obtain ⟨c29572, c29573, hc, hs, h⟩ := h
      refine kx_callSX dL_law_3025 lk_X0_331 (kw_X0_largestCount h) rfl rfl (Nat.le_of_ble_eq_true rfl) (Nat.le_of_ble_eq_true rfl) (Nat.le_of_ble_eq_true rfl) hc hs (fun _ _ _ hx => kx_out rfl (hX _ _ _ hx)) (fun v_ σ29571 hq => ?_)
      obtain ⟨v29570, rfl, h⟩ := hq
      refine kx_istore dL_law_3028 (Nat.le_of_ble_eq_true rfl) ?_
      refine kx_aload_n dL_law_3030 rfl rfl ?_
      refine kx_aload_n dL_law_3031 rfl rfl ?_
      refine kx_iload dL_law_3032 rfl ?_
      refine kx_iconst (v := 1) dL_law_3034 (by decide) ?_
      refine kx_iadd dL_law_3035 ?_
      refine kW_lI dL_law_3036 h (fun v29574 h => ?_)
      refine kW_MI dL_law_3037 lk_X0_333 (fun hd_ h_ => mM_largestCount hd_ h_) rfl rfl (Nat.le_of_ble_eq_true rfl) (Nat.le_of_ble_eq_true rfl) (Nat.le_of_ble_eq_true rfl) h (fun v29575 σ29576 h => ?_)
      refine kx_istore dL_law_3040 (Nat.le_of_ble_eq_true rfl) ?_
      refine kx_aload_n dL_law_3042 rfl rfl ?_
      refine kW_MI dL_law_3043 lk_X0_172 (fun hd_ h_ => mM_thrown hd_ h_) rfl rfl (Nat.le_of_ble_eq_true rfl) (Nat.le_of_ble_eq_true rfl) (Nat.le_of_ble_eq_true rfl) h (fun v29577 σ29578 h => ?_)
      refine kx_iload dL_law_3046 rfl ?_
      refine kx_icmp_eq (tgt := 3053) dL_law_3048 (by decide) (fun c => ?_) (fun c => ?_)
      · have h := w_ift c h
        refine kx_iload dL_law_3053 rfl ?_
        refine kx_if_ne (tgt := 3070) dL_law_3055 (by decide) (fun c => ?_) (fun c => ?_)
        · have h := w_iff c h
          refine kx_goto (tgt := 3375) dL_law_3070 (by decide) ?_
          refine kx_iinc2 (v := 7) dL_law_3375 rfl (by decide) ?_
          refine kx_goto (tgt := 28) dL_law_3378 (by decide) ?_
          exact kx_lwF [(0, .ref (a29001)), (1, .ref (q1)), (2, .ref (q7)), (3, .ref (q13)), (4, .ref (q16)), (5, .int ((l5 + (7 : Int32))))] ⟨rfl, rfl, rfl, rfl, rfl, rfl, trivial⟩ (hI28 _ _ _ _ h)
        · have h := w_ift c h
          refine kx_aload_n dL_law_3058 rfl rfl ?_
          refine kx_iconst (v := 0) dL_law_3059 (by decide) ?_
          refine kW_lJ dL_law_3060 h (fun v29579 h => ?_)
          refine kx_iload dL_law_3061 rfl ?_
          refine kx_i2l dL_law_3063 rfl ?_
          refine kx_lcmp dL_law_3064 ?_
          refine kx_if_eq (tgt := 3070) dL_law_3065 (by decide) (fun c => ?_) (fun c => ?_)
          · have h := w_ift c h
            refine kx_goto (tgt := 3375) dL_law_3070 (by decide) ?_
            refine kx_iinc2 (v := 7) dL_law_3375 rfl (by decide) ?_
            refine kx_goto (tgt := 28) dL_law_3378 (by decide) ?_
            exact kx_lwF [(0, .ref (a29001)), (1, .ref (q1)), (2, .ref (q7)), (3, .ref (q13)), (4, .ref (q16)), (5, .int ((l5 + (7 : Int32))))] ⟨rfl, rfl, rfl, rfl, rfl, rfl, trivial⟩ (hI28 _ _ _ _ h)
          · have h := w_iff c h
            refine kx_iconst (v := 0) dL_law_3068 (by decide) ?_
            exact kx_zret dL_law_3069 rfl rfl (hQ _ _ ⟨_, rfl, h⟩)
      · have h := w_iff c h
        refine kx_iconst (v := 0) dL_law_3051 (by decide) ?_
        exact kx_zret dL_law_3052 rfl rfl (hQ _ _ ⟨_, rfl, h⟩)
    have h := w_iff c47 h
    by_cases c48 : (v29003 &&& (63 : Int32)) = (48 : Int32)
    · have h := w_ift c48 h
      refine kx_tableIn (tgt := 3073) dL_law_45 (by rw [c48]; decide) (by rw [c48]; decide) (by rw [c48]; rfl) (by decide) ?_
      refine kx_aload_n dL_law_3073 rfl rfl ?_
      obtain ⟨hr, h⟩ := h
      refine kx_callV dL_law_3074 lk_X0_334 (kw_X1_totalMean h) rfl (wR_rc hr rfl) rfl (Nat.le_of_ble_eq_true rfl) (Nat.le_of_ble_eq_true rfl) (Nat.le_of_ble_eq_true rfl) (Nat.le_of_ble_eq_true rfl) (Nat.le_of_ble_eq_true rfl) (fun _ _ _ hx => kx_out rfl (hX _ _ _ hx)) (fun v_ σ29581 hq => ?_)
      obtain ⟨v29580, rfl, h⟩ := hq
      refine kW_f2d dL_law_3077 h (fun v29582 h => ?_)
      refine kx_dstore dL_law_3078 (Nat.le_of_ble_eq_true rfl) ?_
      refine kx_aload_n dL_law_3080 rfl rfl ?_
      refine kW_MF dL_law_3081 lk_X0_338 (fun hd_ h_ => mM_totalMean hd_ h_) rfl rfl (Nat.le_of_ble_eq_true rfl) (Nat.le_of_ble_eq_true rfl) (Nat.le_of_ble_eq_true rfl) h (fun v29583 σ29584 h => ?_)
      refine kW_f2d dL_law_3084 h (fun v29585 h => ?_)
      refine kx_dstore dL_law_3085 (Nat.le_of_ble_eq_true rfl) ?_
      refine kx_dload dL_law_3087 rfl ?_
      refine kx_dload dL_law_3089 rfl ?_
      refine kx_dcmp dL_law_3091 ?_
      refine kx_if_eq (tgt := 3113) dL_law_3092 (by decide) (fun c => ?_) (fun c => ?_)
      · have h := w_ift c h
        refine kx_goto (tgt := 3375) dL_law_3113 (by decide) ?_
        refine kx_iinc2 (v := 7) dL_law_3375 rfl (by decide) ?_
        refine kx_goto (tgt := 28) dL_law_3378 (by decide) ?_
        exact kx_lwF [(0, .ref (a29001)), (1, .ref (q1)), (2, .ref (q7)), (3, .ref (q13)), (4, .ref (q16)), (5, .int ((l5 + (7 : Int32))))] ⟨rfl, rfl, rfl, rfl, rfl, rfl, trivial⟩ (hI28 _ _ _ _ h)
      · have h := w_iff c h
        refine kx_dload dL_law_3095 rfl ?_
        refine kx_dload dL_law_3097 rfl ?_
        refine kx_dcmp dL_law_3099 ?_
        refine kx_if_eq (tgt := 3111) dL_law_3100 (by decide) (fun c => ?_) (fun c => ?_)
        · have h := w_ift c h
          refine kx_iconst (v := 0) dL_law_3111 (by decide) ?_
          exact kx_zret dL_law_3112 rfl rfl (hQ _ _ ⟨_, rfl, h⟩)
        · have h := w_iff c h
          refine kx_dload dL_law_3103 rfl ?_
          refine kx_dload dL_law_3105 rfl ?_
          refine kx_dcmp dL_law_3107 ?_
          refine kx_if_ne (tgt := 3113) dL_law_3108 (by decide) (fun c => ?_) (fun c => ?_)
          · have h := w_iff c h
            refine kx_goto (tgt := 3375) dL_law_3113 (by decide) ?_
            refine kx_iinc2 (v := 7) dL_law_3375 rfl (by decide) ?_
            refine kx_goto (tgt := 28) dL_law_3378 (by decide) ?_
            exact kx_lwF [(0, .ref (a29001)), (1, .ref (q1)), (2, .ref (q7)), (3, .ref (q13)), (4, .ref (q16)), (5, .int ((l5 + (7 : Int32))))] ⟨rfl, rfl, rfl, rfl, rfl, rfl, trivial⟩ (hI28 _ _ _ _ h)
          · have h := w_ift c h
            refine kx_iconst (v := 0) dL_law_3111 (by decide) ?_
            exact kx_zret dL_law_3112 rfl rfl (hQ _ _ ⟨_, rfl, h⟩)
    have h := w_iff c48 h
    by_cases c49 : (v29003 &&& (63 : Int32)) = (49 : Int32)
    · have h := w_ift c49 h
      refine kx_tableIn (tgt := 3116) dL_law_45 (by rw [c49]; decide) (by rw [c49]; decide) (by rw [c49]; rfl) (by decide) ?_
      refine kx_aload_n dL_law_3116 rfl rfl ?_
      refine kx_aload_n dL_law_3117 rfl rfl ?_
      refine kx_iload dL_law_3118 rfl ?_
      refine kx_iconst (v := 1) dL_law_3120 (by decide) ?_
      refine kx_iadd dL_law_3121 ?_
      refine kW_lI dL_law_3122 h (fun v29586 h => ?_)
      refine kx_aload_n dL_law_3123 rfl rfl ?_
      refine kx_iload dL_law_3124 rfl ?_
      refine kx_iconst (v := 2) dL_law_3126 (by decide) ?_
      refine kx_iadd dL_law_3127 ?_
      refine kW_lI dL_law_3128 h (fun v29587 h => ?_)
      refine kx_aload dL_law_3129 rfl ?_
      obtain ⟨c29590, c29591, hc, hs, h⟩ := h
      refine kx_callSX dL_law_3131 lk_X0_339 (kw_X0_loadSample h) rfl rfl (Nat.le_of_ble_eq_true rfl) (Nat.le_of_ble_eq_true rfl) (Nat.le_of_ble_eq_true rfl) hc hs (fun _ _ _ hx => kx_out rfl (hX _ _ _ hx)) (fun v_ σ29589 hq => ?_)
      obtain ⟨v29588, rfl, h⟩ := hq
      refine kx_istore dL_law_3134 (Nat.le_of_ble_eq_true rfl) ?_
      refine kx_aload_n dL_law_3136 rfl rfl ?_
      refine kx_aload_n dL_law_3137 rfl rfl ?_
      refine kx_iload dL_law_3138 rfl ?_
      refine kx_iconst (v := 1) dL_law_3140 (by decide) ?_
      refine kx_iadd dL_law_3141 ?_
      refine kW_lI dL_law_3142 h (fun v29592 h => ?_)
      refine kx_aload_n dL_law_3143 rfl rfl ?_
      refine kx_iload dL_law_3144 rfl ?_
      refine kx_iconst (v := 2) dL_law_3146 (by decide) ?_
      refine kx_iadd dL_law_3147 ?_
      refine kW_lI dL_law_3148 h (fun v29593 h => ?_)
      refine kW_MF dL_law_3149 lk_X0_341 (fun hd_ h_ => mM_loadSample hd_ h_) rfl rfl (Nat.le_of_ble_eq_true rfl) (Nat.le_of_ble_eq_true rfl) (Nat.le_of_ble_eq_true rfl) h (fun v29594 σ29595 h => ?_)
      refine kx_fstore dL_law_3152 (Nat.le_of_ble_eq_true rfl) ?_
      refine kx_aload_n dL_law_3154 rfl rfl ?_
      refine kW_MI dL_law_3155 lk_X0_172 (fun hd_ h_ => mM_thrown hd_ h_) rfl rfl (Nat.le_of_ble_eq_true rfl) (Nat.le_of_ble_eq_true rfl) (Nat.le_of_ble_eq_true rfl) h (fun v29596 σ29597 h => ?_)
      refine kx_iload dL_law_3158 rfl ?_
      refine kx_icmp_eq (tgt := 3165) dL_law_3160 (by decide) (fun c => ?_) (fun c => ?_)
      · have h := w_ift c h
        refine kx_iload dL_law_3165 rfl ?_
        refine kx_if_ne (tgt := 3203) dL_law_3167 (by decide) (fun c => ?_) (fun c => ?_)
        · have h := w_iff c h
          refine kx_goto (tgt := 3375) dL_law_3203 (by decide) ?_
          refine kx_iinc2 (v := 7) dL_law_3375 rfl (by decide) ?_
          refine kx_goto (tgt := 28) dL_law_3378 (by decide) ?_
          exact kx_lwF [(0, .ref (a29001)), (1, .ref (q1)), (2, .ref (q7)), (3, .ref (q13)), (4, .ref (q16)), (5, .int ((l5 + (7 : Int32))))] ⟨rfl, rfl, rfl, rfl, rfl, rfl, trivial⟩ (hI28 _ _ _ _ h)
        · have h := w_ift c h
          refine kx_aload dL_law_3170 rfl ?_
          refine kx_iconst (v := 0) dL_law_3172 (by decide) ?_
          refine kW_lD dL_law_3173 h (fun v29598 h => ?_)
          refine kx_fload dL_law_3174 rfl ?_
          refine kW_f2d dL_law_3176 h (fun v29599 h => ?_)
          refine kx_dcmp dL_law_3177 ?_
          refine kx_if_eq (tgt := 3203) dL_law_3178 (by decide) (fun c => ?_) (fun c => ?_)
          · have h := w_ift c h
            refine kx_goto (tgt := 3375) dL_law_3203 (by decide) ?_
            refine kx_iinc2 (v := 7) dL_law_3375 rfl (by decide) ?_
            refine kx_goto (tgt := 28) dL_law_3378 (by decide) ?_
            exact kx_lwF [(0, .ref (a29001)), (1, .ref (q1)), (2, .ref (q7)), (3, .ref (q13)), (4, .ref (q16)), (5, .int ((l5 + (7 : Int32))))] ⟨rfl, rfl, rfl, rfl, rfl, rfl, trivial⟩ (hI28 _ _ _ _ h)
          · have h := w_iff c h
            refine kx_aload dL_law_3181 rfl ?_
            refine kx_iconst (v := 0) dL_law_3183 (by decide) ?_
            refine kW_lD dL_law_3184 h (fun v29600 h => ?_)
            refine kx_aload dL_law_3185 rfl ?_
            refine kx_iconst (v := 0) dL_law_3187 (by decide) ?_
            refine kW_lD dL_law_3188 h (fun v29601 h => ?_)
            refine kx_dcmp dL_law_3189 ?_
            refine kx_if_eq (tgt := 3201) dL_law_3190 (by decide) (fun c => ?_) (fun c => ?_)
            · have h := w_ift c h
              refine kx_iconst (v := 0) dL_law_3201 (by decide) ?_
              exact kx_zret dL_law_3202 rfl rfl (hQ _ _ ⟨_, rfl, h⟩)
            · have h := w_iff c h
              refine kx_fload dL_law_3193 rfl ?_
              refine kx_fload dL_law_3195 rfl ?_
              refine kx_fcmp dL_law_3197 ?_
              refine kx_if_ne (tgt := 3203) dL_law_3198 (by decide) (fun c => ?_) (fun c => ?_)
              · have h := w_iff c h
                refine kx_goto (tgt := 3375) dL_law_3203 (by decide) ?_
                refine kx_iinc2 (v := 7) dL_law_3375 rfl (by decide) ?_
                refine kx_goto (tgt := 28) dL_law_3378 (by decide) ?_
                exact kx_lwF [(0, .ref (a29001)), (1, .ref (q1)), (2, .ref (q7)), (3, .ref (q13)), (4, .ref (q16)), (5, .int ((l5 + (7 : Int32))))] ⟨rfl, rfl, rfl, rfl, rfl, rfl, trivial⟩ (hI28 _ _ _ _ h)
              · have h := w_ift c h
                refine kx_iconst (v := 0) dL_law_3201 (by decide) ?_
                exact kx_zret dL_law_3202 rfl rfl (hQ _ _ ⟨_, rfl, h⟩)
      · have h := w_iff c h
        refine kx_iconst (v := 0) dL_law_3163 (by decide) ?_
        exact kx_zret dL_law_3164 rfl rfl (hQ _ _ ⟨_, rfl, h⟩)
    have h := w_iff c49 h
    by_cases c50 : (v29003 &&& (63 : Int32)) = (50 : Int32)
    · have h := w_ift c50 h
      refine kx_tableIn (tgt := 3206) dL_law_45 (by rw [c50]; decide) (by rw [c50]; decide) (by rw [c50]; rfl) (by decide) ?_
      refine kx_aload_n dL_law_3206 rfl rfl ?_
      refine kx_aload_n dL_law_3207 rfl rfl ?_
      obtain ⟨c29604, c29605, hc, hs, h⟩ := h
      refine kx_callSX dL_law_3208 lk_X0_342 (kw_X0_undo h) rfl rfl (Nat.le_of_ble_eq_true rfl) (Nat.le_of_ble_eq_true rfl) (Nat.le_of_ble_eq_true rfl) hc hs (fun _ _ _ hx => kx_out rfl (hX _ _ _ hx)) (fun v_ σ29603 hq => ?_)
      obtain ⟨v29602, rfl, h⟩ := hq
      refine kx_istore dL_law_3211 (Nat.le_of_ble_eq_true rfl) ?_
      refine kx_aload_n dL_law_3213 rfl rfl ?_
      refine kW_MI dL_law_3214 lk_X0_345 (fun hd_ h_ => mM_undo hd_ h_) rfl rfl (Nat.le_of_ble_eq_true rfl) (Nat.le_of_ble_eq_true rfl) (Nat.le_of_ble_eq_true rfl) h (fun v29606 σ29607 h => ?_)
      refine kx_istore dL_law_3217 (Nat.le_of_ble_eq_true rfl) ?_
      refine kx_aload_n dL_law_3219 rfl rfl ?_
      refine kW_MI dL_law_3220 lk_X0_172 (fun hd_ h_ => mM_thrown hd_ h_) rfl rfl (Nat.le_of_ble_eq_true rfl) (Nat.le_of_ble_eq_true rfl) (Nat.le_of_ble_eq_true rfl) h (fun v29608 σ29609 h => ?_)
      refine kx_iload dL_law_3223 rfl ?_
      refine kx_icmp_eq (tgt := 3230) dL_law_3225 (by decide) (fun c => ?_) (fun c => ?_)
      · have h := w_ift c h
        refine kx_iload dL_law_3230 rfl ?_
        refine kx_if_ne (tgt := 3247) dL_law_3232 (by decide) (fun c => ?_) (fun c => ?_)
        · have h := w_iff c h
          refine kx_goto (tgt := 3375) dL_law_3247 (by decide) ?_
          refine kx_iinc2 (v := 7) dL_law_3375 rfl (by decide) ?_
          refine kx_goto (tgt := 28) dL_law_3378 (by decide) ?_
          exact kx_lwF [(0, .ref (a29001)), (1, .ref (q1)), (2, .ref (q7)), (3, .ref (q13)), (4, .ref (q16)), (5, .int ((l5 + (7 : Int32))))] ⟨rfl, rfl, rfl, rfl, rfl, rfl, trivial⟩ (hI28 _ _ _ _ h)
        · have h := w_ift c h
          refine kx_aload_n dL_law_3235 rfl rfl ?_
          refine kx_iconst (v := 0) dL_law_3236 (by decide) ?_
          refine kW_lJ dL_law_3237 h (fun v29610 h => ?_)
          refine kx_iload dL_law_3238 rfl ?_
          refine kx_i2l dL_law_3240 rfl ?_
          refine kx_lcmp dL_law_3241 ?_
          refine kx_if_eq (tgt := 3247) dL_law_3242 (by decide) (fun c => ?_) (fun c => ?_)
          · have h := w_ift c h
            refine kx_goto (tgt := 3375) dL_law_3247 (by decide) ?_
            refine kx_iinc2 (v := 7) dL_law_3375 rfl (by decide) ?_
            refine kx_goto (tgt := 28) dL_law_3378 (by decide) ?_
            exact kx_lwF [(0, .ref (a29001)), (1, .ref (q1)), (2, .ref (q7)), (3, .ref (q13)), (4, .ref (q16)), (5, .int ((l5 + (7 : Int32))))] ⟨rfl, rfl, rfl, rfl, rfl, rfl, trivial⟩ (hI28 _ _ _ _ h)
          · have h := w_iff c h
            refine kx_iconst (v := 0) dL_law_3245 (by decide) ?_
            exact kx_zret dL_law_3246 rfl rfl (hQ _ _ ⟨_, rfl, h⟩)
      · have h := w_iff c h
        refine kx_iconst (v := 0) dL_law_3228 (by decide) ?_
        exact kx_zret dL_law_3229 rfl rfl (hQ _ _ ⟨_, rfl, h⟩)
    have h := w_iff c50 h
    by_cases c51 : (v29003 &&& (63 : Int32)) = (51 : Int32)
    · have h := w_ift c51 h
      refine kx_tableIn (tgt := 3250) dL_law_45 (by rw [c51]; decide) (by rw [c51]; decide) (by rw [c51]; rfl) (by decide) ?_
      refine kx_aload_n dL_law_3250 rfl rfl ?_
      obtain ⟨hr, h⟩ := h
      refine kx_callV dL_law_3251 lk_X0_346 (kw_X1_undoCount h) rfl (wR_rc hr rfl) rfl (Nat.le_of_ble_eq_true rfl) (Nat.le_of_ble_eq_true rfl) (Nat.le_of_ble_eq_true rfl) (Nat.le_of_ble_eq_true rfl) (Nat.le_of_ble_eq_true rfl) (fun _ _ _ hx => kx_out rfl (hX _ _ _ hx)) (fun v_ σ29612 hq => ?_)
      obtain ⟨v29611, rfl, h⟩ := hq
      refine kx_aload_n dL_law_3254 rfl rfl ?_
      refine kW_MI dL_law_3255 lk_X0_349 (fun hd_ h_ => mM_undoCount hd_ h_) rfl rfl (Nat.le_of_ble_eq_true rfl) (Nat.le_of_ble_eq_true rfl) (Nat.le_of_ble_eq_true rfl) h (fun v29613 σ29614 h => ?_)
      refine kx_icmp_eq (tgt := 3375) dL_law_3258 (by decide) (fun c => ?_) (fun c => ?_)
      · have h := w_ift c h
        refine kx_iinc2 (v := 7) dL_law_3375 rfl (by decide) ?_
        refine kx_goto (tgt := 28) dL_law_3378 (by decide) ?_
        exact kx_lwF [(0, .ref (a29001)), (1, .ref (q1)), (2, .ref (q7)), (3, .ref (q13)), (4, .ref (q16)), (5, .int ((l5 + (7 : Int32))))] ⟨rfl, rfl, rfl, rfl, rfl, rfl, trivial⟩ (hI28 _ _ _ _ h)
      · have h := w_iff c h
        refine kx_iconst (v := 0) dL_law_3261 (by decide) ?_
        exact kx_zret dL_law_3262 rfl rfl (hQ _ _ ⟨_, rfl, h⟩)
    have h := w_iff c51 h
    by_cases c52 : (v29003 &&& (63 : Int32)) = (52 : Int32)
    · have h := w_ift c52 h
      refine kx_tableIn (tgt := 3263) dL_law_45 (by rw [c52]; decide) (by rw [c52]; decide) (by rw [c52]; rfl) (by decide) ?_
      refine kx_aload_n dL_law_3263 rfl rfl ?_
      refine kx_aload_n dL_law_3264 rfl rfl ?_
      refine kx_iload dL_law_3265 rfl ?_
      refine kx_iconst (v := 1) dL_law_3267 (by decide) ?_
      refine kx_iadd dL_law_3268 ?_
      refine kW_lI dL_law_3269 h (fun v29615 h => ?_)
      refine kx_aload_n dL_law_3270 rfl rfl ?_
      obtain ⟨c29618, c29619, hc, hs, h⟩ := h
      refine kx_callSX dL_law_3271 lk_X0_350 (kw_X0_writeTrip h) rfl rfl (Nat.le_of_ble_eq_true rfl) (Nat.le_of_ble_eq_true rfl) (Nat.le_of_ble_eq_true rfl) hc hs (fun _ _ _ hx => kx_out rfl (hX _ _ _ hx)) (fun v_ σ29617 hq => ?_)
      obtain ⟨v29616, rfl, h⟩ := hq
      refine kx_istore dL_law_3274 (Nat.le_of_ble_eq_true rfl) ?_
      refine kx_aload_n dL_law_3276 rfl rfl ?_
      refine kx_aload_n dL_law_3277 rfl rfl ?_
      refine kx_iload dL_law_3278 rfl ?_
      refine kx_iconst (v := 1) dL_law_3280 (by decide) ?_
      refine kx_iadd dL_law_3281 ?_
      refine kW_lI dL_law_3282 h (fun v29620 h => ?_)
      refine kW_MI dL_law_3283 lk_X0_352 (fun hd_ h_ => mM_writeTrip hd_ h_) rfl rfl (Nat.le_of_ble_eq_true rfl) (Nat.le_of_ble_eq_true rfl) (Nat.le_of_ble_eq_true rfl) h (fun v29621 σ29622 h => ?_)
      refine kx_istore dL_law_3286 (Nat.le_of_ble_eq_true rfl) ?_
      refine kx_aload_n dL_law_3288 rfl rfl ?_
      refine kW_MI dL_law_3289 lk_X0_172 (fun hd_ h_ => mM_thrown hd_ h_) rfl rfl (Nat.le_of_ble_eq_true rfl) (Nat.le_of_ble_eq_true rfl) (Nat.le_of_ble_eq_true rfl) h (fun v29623 σ29624 h => ?_)
      refine kx_iload dL_law_3292 rfl ?_
      refine kx_icmp_eq (tgt := 3299) dL_law_3294 (by decide) (fun c => ?_) (fun c => ?_)
      · have h := w_ift c h
        refine kx_iload dL_law_3299 rfl ?_
        refine kx_if_ne (tgt := 3316) dL_law_3301 (by decide) (fun c => ?_) (fun c => ?_)
        · have h := w_iff c h
          refine kx_goto (tgt := 3375) dL_law_3316 (by decide) ?_
          refine kx_iinc2 (v := 7) dL_law_3375 rfl (by decide) ?_
          refine kx_goto (tgt := 28) dL_law_3378 (by decide) ?_
          exact kx_lwF [(0, .ref (a29001)), (1, .ref (q1)), (2, .ref (q7)), (3, .ref (q13)), (4, .ref (q16)), (5, .int ((l5 + (7 : Int32))))] ⟨rfl, rfl, rfl, rfl, rfl, rfl, trivial⟩ (hI28 _ _ _ _ h)
        · have h := w_ift c h
          refine kx_aload_n dL_law_3304 rfl rfl ?_
          refine kx_iconst (v := 0) dL_law_3305 (by decide) ?_
          refine kW_lJ dL_law_3306 h (fun v29625 h => ?_)
          refine kx_iload dL_law_3307 rfl ?_
          refine kx_i2l dL_law_3309 rfl ?_
          refine kx_lcmp dL_law_3310 ?_
          refine kx_if_eq (tgt := 3316) dL_law_3311 (by decide) (fun c => ?_) (fun c => ?_)
          · have h := w_ift c h
            refine kx_goto (tgt := 3375) dL_law_3316 (by decide) ?_
            refine kx_iinc2 (v := 7) dL_law_3375 rfl (by decide) ?_
            refine kx_goto (tgt := 28) dL_law_3378 (by decide) ?_
            exact kx_lwF [(0, .ref (a29001)), (1, .ref (q1)), (2, .ref (q7)), (3, .ref (q13)), (4, .ref (q16)), (5, .int ((l5 + (7 : Int32))))] ⟨rfl, rfl, rfl, rfl, rfl, rfl, trivial⟩ (hI28 _ _ _ _ h)
          · have h := w_iff c h
            refine kx_iconst (v := 0) dL_law_3314 (by decide) ?_
            exact kx_zret dL_law_3315 rfl rfl (hQ _ _ ⟨_, rfl, h⟩)
      · have h := w_iff c h
        refine kx_iconst (v := 0) dL_law_3297 (by decide) ?_
        exact kx_zret dL_law_3298 rfl rfl (hQ _ _ ⟨_, rfl, h⟩)
    have h := w_iff c52 h
    by_cases c53 : (v29003 &&& (63 : Int32)) = (53 : Int32)
    · have h := w_ift c53 h
      refine kx_tableIn (tgt := 3319) dL_law_45 (by rw [c53]; decide) (by rw [c53]; decide) (by rw [c53]; rfl) (by decide) ?_
      refine kx_aload_n dL_law_3319 rfl rfl ?_
      refine kx_aload_n dL_law_3320 rfl rfl ?_
      refine kx_iload dL_law_3321 rfl ?_
      refine kx_iconst (v := 1) dL_law_3323 (by decide) ?_
      refine kx_iadd dL_law_3324 ?_
      refine kW_lI dL_law_3325 h (fun v29626 h => ?_)
      refine kx_aload_n dL_law_3326 rfl rfl ?_
      obtain ⟨c29629, c29630, hc, hs, h⟩ := h
      refine kx_callSX dL_law_3327 lk_X0_353 (kw_X0_outputByte h) rfl rfl (Nat.le_of_ble_eq_true rfl) (Nat.le_of_ble_eq_true rfl) (Nat.le_of_ble_eq_true rfl) hc hs (fun _ _ _ hx => kx_out rfl (hX _ _ _ hx)) (fun v_ σ29628 hq => ?_)
      obtain ⟨v29627, rfl, h⟩ := hq
      refine kx_istore dL_law_3330 (Nat.le_of_ble_eq_true rfl) ?_
      refine kx_aload_n dL_law_3332 rfl rfl ?_
      refine kx_aload_n dL_law_3333 rfl rfl ?_
      refine kx_iload dL_law_3334 rfl ?_
      refine kx_iconst (v := 1) dL_law_3336 (by decide) ?_
      refine kx_iadd dL_law_3337 ?_
      refine kW_lI dL_law_3338 h (fun v29631 h => ?_)
      refine kW_MI dL_law_3339 lk_X0_355 (fun hd_ h_ => mM_outputByte hd_ h_) rfl rfl (Nat.le_of_ble_eq_true rfl) (Nat.le_of_ble_eq_true rfl) (Nat.le_of_ble_eq_true rfl) h (fun v29632 σ29633 h => ?_)
      refine kx_istore dL_law_3342 (Nat.le_of_ble_eq_true rfl) ?_
      refine kx_aload_n dL_law_3344 rfl rfl ?_
      refine kW_MI dL_law_3345 lk_X0_172 (fun hd_ h_ => mM_thrown hd_ h_) rfl rfl (Nat.le_of_ble_eq_true rfl) (Nat.le_of_ble_eq_true rfl) (Nat.le_of_ble_eq_true rfl) h (fun v29634 σ29635 h => ?_)
      refine kx_iload dL_law_3348 rfl ?_
      refine kx_icmp_eq (tgt := 3355) dL_law_3350 (by decide) (fun c => ?_) (fun c => ?_)
      · have h := w_ift c h
        refine kx_iload dL_law_3355 rfl ?_
        refine kx_if_ne (tgt := 3372) dL_law_3357 (by decide) (fun c => ?_) (fun c => ?_)
        · have h := w_iff c h
          refine kx_goto (tgt := 3375) dL_law_3372 (by decide) ?_
          refine kx_iinc2 (v := 7) dL_law_3375 rfl (by decide) ?_
          refine kx_goto (tgt := 28) dL_law_3378 (by decide) ?_
          exact kx_lwF [(0, .ref (a29001)), (1, .ref (q1)), (2, .ref (q7)), (3, .ref (q13)), (4, .ref (q16)), (5, .int ((l5 + (7 : Int32))))] ⟨rfl, rfl, rfl, rfl, rfl, rfl, trivial⟩ (hI28 _ _ _ _ h)
        · have h := w_ift c h
          refine kx_aload_n dL_law_3360 rfl rfl ?_
          refine kx_iconst (v := 0) dL_law_3361 (by decide) ?_
          refine kW_lJ dL_law_3362 h (fun v29636 h => ?_)
          refine kx_iload dL_law_3363 rfl ?_
          refine kx_i2l dL_law_3365 rfl ?_
          refine kx_lcmp dL_law_3366 ?_
          refine kx_if_eq (tgt := 3372) dL_law_3367 (by decide) (fun c => ?_) (fun c => ?_)
          · have h := w_ift c h
            refine kx_goto (tgt := 3375) dL_law_3372 (by decide) ?_
            refine kx_iinc2 (v := 7) dL_law_3375 rfl (by decide) ?_
            refine kx_goto (tgt := 28) dL_law_3378 (by decide) ?_
            exact kx_lwF [(0, .ref (a29001)), (1, .ref (q1)), (2, .ref (q7)), (3, .ref (q13)), (4, .ref (q16)), (5, .int ((l5 + (7 : Int32))))] ⟨rfl, rfl, rfl, rfl, rfl, rfl, trivial⟩ (hI28 _ _ _ _ h)
          · have h := w_iff c h
            refine kx_iconst (v := 0) dL_law_3370 (by decide) ?_
            exact kx_zret dL_law_3371 rfl rfl (hQ _ _ ⟨_, rfl, h⟩)
      · have h := w_iff c h
        refine kx_iconst (v := 0) dL_law_3353 (by decide) ?_
        exact kx_zret dL_law_3354 rfl rfl (hQ _ _ ⟨_, rfl, h⟩)
    have h := w_iff c53 h
    refine kx_tableOut (tgt := 3375) dL_law_45 (tbN (k := 54) (lo := 0) (by decide) (by intro j hj; rcases (show j = 0 ∨ j = 1 ∨ j = 2 ∨ j = 3 ∨ j = 4 ∨ j = 5 ∨ j = 6 ∨ j = 7 ∨ j = 8 ∨ j = 9 ∨ j = 10 ∨ j = 11 ∨ j = 12 ∨ j = 13 ∨ j = 14 ∨ j = 15 ∨ j = 16 ∨ j = 17 ∨ j = 18 ∨ j = 19 ∨ j = 20 ∨ j = 21 ∨ j = 22 ∨ j = 23 ∨ j = 24 ∨ j = 25 ∨ j = 26 ∨ j = 27 ∨ j = 28 ∨ j = 29 ∨ j = 30 ∨ j = 31 ∨ j = 32 ∨ j = 33 ∨ j = 34 ∨ j = 35 ∨ j = 36 ∨ j = 37 ∨ j = 38 ∨ j = 39 ∨ j = 40 ∨ j = 41 ∨ j = 42 ∨ j = 43 ∨ j = 44 ∨ j = 45 ∨ j = 46 ∨ j = 47 ∨ j = 48 ∨ j = 49 ∨ j = 50 ∨ j = 51 ∨ j = 52 ∨ j = 53 by omega) with rfl | rfl | rfl | rfl | rfl | rfl | rfl | rfl | rfl | rfl | rfl | rfl | rfl | rfl | rfl | rfl | rfl | rfl | rfl | rfl | rfl | rfl | rfl | rfl | rfl | rfl | rfl | rfl | rfl | rfl | rfl | rfl | rfl | rfl | rfl | rfl | rfl | rfl | rfl | rfl | rfl | rfl | rfl | rfl | rfl | rfl | rfl | rfl | rfl | rfl | rfl | rfl | rfl | rfl <;> assumption)) (by decide) ?_
    refine kx_iinc2 (v := 7) dL_law_3375 rfl (by decide) ?_
    refine kx_goto (tgt := 28) dL_law_3378 (by decide) ?_
    exact kx_lwF [(0, .ref (a29001)), (1, .ref (q1)), (2, .ref (q7)), (3, .ref (q13)), (4, .ref (q16)), (5, .int ((l5 + (7 : Int32))))] ⟨rfl, rfl, rfl, rfl, rfl, rfl, trivial⟩ (hI28 _ _ _ _ h)
