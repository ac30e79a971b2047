set_option maxRecDepth 100000
def W_X1_requireArgument (G : KG) (bc bs : Nat) (σ : KHp) (x0 : Int32) (Q : KHp → Prop) (X : String → Nat → KHp → Prop) : Prop := wIf (x0 = 0) (1 ≤ bc ∧ 6 ≤ bs ∧ ∀ q, X "java/lang/IllegalArgumentException" q σ) (Q σ)
def W_X1_requireState (G : KG) (bc bs : Nat) (σ : KHp) (x0 : Int32) (Q : KHp → Prop) (X : String → Nat → KHp → Prop) : Prop := wIf (x0 = 0) (1 ≤ bc ∧ 6 ≤ bs ∧ ∀ q, X "java/lang/IllegalStateException" q σ) (Q σ)
def W_X1_requireIndex (G : KG) (bc bs : Nat) (σ : KHp) (x0 : Int32) (Q : KHp → Prop) (X : String → Nat → KHp → Prop) : Prop := wIf (x0 = 0) (1 ≤ bc ∧ 6 ≤ bs ∧ ∀ q, X "java/lang/IndexOutOfBoundsException" q σ) (Q σ)
def W_X1_requireElement (G : KG) (bc bs : Nat) (σ : KHp) (x0 : Int32) (Q : KHp → Prop) (X : String → Nat → KHp → Prop) : Prop := wIf (x0 = 0) (1 ≤ bc ∧ 6 ≤ bs ∧ ∀ q, X "java/util/NoSuchElementException" q σ) (Q σ)
def W_J20_ordinal (G : KG) (σ : KHp) (x0 : Nat) (Q : Int32 → KHp → Prop) (X : String → Nat → KHp → Prop) : Prop := ∃ t c E v, σ x0 = some (t, .inr (c, [.int v])) ∧ (100 ≤ c ∧ kx_el[c - 100]? = some E) ∧ Q v σ

def W_J0_init (G : KG) (σ : KHp) (x0 : Nat) (Q : KHp → Prop) (X : String → Nat → KHp → Prop) : Prop :=
  Q σ
def W_J1_init (G : KG) (σ : KHp) (x0 : Nat) (Q : KHp → Prop) (X : String → Nat → KHp → Prop) : Prop :=
  W_J0_init G σ x0  (fun σ2 =>
 wP σ2 x0 [16, 21] 0 (.int ((0 : Int32))) (fun σ3 =>
 Q σ3)) X
def W_J2_init (G : KG) (bc bs : Nat) (σ : KHp) (x0 : Nat) (x1 : Int32) (Q : KHp → Prop) (X : String → Nat → KHp → Prop) : Prop :=
  W_J1_init G σ x0  (fun σ2 =>
 wIf (x1 ≤ 0)
 (jn (κ := KHp → Nat → Nat → Prop) (fun σ5 bcv4 bsv4 =>
 wP σ5 x0 [16] 1 (.ref ((kx_K G 0))) (fun σ6 =>
 Q σ6)) (fun k3 =>
 wIf (x1 = 0)
 (k3 σ2 bc bs)
 (False)))
 (wNQ bc bs σ2 "java/lang/Object" x1 (fun n9 q7 σ8 =>
 wP σ8 x0 [16] 1 (.ref (q7)) (fun σ10 =>
 Q σ10)))) X
def W_J2_size (G : KG) (σ : KHp) (x0 : Nat) (Q : Int32 → KHp → Prop) (X : String → Nat → KHp → Prop) : Prop :=
  wGI σ x0 [16] 2 (fun v1 =>
 Q (v1) σ)
def W_J2_elementData (G : KG) (σ : KHp) (x0 : Nat) (x1 : Int32) (Q : Option Nat → KHp → Prop) (X : String → Nat → KHp → Prop) : Prop :=
  wGO σ x0 [16] 1 (fun v1 =>
 wU v1 (fun a2 =>
 wLO σ a2 x1 (fun v3 =>
 Q (v3) σ)))
def W_J2_rangeCheckForAdd (G : KG) (σ : KHp) (x0 : Nat) (x1 : Int32) (Q : KHp → Prop) (X : String → Nat → KHp → Prop) : Prop :=
  wGI σ x0 [16] 2 (fun v1 =>
 jn (κ := KHp → Prop) (fun σ4 =>
 wIf (0 ≤ x1)
 (Q σ4)
 (False)) (fun k2 =>
 wIf (v1 < x1)
 (False)
 (k2 σ)))
def W_J2_fastRemove (G : KG) (σ : KHp) (x0 : Nat) (x1 : Option Nat) (x2 : Int32) (Q : KHp → Prop) (X : String → Nat → KHp → Prop) : Prop :=
  wGI σ x0 [16, 21] 0 (fun v1 =>
 wP σ x0 [16, 21] 0 (.int ((v1 + (1 : Int32)))) (fun σ2 =>
 wGI σ2 x0 [16] 2 (fun v3 =>
 jn (κ := KHp → Prop) (fun σ8 =>
 wP σ8 x0 [16] 2 (.int ((v3 - (1 : Int32)))) (fun σ9 =>
 wU x1 (fun a10 =>
 wSO σ9 a10 (v3 - (1 : Int32)) none (fun σ11 =>
 Q σ11)))) (fun k4 =>
 wIf ((v3 - (1 : Int32)) ≤ x2)
 (k4 σ2)
 (wU x1 (fun a5 =>
 wCp σ2 a5 (x2 + (1 : Int32)) a5 x2 ((v3 - (1 : Int32)) - x2) (fun σ6 =>
 k4 σ6)))))))
def W_J3_init_3 (G : KG) (σ : KHp) (x0 : Nat) (x1 : Option Nat) (x2 : Option Nat) (x3 : Int32) (x4 : Int32) (Q : KHp → Prop) (X : String → Nat → KHp → Prop) : Prop :=
  wP σ x0 [6] 0 (.ref (x0)) (fun σ1 =>
 jv (wSt G 401) (fun v2 =>
 wP σ1 x0 [6] 1 (va_rf (v2)) (fun σ3 =>
 jv (wSt G 402) (fun v4 =>
 wP σ3 x0 [6] 2 (va_rf (v4)) (fun σ5 =>
 jn (κ := KHp → Prop) (fun σ9 =>
 wP σ9 x0 [6] 3 (va_rf (x1)) (fun σ10 =>
 wP σ10 x0 [6] 0 (va_rf (x2)) (fun σ11 =>
 wIf (x3 = 0)
 (wP σ11 x0 [6] 2 (.null) (fun σ12 =>
 Q σ12))
 (Q σ11)))) (fun k6 =>
 wIf (x4 = 0)
 (wP σ5 x0 [6] 1 (.null) (fun σ7 =>
 k6 σ7))
 (False)))))))
def W_J4_init_2 (G : KG) (σ : KHp) (x0 : Nat) (x1 : Option Nat) (x2 : Option Nat) (x3 : Int32) (x4 : Int32) (Q : KHp → Prop) (X : String → Nat → KHp → Prop) : Prop :=
  W_J3_init_3 G σ x0 (x1) (x2) (x3) (x4) (fun σ2 =>
 Q σ2) X
def W_J7_isLatin1 (G : KG) (σ : KHp) (x0 : Nat) (Q : Int32 → KHp → Prop) (X : String → Nat → KHp → Prop) : Prop :=
  jn (κ := Int32 → KHp → Prop) (fun v3 σ4 =>
 (narrow .boolean (.int v3) = .int v3 ∧ Q (v3) σ4)) (fun k1 =>
 wIf ((1 : Int32) = 0)
 (k1 (0 : Int32) σ)
 (wGI σ x0 [19] 1 (fun v2 =>
 wIf (v2 = 0)
 (k1 (1 : Int32) σ)
 (k1 (0 : Int32) σ))))
def W_J7_getValue (G : KG) (σ : KHp) (x0 : Nat) (Q : Option Nat → KHp → Prop) (X : String → Nat → KHp → Prop) : Prop :=
  wGO σ x0 [19] 0 (fun v1 =>
 Q (v1) σ)
def W_J7_length (G : KG) (σ : KHp) (x0 : Nat) (Q : Int32 → KHp → Prop) (X : String → Nat → KHp → Prop) : Prop :=
  wGI σ x0 [19] 3 (fun v1 =>
 Q (v1) σ)
def W_J8_length (G : KG) (σ : KHp) (x0 : Nat) (Q : Int32 → KHp → Prop) (X : String → Nat → KHp → Prop) : Prop :=
  (wR σ x0 19 ∧
 W_J7_length G σ x0  (fun v1 σ2 =>
 Q (v1) σ2) X)
def W_J9_coder (G : KG) (σ : KHp) (x0 : Nat) (Q : Int32 → KHp → Prop) (X : String → Nat → KHp → Prop) : Prop :=
  jn (κ := Int32 → KHp → Prop) (fun v3 σ4 =>
 (narrow .byte (.int v3) = .int v3 ∧ Q (v3) σ4)) (fun k1 =>
 wIf ((1 : Int32) = 0)
 (k1 (1 : Int32) σ)
 (wGI σ x0 [20] 1 (fun v2 =>
 k1 v2 σ)))
def W_J9_isLatin1 (G : KG) (σ : KHp) (x0 : Nat) (Q : Int32 → KHp → Prop) (X : String → Nat → KHp → Prop) : Prop :=
  jn (κ := Int32 → KHp → Prop) (fun v3 σ4 =>
 (narrow .boolean (.int v3) = .int v3 ∧ Q (v3) σ4)) (fun k1 =>
 wIf ((1 : Int32) = 0)
 (k1 (0 : Int32) σ)
 (wGI σ x0 [20] 1 (fun v2 =>
 wIf (v2 = 0)
 (k1 (1 : Int32) σ)
 (k1 (0 : Int32) σ))))
def W_J10_newBytesLength (G : KG) (σ : KHp) (x0 : Int32) (Q : Int32 → KHp → Prop) (X : String → Nat → KHp → Prop) : Prop :=
  wIf (0 ≤ x0)
 (wIf (x0 < (1073741823 : Int32))
 (Q ((x0 <<< ((1 : Int32) &&& 31))) σ)
 (False))
 (False)
def W_J10_length (G : KG) (σ : KHp) (x0 : Option Nat) (Q : Int32 → KHp → Prop) (X : String → Nat → KHp → Prop) : Prop :=
  wU x0 (fun a1 =>
 wLen σ a1 (fun v2 =>
 Q ((v2 >>> ((1 : Int32) &&& 31))) σ))
def W_J10_putChar (G : KG) (σ : KHp) (x0 : Option Nat) (x1 : Int32) (x2 : Int32) (Q : KHp → Prop) (X : String → Nat → KHp → Prop) : Prop :=
  wIf ((1 : Int32) = 0)
 (jn (κ := KHp → Prop) (fun σ6 =>
 W_J10_length G σ6  (x0) (fun v7 σ8 =>
 wIf (x1 < v7)
 (wU x0 (fun a9 =>
 wSB σ8 a9 (x1 <<< ((1 : Int32) &&& 31)) ((((x2 >>> ((0 : Int32) &&& 31))).toInt8.toInt32)) (fun σ10 =>
 wSB σ10 a9 ((x1 <<< ((1 : Int32) &&& 31)) + (1 : Int32)) ((((x2 >>> ((8 : Int32) &&& 31))).toInt8.toInt32)) (fun σ11 =>
 Q σ11))))
 (False)) X) (fun k4 =>
 wIf (x1 < 0)
 (False)
 (k4 σ)))
 (wU x0 (fun a1 =>
 wSB σ a1 (x1 <<< ((1 : Int32) &&& 31)) ((((x2 >>> ((0 : Int32) &&& 31))).toInt8.toInt32)) (fun σ2 =>
 wSB σ2 a1 ((x1 <<< ((1 : Int32) &&& 31)) + (1 : Int32)) ((((x2 >>> ((8 : Int32) &&& 31))).toInt8.toInt32)) (fun σ3 =>
 Q σ3))))
def WB_J10_getChars_2_22 (G : KG) (Q : Int32 → KHp → Prop) (X : String → Nat → KHp → Prop)  (y2 : Option Nat)  (y6 : Int32) (kI22 : KHp → Int32 → Int32 → Prop) (σ : KHp) (l0 : Int32) (l5 : Int32) : Prop :=
  wIf ((-100 : Int32) < l0)
 (wLB σ (kx_K G 2) (-l0) (fun v23001 =>
 W_J10_putChar G σ  (y2) ((l5 + (-1 : Int32))) (v23001) (fun σ23003 =>
 wIf ((-9 : Int32) ≤ l0)
 (wIf (y6 = 0)
 (Q ((l5 + (-1 : Int32))) σ23003)
 (W_J10_putChar G σ23003  (y2) (((l5 + (-1 : Int32)) + (-1 : Int32))) ((45 : Int32)) (fun σ23005 =>
 Q (((l5 + (-1 : Int32)) + (-1 : Int32))) σ23005) X))
 (wLB σ23003 (kx_K G 3) (-l0) (fun v23006 =>
 W_J10_putChar G σ23003  (y2) (((l5 + (-1 : Int32)) + (-1 : Int32))) (v23006) (fun σ23008 =>
 wIf (y6 = 0)
 (Q (((l5 + (-1 : Int32)) + (-1 : Int32))) σ23008)
 (W_J10_putChar G σ23008  (y2) ((((l5 + (-1 : Int32)) + (-1 : Int32)) + (-1 : Int32))) ((45 : Int32)) (fun σ23010 =>
 Q ((((l5 + (-1 : Int32)) + (-1 : Int32)) + (-1 : Int32))) σ23010) X)) X))) X))
 ((¬ (100 : Int32) = 0 ∧
 wLB σ (kx_K G 2) (((l0 / (100 : Int32)) * (100 : Int32)) - l0) (fun v23011 =>
 W_J10_putChar G σ  (y2) ((l5 + (-1 : Int32))) (v23011) (fun σ23013 =>
 wLB σ23013 (kx_K G 3) (((l0 / (100 : Int32)) * (100 : Int32)) - l0) (fun v23014 =>
 W_J10_putChar G σ23013  (y2) (((l5 + (-1 : Int32)) + (-1 : Int32))) (v23014) (fun σ23016 =>
 kI22 σ23016 (l0 / (100 : Int32)) ((l5 + (-1 : Int32)) + (-1 : Int32))) X)) X)))
def W_J10_getChars_2 (G : KG) (σ : KHp) (x0 : Int32) (x1 : Int32) (x2 : Option Nat) (Q : Int32 → KHp → Prop) (X : String → Nat → KHp → Prop) : Prop :=
  jn (κ := Int32 → KHp → Prop) (fun v2 σ3 =>
 wIf (v2 = 0)
 (loopW2 (WB_J10_getChars_2_22 G Q X  x2 v2) 9000 σ3 (-x0) x1)
 (loopW2 (WB_J10_getChars_2_22 G Q X  x2 v2) 9000 σ3 x0 x1)) (fun k1 =>
 wIf (0 ≤ x0)
 (k1 (0 : Int32) σ)
 (k1 (1 : Int32) σ))
def W_J10_getChar (G : KG) (σ : KHp) (x0 : Option Nat) (x1 : Int32) (Q : Int32 → KHp → Prop) (X : String → Nat → KHp → Prop) : Prop :=
  wIf ((1 : Int32) = 0)
 (jn (κ := KHp → Prop) (fun σ6 =>
 W_J10_length G σ6  (x0) (fun v7 σ8 =>
 wIf (x1 < v7)
 (wU x0 (fun a9 =>
 wLB σ8 a9 (x1 <<< ((1 : Int32) &&& 31)) (fun v10 =>
 wLB σ8 a9 ((x1 <<< ((1 : Int32) &&& 31)) + (1 : Int32)) (fun v11 =>
 (narrow .char (.int ((((((v10 &&& (255 : Int32)) <<< ((0 : Int32) &&& 31)) ||| ((v11 &&& (255 : Int32)) <<< ((8 : Int32) &&& 31)))).toUInt32 % 65536).toInt32)) = .int ((((((v10 &&& (255 : Int32)) <<< ((0 : Int32) &&& 31)) ||| ((v11 &&& (255 : Int32)) <<< ((8 : Int32) &&& 31)))).toUInt32 % 65536).toInt32) ∧ Q (((((((v10 &&& (255 : Int32)) <<< ((0 : Int32) &&& 31)) ||| ((v11 &&& (255 : Int32)) <<< ((8 : Int32) &&& 31)))).toUInt32 % 65536).toInt32)) σ8)))))
 (False)) X) (fun k4 =>
 wIf (x1 < 0)
 (False)
 (k4 σ)))
 (wU x0 (fun a1 =>
 wLB σ a1 (x1 <<< ((1 : Int32) &&& 31)) (fun v2 =>
 wLB σ a1 ((x1 <<< ((1 : Int32) &&& 31)) + (1 : Int32)) (fun v3 =>
 (narrow .char (.int ((((((v2 &&& (255 : Int32)) <<< ((0 : Int32) &&& 31)) ||| ((v3 &&& (255 : Int32)) <<< ((8 : Int32) &&& 31)))).toUInt32 % 65536).toInt32)) = .int ((((((v2 &&& (255 : Int32)) <<< ((0 : Int32) &&& 31)) ||| ((v3 &&& (255 : Int32)) <<< ((8 : Int32) &&& 31)))).toUInt32 % 65536).toInt32) ∧ Q (((((((v2 &&& (255 : Int32)) <<< ((0 : Int32) &&& 31)) ||| ((v3 &&& (255 : Int32)) <<< ((8 : Int32) &&& 31)))).toUInt32 % 65536).toInt32)) σ)))))
def W_J10_coderFromArrayLen (G : KG) (σ : KHp) (x0 : Option Nat) (x1 : Int32) (Q : Int32 → KHp → Prop) (X : String → Nat → KHp → Prop) : Prop :=
  wU x0 (fun a1 =>
 wLen σ a1 (fun v2 =>
 (narrow .byte (.int (((((x1 - v2)).toUInt32 >>> (((31 : Int32)).toUInt32 &&& Int32.toUInt32 31)).toInt32).toInt8.toInt32)) = .int (((((x1 - v2)).toUInt32 >>> (((31 : Int32)).toUInt32 &&& Int32.toUInt32 31)).toInt32).toInt8.toInt32) ∧ Q ((((((x1 - v2)).toUInt32 >>> (((31 : Int32)).toUInt32 &&& Int32.toUInt32 31)).toInt32).toInt8.toInt32)) σ)))
def WB_J11_signedHashCode_8 (G : KG) (Q : Int32 → KHp → Prop) (X : String → Nat → KHp → Prop)  (y1 : Option Nat)  (y4 : Int32) (kI8 : KHp → Int32 → Int32 → Prop) (σ : KHp) (l0 : Int32) (l5 : Int32) : Prop :=
  wIf (y4 ≤ l5)
 (Q (l0) σ)
 (wU y1 (fun a9001 =>
 wLB σ a9001 l5 (fun v9002 =>
 kI8 σ (((31 : Int32) * l0) + (v9002 &&& (255 : Int32))) (l5 + (1 : Int32)))))
def W_J11_signedHashCode (G : KG) (σ : KHp) (x0 : Int32) (x1 : Option Nat) (x2 : Int32) (x3 : Int32) (Q : Int32 → KHp → Prop) (X : String → Nat → KHp → Prop) : Prop :=
  loopW2 (WB_J11_signedHashCode_8 G Q X  x1 (x2 + x3)) 9000 σ x0 x2
def WB_J11_utf16hashCode_8 (G : KG) (Q : Int32 → KHp → Prop) (X : String → Nat → KHp → Prop)  (y1 : Option Nat)  (y4 : Int32) (kI8 : KHp → Int32 → Int32 → Prop) (σ : KHp) (l0 : Int32) (l5 : Int32) : Prop :=
  wIf (y4 ≤ l5)
 (Q (l0) σ)
 (False)
def W_J11_utf16hashCode (G : KG) (σ : KHp) (x0 : Int32) (x1 : Option Nat) (x2 : Int32) (x3 : Int32) (Q : Int32 → KHp → Prop) (X : String → Nat → KHp → Prop) : Prop :=
  loopW2 (WB_J11_utf16hashCode_8 G Q X  x1 (x2 + x3)) 9000 σ x0 x2
def WB_J11_hashCode_8 (G : KG) (Q : Int32 → KHp → Prop) (X : String → Nat → KHp → Prop)  (y1 : Option Nat)  (y4 : Int32) (kI8 : KHp → Int32 → Int32 → Prop) (σ : KHp) (l0 : Int32) (l5 : Int32) : Prop :=
  wIf (y4 ≤ l5)
 (Q (l0) σ)
 (False)
def W_J11_hashCode (G : KG) (σ : KHp) (x0 : Int32) (x1 : Option Nat) (x2 : Int32) (x3 : Int32) (Q : Int32 → KHp → Prop) (X : String → Nat → KHp → Prop) : Prop :=
  loopW2 (WB_J11_hashCode_8 G Q X  x1 (x2 + x3)) 9000 σ x0 x2
def WB_J11_hashCode_2_8 (G : KG) (Q : Int32 → KHp → Prop) (X : String → Nat → KHp → Prop)  (y1 : Option Nat)  (y4 : Int32) (kI8 : KHp → Int32 → Int32 → Prop) (σ : KHp) (l0 : Int32) (l5 : Int32) : Prop :=
  wIf (y4 ≤ l5)
 (Q (l0) σ)
 (wU y1 (fun a9001 =>
 wLB σ a9001 l5 (fun v9002 =>
 kI8 σ (((31 : Int32) * l0) + v9002) (l5 + (1 : Int32)))))
def W_J11_hashCode_2 (G : KG) (σ : KHp) (x0 : Int32) (x1 : Option Nat) (x2 : Int32) (x3 : Int32) (Q : Int32 → KHp → Prop) (X : String → Nat → KHp → Prop) : Prop :=
  loopW2 (WB_J11_hashCode_2_8 G Q X  x1 (x2 + x3)) 9000 σ x0 x2
def WB_J11_hashCode_3_8 (G : KG) (Q : Int32 → KHp → Prop) (X : String → Nat → KHp → Prop)  (y1 : Option Nat)  (y4 : Int32) (kI8 : KHp → Int32 → Int32 → Prop) (σ : KHp) (l0 : Int32) (l5 : Int32) : Prop :=
  wIf (y4 ≤ l5)
 (Q (l0) σ)
 (False)
def W_J11_hashCode_3 (G : KG) (σ : KHp) (x0 : Int32) (x1 : Option Nat) (x2 : Int32) (x3 : Int32) (Q : Int32 → KHp → Prop) (X : String → Nat → KHp → Prop) : Prop :=
  loopW2 (WB_J11_hashCode_3_8 G Q X  x1 (x2 + x3)) 9000 σ x0 x2
def WB_J11_hashCode_4_8 (G : KG) (Q : Int32 → KHp → Prop) (X : String → Nat → KHp → Prop)  (y1 : Option Nat)  (y4 : Int32) (kI8 : KHp → Int32 → Int32 → Prop) (σ : KHp) (l0 : Int32) (l5 : Int32) : Prop :=
  wIf (y4 ≤ l5)
 (Q (l0) σ)
 (wU y1 (fun a9001 =>
 wLI σ a9001 l5 (fun v9002 =>
 kI8 σ (((31 : Int32) * l0) + v9002) (l5 + (1 : Int32)))))
def W_J11_hashCode_4 (G : KG) (σ : KHp) (x0 : Int32) (x1 : Option Nat) (x2 : Int32) (x3 : Int32) (Q : Int32 → KHp → Prop) (X : String → Nat → KHp → Prop) : Prop :=
  loopW2 (WB_J11_hashCode_4_8 G Q X  x1 (x2 + x3)) 9000 σ x0 x2
def W_J12_max (G : KG) (σ : KHp) (x0 : Int32) (x1 : Int32) (Q : Int32 → KHp → Prop) (X : String → Nat → KHp → Prop) : Prop :=
  jn (κ := Int32 → KHp → Prop) (fun v2 σ3 =>
 Q (v2) σ3) (fun k1 =>
 wIf (x0 < x1)
 (k1 x1 σ)
 (k1 x0 σ))
def W_J12_min (G : KG) (σ : KHp) (x0 : Int32) (x1 : Int32) (Q : Int32 → KHp → Prop) (X : String → Nat → KHp → Prop) : Prop :=
  jn (κ := Int32 → KHp → Prop) (fun v2 σ3 =>
 Q (v2) σ3) (fun k1 =>
 wIf (x1 < x0)
 (k1 x1 σ)
 (k1 x0 σ))
def W_J13_copyOf (G : KG) (bc bs : Nat) (σ : KHp) (x0 : Option Nat) (x1 : Int32) (Q : Option Nat → KHp → Prop) (X : String → Nat → KHp → Prop) : Prop :=
  wU x0 (fun a1 =>
 wLen σ a1 (fun v2 =>
 wIf (x1 = v2)
 (wClB bc bs σ a1 (fun n12 q10 σ11 =>
 (wAr σ11 q10 "[B" ∧
 Q (some q10) σ11)))
 (wNA bc bs σ .byte (.inl (fun _ => 0)) x1 (fun n5 q3 σ4 =>
 wLen σ4 a1 (fun v6 =>
 W_J12_min G σ4  (v6) (x1) (fun v7 σ8 =>
 wCp σ8 a1 (0 : Int32) q3 (0 : Int32) v7 (fun σ9 =>
 Q (some q3) σ9)) X)))))
def W_J13_checkLength (G : KG) (σ : KHp) (x0 : Int32) (x1 : Int32) (Q : KHp → Prop) (X : String → Nat → KHp → Prop) : Prop :=
  wIf (x0 ≤ x1)
 (Q σ)
 (False)
def W_J13_copyOf_3 (G : KG) (bc bs : Nat) (σ : KHp) (x0 : Option Nat) (x1 : Int32) (x2 : Option Nat) (Q : Option Nat → KHp → Prop) (X : String → Nat → KHp → Prop) : Prop :=
  wIf ((x2) = (some (kx_K G 300)))
 (wNQ bc bs σ "java/lang/Object" x1 (fun n3 q1 σ2 =>
 wU x0 (fun a4 =>
 wLen σ2 a4 (fun v5 =>
 W_J12_min G σ2  (v5) (x1) (fun v6 σ7 =>
 wCp σ7 a4 (0 : Int32) q1 (0 : Int32) v6 (fun σ8 =>
 Q (some q1) σ8)) X))))
 (False)
def W_J13_rangeCheck (G : KG) (σ : KHp) (x0 : Int32) (x1 : Int32) (x2 : Int32) (Q : KHp → Prop) (X : String → Nat → KHp → Prop) : Prop :=
  wIf (x1 ≤ x2)
 (wIf (0 ≤ x1)
 (wIf (x2 ≤ x0)
 (Q σ)
 (False))
 (False))
 (False)
def W_J14_checkFromToIndex (G : KG) (σ : KHp) (x0 : Int32) (x1 : Int32) (x2 : Int32) (x3 : Option Nat) (Q : Int32 → KHp → Prop) (X : String → Nat → KHp → Prop) : Prop :=
  jn (κ := KHp → Prop) (fun σ3 =>
 jn (κ := KHp → Prop) (fun σ6 =>
 wIf (x1 ≤ x2)
 (Q (x0) σ6)
 (False)) (fun k4 =>
 wIf (x1 < x0)
 (False)
 (k4 σ3))) (fun k1 =>
 wIf (x0 < 0)
 (False)
 (k1 σ))
def W_J14_checkFromIndexSize (G : KG) (σ : KHp) (x0 : Int32) (x1 : Int32) (x2 : Int32) (x3 : Option Nat) (Q : Int32 → KHp → Prop) (X : String → Nat → KHp → Prop) : Prop :=
  jn (κ := KHp → Prop) (fun σ3 =>
 wIf (x1 ≤ (x2 - x0))
 (Q (x0) σ3)
 (False)) (fun k1 =>
 wIf (((x2 ||| x0) ||| x1) < 0)
 (False)
 (k1 σ))
def W_J14_checkIndex (G : KG) (σ : KHp) (x0 : Int32) (x1 : Int32) (x2 : Option Nat) (Q : Int32 → KHp → Prop) (X : String → Nat → KHp → Prop) : Prop :=
  jn (κ := KHp → Prop) (fun σ3 =>
 wIf (x0 < x1)
 (Q (x0) σ3)
 (False)) (fun k1 =>
 wIf (x0 < 0)
 (False)
 (k1 σ))
def W_J15_canEncode (G : KG) (σ : KHp) (x0 : Int32) (Q : Int32 → KHp → Prop) (X : String → Nat → KHp → Prop) : Prop :=
  jn (κ := Int32 → KHp → Prop) (fun v2 σ3 =>
 (narrow .boolean (.int v2) = .int v2 ∧ Q (v2) σ3)) (fun k1 =>
 wIf ((255 : Int32) < x0)
 (k1 (0 : Int32) σ)
 (k1 (1 : Int32) σ))
def WB_J15_equals_9 (G : KG) (Q : Int32 → KHp → Prop) (X : String → Nat → KHp → Prop)  (y0 : Nat)  (y1 : Nat) (kI9 : KHp → Int32 → Prop) (σ : KHp) (l2 : Int32) : Prop :=
  wLen σ y0 (fun v10001 =>
 wIf (v10001 ≤ l2)
 (Q ((1 : Int32)) σ)
 (wLB σ y0 l2 (fun v10002 =>
 wLB σ y1 l2 (fun v10003 =>
 wIf (v10002 = v10003)
 (kI9 σ (l2 + (1 : Int32)))
 (Q ((0 : Int32)) σ)))))
def W_J15_equals (G : KG) (σ : KHp) (x0 : Option Nat) (x1 : Option Nat) (Q : Int32 → KHp → Prop) (X : String → Nat → KHp → Prop) : Prop :=
  wU x0 (fun a1 =>
 wLen σ a1 (fun v2 =>
 wU x1 (fun a3 =>
 wLen σ a3 (fun v4 =>
 wIf (v2 = v4)
 (loopW1 (WB_J15_equals_9 G Q X  a1 a3) 9000 σ (0 : Int32))
 (Q ((0 : Int32)) σ)))))
def WB_J16_stringSize_16 (G : KG) (Q : Int32 → KHp → Prop) (X : String → Nat → KHp → Prop)  (y0 : Int32)  (y1 : Int32) (kI16 : KHp → Int32 → Int32 → Prop) (σ : KHp) (l2 : Int32) (l3 : Int32) : Prop :=
  wIf ((10 : Int32) ≤ l3)
 (Q (((10 : Int32) + y1)) σ)
 (wIf (y0 ≤ l2)
 (kI16 σ ((10 : Int32) * l2) (l3 + (1 : Int32)))
 (Q ((l3 + y1)) σ))
def W_J16_stringSize (G : KG) (σ : KHp) (x0 : Int32) (Q : Int32 → KHp → Prop) (X : String → Nat → KHp → Prop) : Prop :=
  wIf (x0 < 0)
 (loopW2 (WB_J16_stringSize_16 G Q X  x0 (1 : Int32)) 9000 σ (-10 : Int32) (1 : Int32))
 (loopW2 (WB_J16_stringSize_16 G Q X  (-x0) (0 : Int32)) 9000 σ (-10 : Int32) (1 : Int32))
def WB_J16_getChars_22 (G : KG) (Q : Int32 → KHp → Prop) (X : String → Nat → KHp → Prop)  (y2 : Option Nat)  (y6 : Int32) (kI22 : KHp → Int32 → Int32 → Prop) (σ : KHp) (l0 : Int32) (l5 : Int32) : Prop :=
  wIf ((-100 : Int32) < l0)
 (wLB σ (kx_K G 2) (-l0) (fun v23001 =>
 wU y2 (fun a23002 =>
 wSB σ a23002 (l5 + (-1 : Int32)) (v23001) (fun σ23003 =>
 wIf ((-9 : Int32) ≤ l0)
 (wIf (y6 = 0)
 (Q ((l5 + (-1 : Int32))) σ23003)
 (wSB σ23003 a23002 ((l5 + (-1 : Int32)) + (-1 : Int32)) ((45 : Int32)) (fun σ23004 =>
 Q (((l5 + (-1 : Int32)) + (-1 : Int32))) σ23004)))
 (wLB σ23003 (kx_K G 3) (-l0) (fun v23005 =>
 wSB σ23003 a23002 ((l5 + (-1 : Int32)) + (-1 : Int32)) (v23005) (fun σ23006 =>
 wIf (y6 = 0)
 (Q (((l5 + (-1 : Int32)) + (-1 : Int32))) σ23006)
 (wSB σ23006 a23002 (((l5 + (-1 : Int32)) + (-1 : Int32)) + (-1 : Int32)) ((45 : Int32)) (fun σ23007 =>
 Q ((((l5 + (-1 : Int32)) + (-1 : Int32)) + (-1 : Int32))) σ23007)))))))))
 ((¬ (100 : Int32) = 0 ∧
 wLB σ (kx_K G 2) (((l0 / (100 : Int32)) * (100 : Int32)) - l0) (fun v23008 =>
 wU y2 (fun a23009 =>
 wSB σ a23009 (l5 + (-1 : Int32)) (v23008) (fun σ23010 =>
 wLB σ23010 (kx_K G 3) (((l0 / (100 : Int32)) * (100 : Int32)) - l0) (fun v23011 =>
 wSB σ23010 a23009 ((l5 + (-1 : Int32)) + (-1 : Int32)) (v23011) (fun σ23012 =>
 kI22 σ23012 (l0 / (100 : Int32)) ((l5 + (-1 : Int32)) + (-1 : Int32)))))))))
def W_J16_getChars (G : KG) (σ : KHp) (x0 : Int32) (x1 : Int32) (x2 : Option Nat) (Q : Int32 → KHp → Prop) (X : String → Nat → KHp → Prop) : Prop :=
  jn (κ := Int32 → KHp → Prop) (fun v2 σ3 =>
 wIf (v2 = 0)
 (loopW2 (WB_J16_getChars_22 G Q X  x2 v2) 9000 σ3 (-x0) x1)
 (loopW2 (WB_J16_getChars_22 G Q X  x2 v2) 9000 σ3 x0 x1)) (fun k1 =>
 wIf (0 ≤ x0)
 (k1 (0 : Int32) σ)
 (k1 (1 : Int32) σ))
def W_J16_bitCount (G : KG) (σ : KHp) (x0 : Int32) (Q : Int32 → KHp → Prop) (X : String → Nat → KHp → Prop) : Prop :=
  Q (((((((((x0 - (((x0).toUInt32 >>> (((1 : Int32)).toUInt32 &&& Int32.toUInt32 31)).toInt32 &&& (1431655765 : Int32))) &&& (858993459 : Int32)) + ((((x0 - (((x0).toUInt32 >>> (((1 : Int32)).toUInt32 &&& Int32.toUInt32 31)).toInt32 &&& (1431655765 : Int32)))).toUInt32 >>> (((2 : Int32)).toUInt32 &&& Int32.toUInt32 31)).toInt32 &&& (858993459 : Int32))) + (((((x0 - (((x0).toUInt32 >>> (((1 : Int32)).toUInt32 &&& Int32.toUInt32 31)).toInt32 &&& (1431655765 : Int32))) &&& (858993459 : Int32)) + ((((x0 - (((x0).toUInt32 >>> (((1 : Int32)).toUInt32 &&& Int32.toUInt32 31)).toInt32 &&& (1431655765 : Int32)))).toUInt32 >>> (((2 : Int32)).toUInt32 &&& Int32.toUInt32 31)).toInt32 &&& (858993459 : Int32)))).toUInt32 >>> (((4 : Int32)).toUInt32 &&& Int32.toUInt32 31)).toInt32) &&& (252645135 : Int32)) + (((((((x0 - (((x0).toUInt32 >>> (((1 : Int32)).toUInt32 &&& Int32.toUInt32 31)).toInt32 &&& (1431655765 : Int32))) &&& (858993459 : Int32)) + ((((x0 - (((x0).toUInt32 >>> (((1 : Int32)).toUInt32 &&& Int32.toUInt32 31)).toInt32 &&& (1431655765 : Int32)))).toUInt32 >>> (((2 : Int32)).toUInt32 &&& Int32.toUInt32 31)).toInt32 &&& (858993459 : Int32))) + (((((x0 - (((x0).toUInt32 >>> (((1 : Int32)).toUInt32 &&& Int32.toUInt32 31)).toInt32 &&& (1431655765 : Int32))) &&& (858993459 : Int32)) + ((((x0 - (((x0).toUInt32 >>> (((1 : Int32)).toUInt32 &&& Int32.toUInt32 31)).toInt32 &&& (1431655765 : Int32)))).toUInt32 >>> (((2 : Int32)).toUInt32 &&& Int32.toUInt32 31)).toInt32 &&& (858993459 : Int32)))).toUInt32 >>> (((4 : Int32)).toUInt32 &&& Int32.toUInt32 31)).toInt32) &&& (252645135 : Int32))).toUInt32 >>> (((8 : Int32)).toUInt32 &&& Int32.toUInt32 31)).toInt32) + ((((((((x0 - (((x0).toUInt32 >>> (((1 : Int32)).toUInt32 &&& Int32.toUInt32 31)).toInt32 &&& (1431655765 : Int32))) &&& (858993459 : Int32)) + ((((x0 - (((x0).toUInt32 >>> (((1 : Int32)).toUInt32 &&& Int32.toUInt32 31)).toInt32 &&& (1431655765 : Int32)))).toUInt32 >>> (((2 : Int32)).toUInt32 &&& Int32.toUInt32 31)).toInt32 &&& (858993459 : Int32))) + (((((x0 - (((x0).toUInt32 >>> (((1 : Int32)).toUInt32 &&& Int32.toUInt32 31)).toInt32 &&& (1431655765 : Int32))) &&& (858993459 : Int32)) + ((((x0 - (((x0).toUInt32 >>> (((1 : Int32)).toUInt32 &&& Int32.toUInt32 31)).toInt32 &&& (1431655765 : Int32)))).toUInt32 >>> (((2 : Int32)).toUInt32 &&& Int32.toUInt32 31)).toInt32 &&& (858993459 : Int32)))).toUInt32 >>> (((4 : Int32)).toUInt32 &&& Int32.toUInt32 31)).toInt32) &&& (252645135 : Int32)) + (((((((x0 - (((x0).toUInt32 >>> (((1 : Int32)).toUInt32 &&& Int32.toUInt32 31)).toInt32 &&& (1431655765 : Int32))) &&& (858993459 : Int32)) + ((((x0 - (((x0).toUInt32 >>> (((1 : Int32)).toUInt32 &&& Int32.toUInt32 31)).toInt32 &&& (1431655765 : Int32)))).toUInt32 >>> (((2 : Int32)).toUInt32 &&& Int32.toUInt32 31)).toInt32 &&& (858993459 : Int32))) + (((((x0 - (((x0).toUInt32 >>> (((1 : Int32)).toUInt32 &&& Int32.toUInt32 31)).toInt32 &&& (1431655765 : Int32))) &&& (858993459 : Int32)) + ((((x0 - (((x0).toUInt32 >>> (((1 : Int32)).toUInt32 &&& Int32.toUInt32 31)).toInt32 &&& (1431655765 : Int32)))).toUInt32 >>> (((2 : Int32)).toUInt32 &&& Int32.toUInt32 31)).toInt32 &&& (858993459 : Int32)))).toUInt32 >>> (((4 : Int32)).toUInt32 &&& Int32.toUInt32 31)).toInt32) &&& (252645135 : Int32))).toUInt32 >>> (((8 : Int32)).toUInt32 &&& Int32.toUInt32 31)).toInt32)).toUInt32 >>> (((16 : Int32)).toUInt32 &&& Int32.toUInt32 31)).toInt32) &&& (63 : Int32))) σ
def W_J17_init (G : KG) (σ : KHp) (x0 : Nat) (Q : KHp → Prop) (X : String → Nat → KHp → Prop) : Prop :=
  W_J1_init G σ x0  (fun σ2 =>
 Q σ2) X
def W_J18_init (G : KG) (σ : KHp) (x0 : Nat) (Q : KHp → Prop) (X : String → Nat → KHp → Prop) : Prop :=
  W_J17_init G σ x0  (fun σ2 =>
 wP σ2 x0 [21] 1 (.int ((0 : Int32))) (fun σ3 =>
 Q σ3)) X
def W_J18_isPositionIndex (G : KG) (σ : KHp) (x0 : Nat) (x1 : Int32) (Q : Int32 → KHp → Prop) (X : String → Nat → KHp → Prop) : Prop :=
  jn (κ := Int32 → KHp → Prop) (fun v3 σ4 =>
 (narrow .boolean (.int v3) = .int v3 ∧ Q (v3) σ4)) (fun k1 =>
 wIf (x1 < 0)
 (k1 (0 : Int32) σ)
 (wGI σ x0 [21] 1 (fun v2 =>
 wIf (v2 < x1)
 (k1 (0 : Int32) σ)
 (k1 (1 : Int32) σ))))
def WB_J18_node_47 (G : KG) (Q : Option Nat → KHp → Prop) (X : String → Nat → KHp → Prop)  (y1 : Int32) (kI47 : KHp → Option Nat → Int32 → Prop) (σ : KHp) (l2 : Option Nat) (l3 : Int32) : Prop :=
  wIf (l3 ≤ y1)
 (Q (l2) σ)
 (wU l2 (fun a48001 =>
 wGO σ a48001 [24] 2 (fun v48002 =>
 kI47 σ (v48002) (l3 + (-1 : Int32)))))
def WB_J18_node_17 (G : KG) (Q : Option Nat → KHp → Prop) (X : String → Nat → KHp → Prop)  (y1 : Int32) (kI17 : KHp → Option Nat → Int32 → Prop) (σ : KHp) (l2 : Option Nat) (l3 : Int32) : Prop :=
  wIf (y1 ≤ l3)
 (Q (l2) σ)
 (wU l2 (fun a18001 =>
 wGO σ a18001 [24] 1 (fun v18002 =>
 kI17 σ (v18002) (l3 + (1 : Int32)))))
def W_J18_node (G : KG) (σ : KHp) (x0 : Nat) (x1 : Int32) (Q : Option Nat → KHp → Prop) (X : String → Nat → KHp → Prop) : Prop :=
  wGI σ x0 [21] 1 (fun v1 =>
 wIf ((v1 >>> ((1 : Int32) &&& 31)) ≤ x1)
 (wGO σ x0 [21] 3 (fun v2 =>
 wGI σ x0 [21] 1 (fun v3 =>
 loopW2 (WB_J18_node_47 G Q X  x1) 9000 σ (v2) (v3 - (1 : Int32)))))
 (wGO σ x0 [21] 2 (fun v5 =>
 loopW2 (WB_J18_node_17 G Q X  x1) 9000 σ (v5) (0 : Int32))))
def W_J18_size (G : KG) (σ : KHp) (x0 : Nat) (Q : Int32 → KHp → Prop) (X : String → Nat → KHp → Prop) : Prop :=
  wGI σ x0 [21] 1 (fun v1 =>
 Q (v1) σ)
def W_J18_isElementIndex (G : KG) (σ : KHp) (x0 : Nat) (x1 : Int32) (Q : Int32 → KHp → Prop) (X : String → Nat → KHp → Prop) : Prop :=
  jn (κ := Int32 → KHp → Prop) (fun v3 σ4 =>
 (narrow .boolean (.int v3) = .int v3 ∧ Q (v3) σ4)) (fun k1 =>
 wIf (x1 < 0)
 (k1 (0 : Int32) σ)
 (wGI σ x0 [21] 1 (fun v2 =>
 wIf (v2 ≤ x1)
 (k1 (0 : Int32) σ)
 (k1 (1 : Int32) σ))))
def W_J18_unlink (G : KG) (σ : KHp) (x0 : Nat) (x1 : Option Nat) (Q : Option Nat → KHp → Prop) (X : String → Nat → KHp → Prop) : Prop :=
  wU x1 (fun a1 =>
 wGO σ a1 [24] 0 (fun v2 =>
 wGO σ a1 [24] 1 (fun v3 =>
 wGO σ a1 [24] 2 (fun v4 =>
 wIf (v4 = none)
 (wP σ x0 [21] 2 (va_rf (v3)) (fun σ5 =>
 wIf (v3 = none)
 (wP σ5 x0 [21] 3 (va_rf (v4)) (fun σ6 =>
 wP σ6 a1 [24] 0 (.null) (fun σ7 =>
 wGI σ7 x0 [21] 1 (fun v8 =>
 wP σ7 x0 [21] 1 (.int ((v8 - (1 : Int32)))) (fun σ9 =>
 wGI σ9 x0 [16, 21] 0 (fun v10 =>
 wP σ9 x0 [16, 21] 0 (.int ((v10 + (1 : Int32)))) (fun σ11 =>
 Q (v2) σ11)))))))
 (wU v3 (fun a12 =>
 wP σ5 a12 [24] 2 (va_rf (v4)) (fun σ13 =>
 wP σ13 a1 [24] 1 (.null) (fun σ14 =>
 wP σ14 a1 [24] 0 (.null) (fun σ15 =>
 wGI σ15 x0 [21] 1 (fun v16 =>
 wP σ15 x0 [21] 1 (.int ((v16 - (1 : Int32)))) (fun σ17 =>
 wGI σ17 x0 [16, 21] 0 (fun v18 =>
 wP σ17 x0 [16, 21] 0 (.int ((v18 + (1 : Int32)))) (fun σ19 =>
 Q (v2) σ19)))))))))))
 (wU v4 (fun a20 =>
 wP σ a20 [24] 1 (va_rf (v3)) (fun σ21 =>
 wP σ21 a1 [24] 2 (.null) (fun σ22 =>
 wIf (v3 = none)
 (wP σ22 x0 [21] 3 (.ref (a20)) (fun σ23 =>
 wP σ23 a1 [24] 0 (.null) (fun σ24 =>
 wGI σ24 x0 [21] 1 (fun v25 =>
 wP σ24 x0 [21] 1 (.int ((v25 - (1 : Int32)))) (fun σ26 =>
 wGI σ26 x0 [16, 21] 0 (fun v27 =>
 wP σ26 x0 [16, 21] 0 (.int ((v27 + (1 : Int32)))) (fun σ28 =>
 Q (v2) σ28)))))))
 (wU v3 (fun a29 =>
 wP σ22 a29 [24] 2 (.ref (a20)) (fun σ30 =>
 wP σ30 a1 [24] 1 (.null) (fun σ31 =>
 wP σ31 a1 [24] 0 (.null) (fun σ32 =>
 wGI σ32 x0 [21] 1 (fun v33 =>
 wP σ32 x0 [21] 1 (.int ((v33 - (1 : Int32)))) (fun σ34 =>
 wGI σ34 x0 [16, 21] 0 (fun v35 =>
 wP σ34 x0 [16, 21] 0 (.int ((v35 + (1 : Int32)))) (fun σ36 =>
 Q (v2) σ36)))))))))))))))))
def W_J19_init (G : KG) (bc bs : Nat) (σ : KHp) (x0 : Nat) (Q : KHp → Prop) (X : String → Nat → KHp → Prop) : Prop :=
  W_J0_init G σ x0  (fun σ2 =>
 wNQ bc bs σ2 "java/lang/Object" (17 : Int32) (fun n5 q3 σ4 =>
 wP σ4 x0 [22] 0 (.ref (q3)) (fun σ6 =>
 Q σ6))) X
def W_J19_sub (G : KG) (σ : KHp) (x0 : Int32) (x1 : Int32) (x2 : Int32) (Q : Int32 → KHp → Prop) (X : String → Nat → KHp → Prop) : Prop :=
  wIf (0 ≤ (x0 - x1))
 (Q ((x0 - x1)) σ)
 (Q (((x0 - x1) + x2)) σ)
def W_J19_elementAt (G : KG) (σ : KHp) (x0 : Option Nat) (x1 : Int32) (Q : Option Nat → KHp → Prop) (X : String → Nat → KHp → Prop) : Prop :=
  wU x0 (fun a1 =>
 wLO σ a1 x1 (fun v2 =>
 Q (v2) σ))
def W_J19_inc (G : KG) (σ : KHp) (x0 : Int32) (x1 : Int32) (Q : Int32 → KHp → Prop) (X : String → Nat → KHp → Prop) : Prop :=
  wIf ((x0 + (1 : Int32)) < x1)
 (Q ((x0 + (1 : Int32))) σ)
 (Q ((0 : Int32)) σ)
def W_J19_newCapacity (G : KG) (σ : KHp) (x0 : Nat) (x1 : Int32) (x2 : Int32) (Q : Int32 → KHp → Prop) (X : String → Nat → KHp → Prop) : Prop :=
  wGO σ x0 [22] 0 (fun v1 =>
 wU v1 (fun a2 =>
 wLen σ a2 (fun v3 =>
 wIf (((v3 + x1) - (2147483639 : Int32)) ≤ 0)
 (wIf (x1 ≤ x2)
 (jn (κ := Int32 → KHp → Prop) (fun v5 σ6 =>
 Q (v5) σ6) (fun k4 =>
 wIf (0 ≤ ((v3 + x2) - (2147483639 : Int32)))
 (k4 (2147483639 : Int32) σ)
 (k4 (v3 + x2) σ)))
 (Q ((v3 + x1)) σ))
 (wIf (0 ≤ (v3 + x1))
 (Q ((2147483647 : Int32)) σ)
 (False)))))
def W_J19_nonNullElementAt (G : KG) (σ : KHp) (x0 : Option Nat) (x1 : Int32) (Q : Option Nat → KHp → Prop) (X : String → Nat → KHp → Prop) : Prop :=
  wU x0 (fun a1 =>
 wLO σ a1 x1 (fun v2 =>
 wIf (v2 = none)
 (False)
 (Q (v2) σ)))
def WB_J19_circularClear_12 (G : KG) (Q : KHp → Prop) (X : String → Nat → KHp → Prop)  (y0 : Option Nat)  (y2 : Int32) (kI12 : KHp → Int32 → Int32 → Prop) (σ : KHp) (l1 : Int32) (l3 : Int32) : Prop :=
  wIf (l3 ≤ l1)
 (wIf (l3 = y2)
 (Q σ)
 (kI12 σ (0 : Int32) y2))
 (wU y0 (fun a13001 =>
 wSO σ a13001 l1 none (fun σ13002 =>
 kI12 σ13002 (l1 + (1 : Int32)) l3)))
def W_J19_circularClear (G : KG) (σ : KHp) (x0 : Option Nat) (x1 : Int32) (x2 : Int32) (Q : KHp → Prop) (X : String → Nat → KHp → Prop) : Prop :=
  jn (κ := Int32 → KHp → Prop) (fun v4 σ5 =>
 loopW2 (WB_J19_circularClear_12 G Q X  x0 x2) 9000 σ5 x1 v4) (fun k1 =>
 wIf (x2 < x1)
 (wU x0 (fun a2 =>
 wLen σ a2 (fun v3 =>
 k1 v3 σ)))
 (k1 x2 σ))
def W_J19_isEmpty (G : KG) (σ : KHp) (x0 : Nat) (Q : Int32 → KHp → Prop) (X : String → Nat → KHp → Prop) : Prop :=
  wGI σ x0 [22] 1 (fun v1 =>
 wGI σ x0 [22] 2 (fun v2 =>
 jn (κ := Int32 → KHp → Prop) (fun v4 σ5 =>
 (narrow .boolean (.int v4) = .int v4 ∧ Q (v4) σ5)) (fun k3 =>
 wIf (v1 = v2)
 (k3 (1 : Int32) σ)
 (k3 (0 : Int32) σ))))
def W_J19_dec (G : KG) (σ : KHp) (x0 : Int32) (x1 : Int32) (Q : Int32 → KHp → Prop) (X : String → Nat → KHp → Prop) : Prop :=
  wIf (0 ≤ (x0 + (-1 : Int32)))
 (Q ((x0 + (-1 : Int32))) σ)
 (Q ((x1 - (1 : Int32))) σ)
def W_J22_checkIndex (G : KG) (σ : KHp) (x0 : Int32) (x1 : Int32) (Q : Int32 → KHp → Prop) (X : String → Nat → KHp → Prop) : Prop :=
  W_J14_checkIndex G σ  (x0) (x1) none (fun v1 σ2 =>
 Q (v1) σ2) X
def W_J23_init (G : KG) (σ : KHp) (x0 : Nat) (x1 : Option Nat) (x2 : Option Nat) (x3 : Option Nat) (Q : KHp → Prop) (X : String → Nat → KHp → Prop) : Prop :=
  wP σ x0 [24] 0 (va_rf (x2)) (fun σ1 =>
 wP σ1 x0 [24] 1 (va_rf (x3)) (fun σ2 =>
 wP σ2 x0 [24] 2 (va_rf (x1)) (fun σ3 =>
 Q σ3)))
def W_J30_init (G : KG) (σ : KHp) (x0 : Nat) (x1 : Option Nat) (x2 : Int32) (Q : KHp → Prop) (X : String → Nat → KHp → Prop) : Prop :=
  wP σ x0 [28] 4 (va_rf (x1)) (fun σ1 =>
 wGO σ1 x0 [28] 4 (fun v2 =>
 wU v2 (fun a3 =>
 wGI σ1 a3 [16, 21] 0 (fun v4 =>
 wP σ1 x0 [28] 3 (.int (v4)) (fun σ5 =>
 wU x1 (fun a6 =>
 wGI σ5 a6 [21] 1 (fun v7 =>
 jn (κ := Option Nat → KHp → Prop) (fun v11 σ12 =>
 wP σ12 x0 [28] 1 (va_rf (v11)) (fun σ13 =>
 wP σ13 x0 [28] 2 (.int (x2)) (fun σ14 =>
 Q σ14))) (fun k8 =>
 wIf (x2 = v7)
 (k8 none σ5)
 ((wR σ5 a6 21 ∧
 W_J18_node G σ5 a6 (x2) (fun v9 σ10 =>
 k8 (v9) σ10) X))))))))))
def W_J30_hasNext (G : KG) (σ : KHp) (x0 : Nat) (Q : Int32 → KHp → Prop) (X : String → Nat → KHp → Prop) : Prop :=
  wGI σ x0 [28] 2 (fun v1 =>
 wGO σ x0 [28] 4 (fun v2 =>
 wU v2 (fun a3 =>
 wGI σ a3 [21] 1 (fun v4 =>
 jn (κ := Int32 → KHp → Prop) (fun v6 σ7 =>
 (narrow .boolean (.int v6) = .int v6 ∧ Q (v6) σ7)) (fun k5 =>
 wIf (v4 ≤ v1)
 (k5 (0 : Int32) σ)
 (k5 (1 : Int32) σ))))))
def W_J30_checkForComodification (G : KG) (σ : KHp) (x0 : Nat) (Q : KHp → Prop) (X : String → Nat → KHp → Prop) : Prop :=
  wGO σ x0 [28] 4 (fun v1 =>
 wU v1 (fun a2 =>
 wGI σ a2 [16, 21] 0 (fun v3 =>
 wGI σ x0 [28] 3 (fun v4 =>
 wIf (v3 = v4)
 (Q σ)
 (False)))))
def W_J31_hasNext (G : KG) (σ : KHp) (x0 : Nat) (Q : Int32 → KHp → Prop) (X : String → Nat → KHp → Prop) : Prop :=
  wGI σ x0 [29] 1 (fun v1 =>
 jn (κ := Int32 → KHp → Prop) (fun v3 σ4 =>
 (narrow .boolean (.int v3) = .int v3 ∧ Q (v3) σ4)) (fun k2 =>
 wIf (v1 ≤ 0)
 (k2 (0 : Int32) σ)
 (k2 (1 : Int32) σ)))
def W_J31_next (G : KG) (σ : KHp) (x0 : Nat) (Q : Option Nat → KHp → Prop) (X : String → Nat → KHp → Prop) : Prop :=
  wGI σ x0 [29] 1 (fun v1 =>
 wIf (0 < v1)
 (wGO σ x0 [29] 3 (fun v2 =>
 wU v2 (fun a3 =>
 wGO σ a3 [22] 0 (fun v4 =>
 wGI σ x0 [29] 0 (fun v5 =>
 W_J19_nonNullElementAt G σ  (v4) (v5) (fun v6 σ7 =>
 wGI σ7 x0 [29] 0 (fun v8 =>
 wP σ7 x0 [29] 2 (.int (v8)) (fun σ9 =>
 wU v4 (fun a10 =>
 wLen σ9 a10 (fun v11 =>
 W_J19_inc G σ9  (v8) (v11) (fun v12 σ13 =>
 wP σ13 x0 [29] 0 (.int (v12)) (fun σ14 =>
 wGI σ14 x0 [29] 1 (fun v15 =>
 wP σ14 x0 [29] 1 (.int ((v15 - (1 : Int32)))) (fun σ16 =>
 Q (v6) σ16)))) X))))) X)))))
 (False))
def W_X1_inRange (G : KG) (σ : KHp) (x0 : Int64) (x2 : Int64) (x4 : Int64) (Q : Int32 → KHp → Prop) (X : String → Nat → KHp → Prop) : Prop :=
  jn (κ := Int32 → KHp → Prop) (fun v2 σ3 =>
 (narrow .boolean (.int v2) = .int v2 ∧ Q (v2) σ3)) (fun k1 =>
 wIf ((lg_cmp x0 x2) < 0)
 (k1 (0 : Int32) σ)
 (wIf (0 < (lg_cmp x0 x4))
 (k1 (0 : Int32) σ)
 (k1 (1 : Int32) σ)))
def W_X1_errorCode (G : KG) (σ : KHp) (x0 : Nat) (Q : Int32 → KHp → Prop) (X : String → Nat → KHp → Prop) : Prop :=
  wGI σ x0 [0] 4 (fun v1 =>
 Q (v1) σ)
def W_X1_errorPosition (G : KG) (σ : KHp) (x0 : Nat) (Q : Int32 → KHp → Prop) (X : String → Nat → KHp → Prop) : Prop :=
  wGI σ x0 [0] 5 (fun v1 =>
 Q (v1) σ)
def W_X1_now (G : KG) (σ : KHp) (x0 : Nat) (Q : Int32 → KHp → Prop) (X : String → Nat → KHp → Prop) : Prop :=
  wGO σ x0 [0] 0 (fun v1 =>
 wU v1 (fun a2 =>
 wGI σ a2 [1] 12 (fun v3 =>
 Q (v3) σ)))
def WB_X1_appendWord_3 (G : KG) (Q : KHp → Prop) (X : String → Nat → KHp → Prop)  (y0 : Nat)  (y1 : Int32) (kI3 : KHp → Int32 → Prop) (σ : KHp) (l2 : Int32) : Prop :=
  wIf (l2 < 0)
 (Q σ)
 (wGO σ y0 [0] 2 (fun v4001 =>
 wGI σ y0 [0] 3 (fun v4002 =>
 wU v4001 (fun a4003 =>
 wSB σ a4003 v4002 ((((y1 >>> (l2 &&& 31))).toInt8.toInt32)) (fun σ4004 =>
 wGI σ4004 y0 [0] 3 (fun v4005 =>
 wP σ4004 y0 [0] 3 (.int ((v4005 + (1 : Int32)))) (fun σ4006 =>
 kI3 σ4006 (l2 + (-8 : Int32)))))))))
def W_X1_appendWord (G : KG) (σ : KHp) (x0 : Nat) (x1 : Int32) (Q : KHp → Prop) (X : String → Nat → KHp → Prop) : Prop :=
  loopW1 (WB_X1_appendWord_3 G Q X  x0 x1) 9000 σ (24 : Int32)
def W_X1_truncate (G : KG) (bc bs : Nat) (σ : KHp) (x0 : Nat) (x1 : Int32) (Q : KHp → Prop) (X : String → Nat → KHp → Prop) : Prop :=
  wGI σ x0 [0] 3 (fun v1 =>
 W_X1_inRange G σ  (((x1).toInt64)) ((0 : Int64)) (((v1).toInt64)) (fun v2 σ3 =>
 wC bc bs (fun c6 c7 =>
 W_X1_requireArgument G c6 c7 σ3  (v2) (fun σ5 =>
 wP σ5 x0 [0] 3 (.int (x1)) (fun σ8 =>
 Q σ8)) X)) X)
def W_X1_loadCount (G : KG) (σ : KHp) (x0 : Nat) (Q : Int32 → KHp → Prop) (X : String → Nat → KHp → Prop) : Prop :=
  wGO σ x0 [0] 0 (fun v1 =>
 wU v1 (fun a2 =>
 wGO σ a2 [1] 0 (fun v3 =>
 wU v3 (fun a4 =>
 wGO σ a4 [2] 6 (fun v5 =>
 wU v5 (fun a6 =>
 (wR σ a6 16 ∧
 W_J2_size G σ a6  (fun v7 σ8 =>
 Q (v7) σ8) X)))))))
def W_X1_signatureCount (G : KG) (σ : KHp) (x0 : Nat) (Q : Int32 → KHp → Prop) (X : String → Nat → KHp → Prop) : Prop :=
  wGO σ x0 [0] 0 (fun v1 =>
 wU v1 (fun a2 =>
 wGO σ a2 [1] 0 (fun v3 =>
 wU v3 (fun a4 =>
 wGO σ a4 [2] 7 (fun v5 =>
 wU v5 (fun a6 =>
 (wR σ a6 16 ∧
 W_J2_size G σ a6  (fun v7 σ8 =>
 Q (v7) σ8) X)))))))
def W_X1_magnitude (G : KG) (σ : KHp) (x0 : UInt32) (Q : UInt32 → KHp → Prop) (X : String → Nat → KHp → Prop) : Prop :=
  jn (κ := UInt32 → KHp → Prop) (fun v3 σ4 =>
 Q (v3) σ4) (fun k1 =>
 wIf (0 ≤ (Op.cmpValue (FP.fcmp x0 FP.fconst0) .g))
 (k1 x0 σ)
 (wF (FP.fsub FP.fconst0 x0) (fun v2 =>
 k1 v2 σ)))
def W_X1_has (G : KG) (σ : KHp) (x0 : Int32) (x1 : Int32) (Q : Int32 → KHp → Prop) (X : String → Nat → KHp → Prop) : Prop :=
  jn (κ := Int32 → KHp → Prop) (fun v2 σ3 =>
 (narrow .boolean (.int v2) = .int v2 ∧ Q (v2) σ3)) (fun k1 =>
 wIf (((x0 >>> (x1 &&& 31)) &&& (1 : Int32)) = (1 : Int32))
 (k1 (1 : Int32) σ)
 (k1 (0 : Int32) σ))
def W_X1_requireFeature (G : KG) (bc bs : Nat) (σ : KHp) (x0 : Int32) (Q : KHp → Prop) (X : String → Nat → KHp → Prop) : Prop :=
  W_X1_inRange G σ  (((x0).toInt64)) ((0 : Int64)) ((5 : Int64)) (fun v1 σ2 =>
 wC bc bs (fun c5 c6 =>
 W_X1_requireArgument G c5 c6 σ2  (v1) (fun σ4 =>
 Q σ4) X)) X
def W_X2_draw (G : KG) (σ : KHp) (x0 : Nat) (Q : Int32 → KHp → Prop) (X : String → Nat → KHp → Prop) : Prop :=
  wGJ σ x0 [1] 13 (fun v1 =>
 (¬ (2147483648 : Int64) = 0 ∧
 wP σ x0 [1] 13 (.long ((((v1 * (1103515245 : Int64)) + (12345 : Int64)) - ((v1 * (1103515245 : Int64)) + (12345 : Int64)) / (2147483648 : Int64) * (2147483648 : Int64)))) (fun σ2 =>
 wGJ σ2 x0 [1] 13 (fun v3 =>
 (¬ (65536 : Int64) = 0 ∧
 (¬ (100 : Int64) = 0 ∧
 Q (((((v3 / (65536 : Int64)) - (v3 / (65536 : Int64)) / (100 : Int64) * (100 : Int64))).toInt32)) σ2))))))
def W_X3_init (G : KG) (bc bs : Nat) (σ : KHp) (x0 : Nat) (Q : KHp → Prop) (X : String → Nat → KHp → Prop) : Prop :=
  wP σ x0 [2] 0 (.int ((8 : Int32))) (fun σ1 =>
 wP σ1 x0 [2] 1 (.int ((1 : Int32))) (fun σ2 =>
 wP σ2 x0 [2] 2 (.int ((1 : Int32))) (fun σ3 =>
 wNA bc bs σ3 .float (.inr (.inr (.inl (fun _ => 0)))) (0 : Int32) (fun n6 q4 σ5 =>
 wP σ5 x0 [2] 3 (.ref (q4)) (fun σ7 =>
 wN (bc - 1) (bs - n6) σ7 16 [.int 0, .null, .int 0] (fun q8 σ9 =>
 wC (bc - 1 - 1) (bs - n6 - 3) (fun c12 c13 =>
 W_J2_init G c12 c13 σ9 q8 ((2 : Int32)) (fun σ11 =>
 wP σ11 x0 [2] 4 (.ref (q8)) (fun σ14 =>
 wNA (bc - 1 - 1 - c12) (bs - n6 - 3 - c13) σ14 .int (.inl (fun _ => 0)) (4 : Int32) (fun n17 q15 σ16 =>
 wP σ16 x0 [2] 5 (.ref (q15)) (fun σ18 =>
 wN (bc - 1 - 1 - c12 - 1) (bs - n6 - 3 - c13 - n17) σ18 16 [.int 0, .null, .int 0] (fun q19 σ20 =>
 wC (bc - 1 - 1 - c12 - 1 - 1) (bs - n6 - 3 - c13 - n17 - 3) (fun c23 c24 =>
 W_J2_init G c23 c24 σ20 q19 ((4 : Int32)) (fun σ22 =>
 wP σ22 x0 [2] 6 (.ref (q19)) (fun σ25 =>
 wN (bc - 1 - 1 - c12 - 1 - 1 - c23) (bs - n6 - 3 - c13 - n17 - 3 - c24) σ25 16 [.int 0, .null, .int 0] (fun q26 σ27 =>
 wC (bc - 1 - 1 - c12 - 1 - 1 - c23 - 1) (bs - n6 - 3 - c13 - n17 - 3 - c24 - 3) (fun c30 c31 =>
 W_J2_init G c30 c31 σ27 q26 ((2 : Int32)) (fun σ29 =>
 wP σ29 x0 [2] 7 (.ref (q26)) (fun σ32 =>
 Q σ32)) X)))) X)))))) X)))))))
def WB_X3_lay_12 (G : KG) (Q : KHp → Prop) (X : String → Nat → KHp → Prop)  (y0 : Nat) (kI12 : KHp → Nat → Nat → Int32 → Prop) (σ : KHp) (bc12 bs12 : Nat) (l1 : Int32) : Prop :=
  wGI σ y0 [2] 0 (fun v13001 =>
 wIf (v13001 ≤ l1)
 (Q σ)
 (wGI σ y0 [2] 0 (fun v13002 =>
 wF (FP.fdiv (FP.i2f (((2 : Int32) * l1) + (1 : Int32))) (FP.i2f ((2 : Int32) * v13002))) (fun v13003 =>
 wGO σ y0 [2] 3 (fun v13004 =>
 wF (FP.fmul (1082130432 : UInt32) v13003) (fun v13005 =>
 wF (FP.fsub FP.fconst1 v13003) (fun v13006 =>
 wF (FP.fmul v13005 v13006) (fun v13007 =>
 wU v13004 (fun a13008 =>
 wSF σ a13008 l1 (v13007) (fun σ13009 =>
 kI12 σ13009 bc12 bs12 (l1 + (1 : Int32))))))))))))
def W_X3_lay (G : KG) (bc bs : Nat) (σ : KHp) (x0 : Nat) (Q : KHp → Prop) (X : String → Nat → KHp → Prop) : Prop :=
  wGI σ x0 [2] 0 (fun v1 =>
 wNA bc bs σ .float (.inr (.inr (.inl (fun _ => 0)))) v1 (fun n4 q2 σ3 =>
 wP σ3 x0 [2] 3 (.ref (q2)) (fun σ5 =>
 loopW3 (WB_X3_lay_12 G Q X  x0) 9000 σ5 (bc - 1) (bs - n4) (0 : Int32))))
def W_X4_values (G : KG) (bc bs : Nat) (σ : KHp)  (Q : Option Nat → KHp → Prop) (X : String → Nat → KHp → Prop) : Prop :=
  wClO bc bs σ "ArcRecorder$Feature" (kx_K G 4) (fun n3 q1 σ2 =>
 (wAr σ2 q1 "[LArcRecorder$Feature;" ∧
 Q (some q1) σ2))
def W_X5_init (G : KG) (bc bs : Nat) (σ : KHp) (x0 : Nat) (x1 : Int32) (Q : KHp → Prop) (X : String → Nat → KHp → Prop) : Prop :=
  wP σ x0 [3] 11 (.float ((3212836864 : UInt32))) (fun σ1 =>
 wNA bc bs σ1 .float (.inr (.inr (.inl (fun _ => 0)))) x1 (fun n4 q2 σ3 =>
 wP σ3 x0 [3] 0 (.ref (q2)) (fun σ5 =>
 wNA (bc - 1) (bs - n4) σ5 .float (.inr (.inr (.inl (fun _ => 0)))) (6 : Int32) (fun n8 q6 σ7 =>
 wP σ7 x0 [3] 1 (.ref (q6)) (fun σ9 =>
 Q σ9)))))
def W_X5_init_2 (G : KG) (bc bs : Nat) (σ : KHp) (x0 : Nat) (x1 : Option Nat) (Q : KHp → Prop) (X : String → Nat → KHp → Prop) : Prop :=
  wP σ x0 [3] 11 (.float ((3212836864 : UInt32))) (fun σ1 =>
 wU x1 (fun a2 =>
 wGO σ1 a2 [3] 0 (fun v3 =>
 wU v3 (fun a4 =>
 wClF bc bs σ1 a4 (fun n7 q5 σ6 =>
 (wAr σ6 q5 "[F" ∧
 wP σ6 x0 [3] 0 (.ref (q5)) (fun σ8 =>
 wGO σ8 a2 [3] 1 (fun v9 =>
 wU v9 (fun a10 =>
 wClF (bc - 1) (bs - n7) σ8 a10 (fun n13 q11 σ12 =>
 (wAr σ12 q11 "[F" ∧
 wP σ12 x0 [3] 1 (.ref (q11)) (fun σ14 =>
 wGI σ14 a2 [3] 2 (fun v15 =>
 wP σ14 x0 [3] 2 (.int (v15)) (fun σ16 =>
 wGI σ16 a2 [3] 3 (fun v17 =>
 wP σ16 x0 [3] 3 (.int (v17)) (fun σ18 =>
 wGI σ18 a2 [3] 4 (fun v19 =>
 wP σ18 x0 [3] 4 (.int (v19)) (fun σ20 =>
 wGI σ20 a2 [3] 5 (fun v21 =>
 wP σ20 x0 [3] 5 (.int (v21)) (fun σ22 =>
 wGI σ22 a2 [3] 6 (fun v23 =>
 wP σ22 x0 [3] 6 (.int (v23)) (fun σ24 =>
 wGI σ24 a2 [3] 7 (fun v25 =>
 wP σ24 x0 [3] 7 (.int (v25)) (fun σ26 =>
 wGJ σ26 a2 [3] 8 (fun v27 =>
 wP σ26 x0 [3] 8 (.long (v27)) (fun σ28 =>
 wGI σ28 a2 [3] 9 (fun v29 =>
 wPZ σ28 x0 [3] 9 v29 (fun σ30 =>
 wGI σ30 a2 [3] 10 (fun v31 =>
 wPZ σ30 x0 [3] 10 v31 (fun σ32 =>
 wGF σ32 a2 [3] 11 (fun v33 =>
 wP σ32 x0 [3] 11 (.float (v33)) (fun σ34 =>
 Q σ34))))))))))))))))))))))))))))))))
def W_X5_forgetWindow (G : KG) (σ : KHp) (x0 : Nat) (Q : KHp → Prop) (X : String → Nat → KHp → Prop) : Prop :=
  wP σ x0 [3] 8 (.long ((0 : Int64))) (fun σ1 =>
 wP σ1 x0 [3] 4 (.int ((0 : Int32))) (fun σ2 =>
 wP σ2 x0 [3] 11 (.float ((3212836864 : UInt32))) (fun σ3 =>
 wPZ σ3 x0 [3] 9 (0 : Int32) (fun σ4 =>
 Q σ4))))
def W_X5_was (G : KG) (σ : KHp) (x0 : Nat) (x1 : Int32) (Q : Int32 → KHp → Prop) (X : String → Nat → KHp → Prop) : Prop :=
  wGJ σ x0 [3] 8 (fun v1 =>
 jn (κ := Int32 → KHp → Prop) (fun v3 σ4 =>
 (narrow .boolean (.int v3) = .int v3 ∧ Q (v3) σ4)) (fun k2 =>
 wIf ((lg_cmp ((v1 >>> ((x1).toInt64 &&& 63)) &&& (1 : Int64)) (1 : Int64)) = 0)
 (k2 (1 : Int32) σ)
 (k2 (0 : Int32) σ)))
def W_X7_isAt (G : KG) (σ : KHp) (x0 : Nat) (x1 : Int32) (x2 : Int32) (Q : Int32 → KHp → Prop) (X : String → Nat → KHp → Prop) : Prop :=
  wGI σ x0 [5] 3 (fun v1 =>
 wGO σ x0 [5] 9 (fun v2 =>
 wU v2 (fun a3 =>
 wGI σ a3 [0] 3 (fun v4 =>
 jn (κ := Int32 → KHp → Prop) (fun v14 σ15 =>
 (narrow .boolean (.int v14) = .int v14 ∧ Q (v14) σ15)) (fun k5 =>
 wIf (v4 ≤ v1)
 (k5 (0 : Int32) σ)
 (wGO σ x0 [5] 9 (fun v6 =>
 wU v6 (fun a7 =>
 wGO σ a7 [0] 2 (fun v8 =>
 wGI σ x0 [5] 3 (fun v9 =>
 wU v8 (fun a10 =>
 wLB σ a10 v9 (fun v11 =>
 W_X1_inRange G σ  (((v11).toInt64)) (((x1).toInt64)) (((x2).toInt64)) (fun v12 σ13 =>
 wIf (v12 = 0)
 (k5 (0 : Int32) σ13)
 (k5 (1 : Int32) σ13)) X))))))))))))
def W_X7_isSymbol (G : KG) (σ : KHp) (x0 : Nat) (x1 : Int32) (Q : Int32 → KHp → Prop) (X : String → Nat → KHp → Prop) : Prop :=
  wGO σ x0 [5] 8 (fun v1 =>
 wIf ((v1) = (some (kx_K G 10)))
 (wGO σ x0 [5] 9 (fun v2 =>
 wU v2 (fun a3 =>
 wGO σ a3 [0] 2 (fun v4 =>
 wGI σ x0 [5] 4 (fun v5 =>
 wU v4 (fun a6 =>
 wLB σ a6 v5 (fun v7 =>
 jn (κ := Int32 → KHp → Prop) (fun v9 σ10 =>
 (narrow .boolean (.int v9) = .int v9 ∧ Q (v9) σ10)) (fun k8 =>
 wIf (v7 = x1)
 (k8 (1 : Int32) σ)
 (k8 (0 : Int32) σ)))))))))
 (Q ((0 : Int32)) σ))
def W_X8_init (G : KG) (σ : KHp) (x0 : Nat) (x1 : Int32) (x2 : Int32) (Q : KHp → Prop) (X : String → Nat → KHp → Prop) : Prop :=
  W_J4_init_2 G σ x0 none none ((0 : Int32)) ((0 : Int32)) (fun σ2 =>
 wP σ2 x0 [6] 6 (.int (x1)) (fun σ3 =>
 wP σ3 x0 [6] 7 (.int (x2)) (fun σ4 =>
 Q σ4))) X
def W_X9_init (G : KG) (σ : KHp) (x0 : Nat) (x1 : Option Nat) (x2 : Int32) (x3 : Int32) (Q : KHp → Prop) (X : String → Nat → KHp → Prop) : Prop :=
  wP σ x0 [7, 8, 9, 10] 0 (va_rf (x1)) (fun σ1 =>
 wP σ1 x0 [7, 8, 9, 10] 1 (.int (x2)) (fun σ2 =>
 wP σ2 x0 [7, 8, 9, 10] 2 (.int (x3)) (fun σ3 =>
 Q σ3)))
def W_X9_first (G : KG) (σ : KHp) (x0 : Nat) (Q : Int32 → KHp → Prop) (X : String → Nat → KHp → Prop) : Prop :=
  Q ((0 : Int32)) σ
def W_X9_out (G : KG) (σ : KHp) (x0 : Nat) (Q : Int32 → KHp → Prop) (X : String → Nat → KHp → Prop) : Prop :=
  Q ((0 : Int32)) σ
def W_X9_at (G : KG) (σ : KHp) (x0 : Nat) (x1 : Option Nat) (x2 : Int32) (x3 : Int32) (x4 : UInt32) (Q : UInt32 → KHp → Prop) (X : String → Nat → KHp → Prop) : Prop :=
  wGI σ x0 [7, 8, 9, 10] 2 (fun v1 =>
 wU x1 (fun a2 =>
 wLF σ a2 x2 (fun v3 =>
 wF (FP.fmul (FP.i2f v1) v3) (fun v4 =>
 Q (v4) σ))))
def W_X10_init (G : KG) (σ : KHp) (x0 : Nat) (x1 : Option Nat) (x2 : Int32) (x3 : Int32) (Q : KHp → Prop) (X : String → Nat → KHp → Prop) : Prop :=
  W_X9_init G σ x0 (x1) (x2) (x3) (fun σ2 =>
 Q σ2) X
def W_X10_kind (G : KG) (σ : KHp) (x0 : Nat) (Q : Int32 → KHp → Prop) (X : String → Nat → KHp → Prop) : Prop :=
  Q ((0 : Int32)) σ
def W_X11_init (G : KG) (σ : KHp) (x0 : Nat) (x1 : Option Nat) (x2 : Int32) (x3 : Int32) (x4 : Int32) (Q : KHp → Prop) (X : String → Nat → KHp → Prop) : Prop :=
  W_X9_init G σ x0 (x1) (x2) (x3) (fun σ2 =>
 wP σ2 x0 [8] 3 (.int (x4)) (fun σ3 =>
 Q σ3)) X
def W_X11_kind (G : KG) (σ : KHp) (x0 : Nat) (Q : Int32 → KHp → Prop) (X : String → Nat → KHp → Prop) : Prop :=
  Q ((1 : Int32)) σ
def W_X11_first (G : KG) (σ : KHp) (x0 : Nat) (Q : Int32 → KHp → Prop) (X : String → Nat → KHp → Prop) : Prop :=
  wGI σ x0 [8] 3 (fun v1 =>
 Q (v1) σ)
def W_X11_at (G : KG) (σ : KHp) (x0 : Nat) (x1 : Option Nat) (x2 : Int32) (x3 : Int32) (x4 : UInt32) (Q : UInt32 → KHp → Prop) (X : String → Nat → KHp → Prop) : Prop :=
  wGI σ x0 [8] 3 (fun v1 =>
 jn (κ := UInt32 → KHp → Prop) (fun v12 σ13 =>
 Q (v12) σ13) (fun k2 =>
 wIf (x2 < v1)
 (wGI σ x0 [8] 3 (fun v3 =>
 wU x1 (fun a4 =>
 wLen σ a4 (fun v5 =>
 (wR σ x0 8 ∧
 W_X9_at G σ x0 (some a4) (((x2 - v3) + v5)) (x3) (x4) (fun v6 σ7 =>
 wF (FP.fsub FP.fconst0 v6) (fun v8 =>
 k2 v8 σ7)) X)))))
 (wGI σ x0 [8] 3 (fun v9 =>
 (wR σ x0 8 ∧
 W_X9_at G σ x0 (x1) ((x2 - v9)) (x3) (x4) (fun v10 σ11 =>
 k2 v10 σ11) X)))))
def W_X12_init (G : KG) (σ : KHp) (x0 : Nat) (x1 : Option Nat) (x2 : Int32) (x3 : Int32) (x4 : Int32) (Q : KHp → Prop) (X : String → Nat → KHp → Prop) : Prop :=
  W_X9_init G σ x0 (x1) (x2) (x3) (fun σ2 =>
 wP σ2 x0 [9] 3 (.int (x4)) (fun σ3 =>
 Q σ3)) X
def W_X12_kind (G : KG) (σ : KHp) (x0 : Nat) (Q : Int32 → KHp → Prop) (X : String → Nat → KHp → Prop) : Prop :=
  Q ((2 : Int32)) σ
def W_X12_first (G : KG) (σ : KHp) (x0 : Nat) (Q : Int32 → KHp → Prop) (X : String → Nat → KHp → Prop) : Prop :=
  wGI σ x0 [9] 3 (fun v1 =>
 Q (v1) σ)
def W_X12_at (G : KG) (σ : KHp) (x0 : Nat) (x1 : Option Nat) (x2 : Int32) (x3 : Int32) (x4 : UInt32) (Q : UInt32 → KHp → Prop) (X : String → Nat → KHp → Prop) : Prop :=
  wGI σ x0 [9] 3 (fun v1 =>
 jn (κ := UInt32 → KHp → Prop) (fun v5 σ6 =>
 Q (v5) σ6) (fun k2 =>
 wIf (v1 ≤ x2)
 ((wR σ x0 9 ∧
 W_X9_at G σ x0 (x1) (x2) (x3) (x4) (fun v3 σ4 =>
 k2 v3 σ4) X))
 (k2 FP.fconst0 σ)))
def W_X13_init (G : KG) (σ : KHp) (x0 : Nat) (x1 : Option Nat) (x2 : Int32) (x3 : Int32) (x4 : Int32) (x5 : Int32) (Q : KHp → Prop) (X : String → Nat → KHp → Prop) : Prop :=
  W_X9_init G σ x0 (x1) (x2) (x3) (fun σ2 =>
 wP σ2 x0 [10] 3 (.int (x4)) (fun σ3 =>
 wP σ3 x0 [10] 4 (.int (x5)) (fun σ4 =>
 Q σ4))) X
def W_X13_kind (G : KG) (σ : KHp) (x0 : Nat) (Q : Int32 → KHp → Prop) (X : String → Nat → KHp → Prop) : Prop :=
  Q ((3 : Int32)) σ
def W_X13_first (G : KG) (σ : KHp) (x0 : Nat) (Q : Int32 → KHp → Prop) (X : String → Nat → KHp → Prop) : Prop :=
  wGI σ x0 [10] 3 (fun v1 =>
 Q (v1) σ)
def W_X13_out (G : KG) (σ : KHp) (x0 : Nat) (Q : Int32 → KHp → Prop) (X : String → Nat → KHp → Prop) : Prop :=
  wGI σ x0 [10] 4 (fun v1 =>
 Q (v1) σ)
def W_X13_at (G : KG) (σ : KHp) (x0 : Nat) (x1 : Option Nat) (x2 : Int32) (x3 : Int32) (x4 : UInt32) (Q : UInt32 → KHp → Prop) (X : String → Nat → KHp → Prop) : Prop :=
  jn (κ := UInt32 → KHp → Prop) (fun v5 σ6 =>
 Q (v5) σ6) (fun k1 =>
 wIf (x3 ≤ x2)
 ((wR σ x0 10 ∧
 W_X9_at G σ x0 (x1) (x2) (x3) (x4) (fun v2 σ3 =>
 wF (FP.fmul v2 x4) (fun v4 =>
 k1 v4 σ3)) X))
 (k1 FP.fconst0 σ))
def W_X14_init (G : KG) (bc bs : Nat) (σ : KHp) (x0 : Nat) (x1 : Option Nat) (x2 : Int32) (Q : KHp → Prop) (X : String → Nat → KHp → Prop) : Prop :=
  wN bc bs σ 16 [.int 0, .null, .int 0] (fun q1 σ2 =>
 wC (bc - 1) (bs - 3) (fun c5 c6 =>
 W_J2_init G c5 c6 σ2 q1 ((2 : Int32)) (fun σ4 =>
 wP σ4 x0 [11] 2 (.ref (q1)) (fun σ7 =>
 wP σ7 x0 [11] 0 (va_rf (x1)) (fun σ8 =>
 wPZ σ8 x0 [11] 1 x2 (fun σ9 =>
 Q σ9)))) X))
def W_X15_init (G : KG) (σ : KHp) (x0 : Nat) (x1 : Int32) (x2 : Int32) (x3 : Int32) (Q : KHp → Prop) (X : String → Nat → KHp → Prop) : Prop :=
  wP σ x0 [12] 0 (.int (x1)) (fun σ1 =>
 wPZ σ1 x0 [12] 2 x2 (fun σ2 =>
 wP σ2 x0 [12] 1 (.int (x3)) (fun σ3 =>
 Q σ3)))
def W_X15_holds (G : KG) (σ : KHp) (x0 : Nat) (x1 : Option Nat) (Q : Int32 → KHp → Prop) (X : String → Nat → KHp → Prop) : Prop :=
  wGI σ x0 [12] 2 (fun v1 =>
 jn (κ := Int32 → KHp → Prop) (fun v11 σ12 =>
 (narrow .boolean (.int v11) = .int v11 ∧ Q (v11) σ12)) (fun k2 =>
 wIf (v1 = 0)
 (wGI σ x0 [12] 0 (fun v3 =>
 wU x1 (fun a4 =>
 wLF σ a4 v3 (fun v5 =>
 wGI σ x0 [12] 1 (fun v6 =>
 wIf ((Op.cmpValue (FP.fcmp v5 (FP.i2f v6)) .l) ≤ 0)
 (k2 (0 : Int32) σ)
 (k2 (1 : Int32) σ))))))
 (wGI σ x0 [12] 0 (fun v7 =>
 wU x1 (fun a8 =>
 wLF σ a8 v7 (fun v9 =>
 wGI σ x0 [12] 1 (fun v10 =>
 wIf (0 ≤ (Op.cmpValue (FP.fcmp v9 (FP.i2f v10)) .g))
 (k2 (0 : Int32) σ)
 (k2 (1 : Int32) σ))))))))
def W_X16_init (G : KG) (σ : KHp) (x0 : Nat) (x1 : Option Nat) (x2 : Int32) (Q : KHp → Prop) (X : String → Nat → KHp → Prop) : Prop :=
  wP σ x0 [13] 0 (va_rf (x1)) (fun σ1 =>
 wP σ1 x0 [13] 1 (.int (x2)) (fun σ2 =>
 Q σ2))
def W_X17_init (G : KG) (σ : KHp) (x0 : Nat) (x1 : Int32) (x2 : Int32) (x3 : Int32) (Q : KHp → Prop) (X : String → Nat → KHp → Prop) : Prop :=
  wP σ x0 [14] 0 (.int (x1)) (fun σ1 =>
 wP σ1 x0 [14] 1 (.int (x2)) (fun σ2 =>
 wPZ σ2 x0 [14] 2 x3 (fun σ3 =>
 Q σ3)))
def WB_X18_of_19 (G : KG) (Q : UInt32 → KHp → Prop) (X : String → Nat → KHp → Prop)  (y1 : Option Nat)  (y4 : UInt32) (kI19 : KHp → Int32 → Int32 → Prop) (σ : KHp) (l5 : Int32) (l6 : Int32) : Prop :=
  wU y1 (fun a20001 =>
 wLen σ a20001 (fun v20002 =>
 wIf (v20002 ≤ l6)
 (Q ((FP.i2f l5)) σ)
 (wLF σ a20001 l6 (fun v20003 =>
 W_X1_magnitude G σ  (v20003) (fun v20004 σ20005 =>
 jn (κ := Int32 → KHp → Prop) (fun v20007 σ20008 =>
 kI19 σ20008 (l5 + v20007) (l6 + (1 : Int32))) (fun k20006 =>
 wIf (0 < (Op.cmpValue (FP.fcmp v20004 y4) .g))
 (k20006 (0 : Int32) σ20005)
 (k20006 (1 : Int32) σ20005))) X))))
def W_X18_of (G : KG) (σ : KHp) (x0 : Nat) (x1 : Option Nat) (x2 : Option Nat) (x3 : UInt32) (Q : UInt32 → KHp → Prop) (X : String → Nat → KHp → Prop) : Prop :=
  jn (κ := Int32 → KHp → Prop) (fun v1 σ2 =>
 wU x2 (fun a4 =>
 wLF σ2 a4 v1 (fun v5 =>
 wF (FP.fmul v5 (1028443341 : UInt32)) (fun v6 =>
 loopW2 (WB_X18_of_19 G Q X  x1 v6) 9000 σ2 (0 : Int32) (0 : Int32))))) (fun k3 =>
 (wR σ (kx_K G 11) 103 ∧ W_J20_ordinal G σ (kx_K G 11)  (fun r_ σ_ => k3 r_ σ_) X) ∨
 (wR σ (kx_K G 11) 105 ∧ W_J20_ordinal G σ (kx_K G 11)  (fun r_ σ_ => k3 r_ σ_) X) ∨
 (wR σ (kx_K G 11) 101 ∧ W_J20_ordinal G σ (kx_K G 11)  (fun r_ σ_ => k3 r_ σ_) X) ∨
 (wR σ (kx_K G 11) 102 ∧ W_J20_ordinal G σ (kx_K G 11)  (fun r_ σ_ => k3 r_ σ_) X) ∨
 (wR σ (kx_K G 11) 104 ∧ W_J20_ordinal G σ (kx_K G 11)  (fun r_ σ_ => k3 r_ σ_) X) ∨
 (wR σ (kx_K G 11) 106 ∧ W_J20_ordinal G σ (kx_K G 11)  (fun r_ σ_ => k3 r_ σ_) X))
def W_X19_of (G : KG) (σ : KHp) (x0 : Nat) (x1 : Option Nat) (x2 : Option Nat) (x3 : UInt32) (Q : UInt32 → KHp → Prop) (X : String → Nat → KHp → Prop) : Prop :=
  jn (κ := UInt32 → KHp → Prop) (fun v10 σ11 =>
 Q (v10) σ11) (fun k1 =>
 wIf (0 ≤ (Op.cmpValue (FP.fcmp x3 FP.fconst0) .g))
 (jn (κ := Int32 → KHp → Prop) (fun v2 σ3 =>
 wU x2 (fun a5 =>
 wLF σ3 a5 v2 (fun v6 =>
 wF (FP.fsub v6 x3) (fun v7 =>
 W_X1_magnitude G σ3  (v7) (fun v8 σ9 =>
 k1 v8 σ9) X)))) (fun k4 =>
 (wR σ (kx_K G 12) 103 ∧ W_J20_ordinal G σ (kx_K G 12)  (fun r_ σ_ => k4 r_ σ_) X) ∨
 (wR σ (kx_K G 12) 105 ∧ W_J20_ordinal G σ (kx_K G 12)  (fun r_ σ_ => k4 r_ σ_) X) ∨
 (wR σ (kx_K G 12) 101 ∧ W_J20_ordinal G σ (kx_K G 12)  (fun r_ σ_ => k4 r_ σ_) X) ∨
 (wR σ (kx_K G 12) 102 ∧ W_J20_ordinal G σ (kx_K G 12)  (fun r_ σ_ => k4 r_ σ_) X) ∨
 (wR σ (kx_K G 12) 104 ∧ W_J20_ordinal G σ (kx_K G 12)  (fun r_ σ_ => k4 r_ σ_) X) ∨
 (wR σ (kx_K G 12) 106 ∧ W_J20_ordinal G σ (kx_K G 12)  (fun r_ σ_ => k4 r_ σ_) X)))
 (k1 FP.fconst0 σ))
def W_X20_init (G : KG) (σ : KHp) (x0 : Nat) (x1 : Int32) (x2 : Int32) (x3 : Int32) (x4 : Int32) (x5 : UInt32) (x6 : Option Nat) (Q : KHp → Prop) (X : String → Nat → KHp → Prop) : Prop :=
  wP σ x0 [15] 0 (.int (x1)) (fun σ1 =>
 wP σ1 x0 [15] 1 (.int (x2)) (fun σ2 =>
 wP σ2 x0 [15] 2 (.int (x3)) (fun σ3 =>
 wP σ3 x0 [15] 3 (.int (x4)) (fun σ4 =>
 wP σ4 x0 [15] 4 (.float (x5)) (fun σ5 =>
 wP σ5 x0 [15] 5 (va_rf (x6)) (fun σ6 =>
 Q σ6))))))
def WB_X21_of_6 (G : KG) (Q : UInt32 → KHp → Prop) (X : String → Nat → KHp → Prop)  (y1 : Option Nat) (kI6 : KHp → UInt32 → Int32 → Prop) (σ : KHp) (l4 : UInt32) (l5 : Int32) : Prop :=
  wU y1 (fun a7001 =>
 wLen σ a7001 (fun v7002 =>
 wIf (v7002 ≤ l5)
 (Q (l4) σ)
 (wLF σ a7001 l5 (fun v7003 =>
 W_X1_magnitude G σ  (v7003) (fun v7004 σ7005 =>
 jn (κ := UInt32 → KHp → Prop) (fun v7010 σ7011 =>
 kI6 σ7011 v7010 (l5 + (1 : Int32))) (fun k7006 =>
 wIf ((Op.cmpValue (FP.fcmp v7004 l4) .l) ≤ 0)
 (k7006 l4 σ7005)
 (wLF σ7005 a7001 l5 (fun v7007 =>
 W_X1_magnitude G σ7005  (v7007) (fun v7008 σ7009 =>
 k7006 v7008 σ7009) X)))) X))))
def W_X21_of (G : KG) (σ : KHp) (x0 : Nat) (x1 : Option Nat) (x2 : Option Nat) (x3 : UInt32) (Q : UInt32 → KHp → Prop) (X : String → Nat → KHp → Prop) : Prop :=
  loopW2 (WB_X21_of_6 G Q X  x1) 9000 σ FP.fconst0 (0 : Int32)
def WB_X22_of_6 (G : KG) (Q : UInt32 → KHp → Prop) (X : String → Nat → KHp → Prop)  (y1 : Option Nat) (kI6 : KHp → UInt32 → Int32 → Prop) (σ : KHp) (l4 : UInt32) (l5 : Int32) : Prop :=
  wU y1 (fun a7001 =>
 wLen σ a7001 (fun v7002 =>
 wIf (v7002 ≤ l5)
 (wLen σ a7001 (fun v7003 =>
 wF (FP.fdiv l4 (FP.i2f v7003)) (fun v7004 =>
 Q (v7004) σ)))
 (wLF σ a7001 l5 (fun v7005 =>
 W_X1_magnitude G σ  (v7005) (fun v7006 σ7007 =>
 wF (FP.fadd l4 v7006) (fun v7008 =>
 kI6 σ7007 v7008 (l5 + (1 : Int32)))) X))))
def W_X22_of (G : KG) (σ : KHp) (x0 : Nat) (x1 : Option Nat) (x2 : Option Nat) (x3 : UInt32) (Q : UInt32 → KHp → Prop) (X : String → Nat → KHp → Prop) : Prop :=
  loopW2 (WB_X22_of_6 G Q X  x1) 9000 σ FP.fconst0 (0 : Int32)
def WB_X23_of_9 (G : KG) (Q : UInt32 → KHp → Prop) (X : String → Nat → KHp → Prop)  (y1 : Option Nat) (kI9 : KHp → UInt32 → UInt32 → Int32 → Prop) (σ : KHp) (l4 : UInt32) (l5 : UInt32) (l6 : Int32) : Prop :=
  wU y1 (fun a10001 =>
 wLen σ a10001 (fun v10002 =>
 wIf (v10002 ≤ l6)
 (Q (l4) σ)
 (wLF σ a10001 l6 (fun v10003 =>
 wF (FP.fsub v10003 l5) (fun v10004 =>
 W_X1_magnitude G σ  (v10004) (fun v10005 σ10006 =>
 jn (κ := UInt32 → KHp → Prop) (fun v10008 σ10009 =>
 wLF σ10009 a10001 l6 (fun v10010 =>
 kI9 σ10009 v10008 v10010 (l6 + (1 : Int32)))) (fun k10007 =>
 wIf ((Op.cmpValue (FP.fcmp v10005 l4) .l) ≤ 0)
 (k10007 l4 σ10006)
 (k10007 v10005 σ10006))) X)))))
def W_X23_of (G : KG) (σ : KHp) (x0 : Nat) (x1 : Option Nat) (x2 : Option Nat) (x3 : UInt32) (Q : UInt32 → KHp → Prop) (X : String → Nat → KHp → Prop) : Prop :=
  loopW3 (WB_X23_of_9 G Q X  x1) 9000 σ FP.fconst0 FP.fconst0 (0 : Int32)
def WB_X24_of_6 (G : KG) (Q : UInt32 → KHp → Prop) (X : String → Nat → KHp → Prop)  (y1 : Option Nat) (kI6 : KHp → UInt32 → Int32 → Prop) (σ : KHp) (l4 : UInt32) (l5 : Int32) : Prop :=
  wU y1 (fun a7001 =>
 wLen σ a7001 (fun v7002 =>
 wIf (v7002 ≤ l5)
 (wLen σ a7001 (fun v7003 =>
 wF (FP.fdiv l4 (FP.i2f v7003)) (fun v7004 =>
 Q (v7004) σ)))
 (wLF σ a7001 l5 (fun v7005 =>
 wLF σ a7001 l5 (fun v7006 =>
 wF (FP.fmul v7005 v7006) (fun v7007 =>
 wF (FP.fadd l4 v7007) (fun v7008 =>
 kI6 σ v7008 (l5 + (1 : Int32)))))))))
def W_X24_of (G : KG) (σ : KHp) (x0 : Nat) (x1 : Option Nat) (x2 : Option Nat) (x3 : UInt32) (Q : UInt32 → KHp → Prop) (X : String → Nat → KHp → Prop) : Prop :=
  loopW2 (WB_X24_of_6 G Q X  x1) 9000 σ FP.fconst0 (0 : Int32)
def W_J2_get (G : KG) (σ : KHp) (x0 : Nat) (x1 : Int32) (Q : Option Nat → KHp → Prop) (X : String → Nat → KHp → Prop) : Prop :=
  wGI σ x0 [16] 2 (fun v1 =>
 W_J22_checkIndex G σ  (x1) (v1) (fun v2 σ3 =>
 (wR σ3 x0 16 ∧
 W_J2_elementData G σ3 x0 (x1) (fun v4 σ5 =>
 Q (v4) σ5) X)) X)
def W_J2_listIterator (G : KG) (σ : KHp) (x0 : Nat) (x1 : Int32) (Q : Option Nat → KHp → Prop) (X : String → Nat → KHp → Prop) : Prop :=
  (wR σ x0 16 ∧
 W_J2_rangeCheckForAdd G σ x0 (x1) (fun σ2 =>
 False) X)
def W_J2_remove (G : KG) (σ : KHp) (x0 : Nat) (x1 : Int32) (Q : Option Nat → KHp → Prop) (X : String → Nat → KHp → Prop) : Prop :=
  wGI σ x0 [16] 2 (fun v1 =>
 W_J22_checkIndex G σ  (x1) (v1) (fun v2 σ3 =>
 wGO σ3 x0 [16] 1 (fun v4 =>
 wU v4 (fun a5 =>
 wLO σ3 a5 x1 (fun v6 =>
 (wR σ3 x0 16 ∧
 W_J2_fastRemove G σ3 x0 (some a5) (x1) (fun σ8 =>
 Q (v6) σ8) X))))) X)
def W_J9_checkBoundsBeginEnd (G : KG) (σ : KHp) (x0 : Int32) (x1 : Int32) (x2 : Int32) (Q : KHp → Prop) (X : String → Nat → KHp → Prop) : Prop :=
  jv (wSt G 400) (fun v1 =>
 W_J14_checkFromToIndex G σ  (x0) (x1) (x2) (v1) (fun v2 σ3 =>
 Q σ3) X)
def W_J9_length (G : KG) (σ : KHp) (x0 : Nat) (Q : Int32 → KHp → Prop) (X : String → Nat → KHp → Prop) : Prop :=
  wGO σ x0 [20] 0 (fun v1 =>
 wU v1 (fun a2 =>
 wLen σ a2 (fun v3 =>
 (wR σ x0 20 ∧
 W_J9_coder G σ x0  (fun v4 σ5 =>
 Q ((v3 >>> (v4 &&& 31))) σ5) X))))
def W_J9_checkBoundsOffCount (G : KG) (σ : KHp) (x0 : Int32) (x1 : Int32) (x2 : Int32) (Q : Int32 → KHp → Prop) (X : String → Nat → KHp → Prop) : Prop :=
  jv (wSt G 400) (fun v1 =>
 W_J14_checkFromIndexSize G σ  (x0) (x1) (x2) (v1) (fun v2 σ3 =>
 Q (v2) σ3) X)
def W_J9_checkIndex (G : KG) (σ : KHp) (x0 : Int32) (x1 : Int32) (Q : KHp → Prop) (X : String → Nat → KHp → Prop) : Prop :=
  jv (wSt G 400) (fun v1 =>
 W_J14_checkIndex G σ  (x0) (x1) (v1) (fun v2 σ3 =>
 Q σ3) X)
def W_J9_equals (G : KG) (σ : KHp) (x0 : Nat) (x1 : Option Nat) (Q : Int32 → KHp → Prop) (X : String → Nat → KHp → Prop) : Prop :=
  wIf ((some x0) = (x1))
 (Q ((1 : Int32)) σ)
 (wU x1 (fun a1 =>
 wIn σ a1 20 [] (fun v2 =>
 jn (κ := Int32 → KHp → Prop) (fun v14 σ15 =>
 (narrow .boolean (.int v14) = .int v14 ∧ Q (v14) σ15)) (fun k3 =>
 wIf (v2 = 0)
 (k3 (0 : Int32) σ)
 ((wR σ a1 20 ∧
 wIf ((1 : Int32) = 0)
 (wGO σ x0 [20] 0 (fun v4 =>
 wGO σ a1 [20] 0 (fun v5 =>
 W_J15_equals G σ  (v4) (v5) (fun v6 σ7 =>
 wIf (v6 = 0)
 (k3 (0 : Int32) σ7)
 (k3 (1 : Int32) σ7)) X)))
 (wGI σ x0 [20] 1 (fun v8 =>
 wGI σ a1 [20] 1 (fun v9 =>
 wIf (v8 = v9)
 (wGO σ x0 [20] 0 (fun v10 =>
 wGO σ a1 [20] 0 (fun v11 =>
 W_J15_equals G σ  (v10) (v11) (fun v12 σ13 =>
 wIf (v12 = 0)
 (k3 (0 : Int32) σ13)
 (k3 (1 : Int32) σ13)) X)))
 (k3 (0 : Int32) σ))))))))))
def W_J10_newBytesFor (G : KG) (bc bs : Nat) (σ : KHp) (x0 : Int32) (Q : Option Nat → KHp → Prop) (X : String → Nat → KHp → Prop) : Prop :=
  W_J10_newBytesLength G σ  (x0) (fun v1 σ2 =>
 wNA bc bs σ2 .byte (.inl (fun _ => 0)) v1 (fun n5 q3 σ4 =>
 Q (some q3) σ4)) X
def W_J10_checkBoundsBeginEnd (G : KG) (σ : KHp) (x0 : Int32) (x1 : Int32) (x2 : Option Nat) (Q : KHp → Prop) (X : String → Nat → KHp → Prop) : Prop :=
  W_J10_length G σ  (x2) (fun v1 σ2 =>
 W_J9_checkBoundsBeginEnd G σ2  (x0) (x1) (v1) (fun σ4 =>
 Q σ4) X) X
def W_J10_checkBoundsOffCount (G : KG) (σ : KHp) (x0 : Int32) (x1 : Int32) (x2 : Option Nat) (Q : KHp → Prop) (X : String → Nat → KHp → Prop) : Prop :=
  W_J10_length G σ  (x2) (fun v1 σ2 =>
 W_J9_checkBoundsOffCount G σ2  (x0) (x1) (v1) (fun v3 σ4 =>
 Q σ4) X) X
def W_J10_getChars (G : KG) (σ : KHp) (x0 : Int32) (x1 : Int32) (x2 : Int32) (x3 : Option Nat) (Q : Int32 → KHp → Prop) (X : String → Nat → KHp → Prop) : Prop :=
  W_J10_checkBoundsBeginEnd G σ  (x1) (x2) (x3) (fun σ2 =>
 W_J10_getChars_2 G σ2  (x0) (x2) (x3) (fun v3 σ4 =>
 wIf ((1 : Int32) = 0)
 (wIf (x1 = v3)
 (Q (v3) σ4)
 (False))
 (Q (v3) σ4)) X) X
def WB_J10_compress_2_10 (G : KG) (Q : Int32 → KHp → Prop) (X : String → Nat → KHp → Prop)  (y0 : Option Nat)  (y2 : Option Nat)  (y4 : Int32) (kI10 : KHp → Int32 → Int32 → Int32 → Prop) (σ : KHp) (l1 : Int32) (l3 : Int32) (l5 : Int32) : Prop :=
  wIf (y4 ≤ l5)
 (Q (y4) σ)
 (W_J10_getChar G σ  (y0) (l1) (fun v11001 σ11002 =>
 wIf (v11001 ≤ (255 : Int32))
 (wU y2 (fun a11003 =>
 wSB σ11002 a11003 l3 (((v11001).toInt8.toInt32)) (fun σ11004 =>
 kI10 σ11004 (l1 + (1 : Int32)) (l3 + (1 : Int32)) (l5 + (1 : Int32)))))
 (Q (l5) σ11002)) X)
def W_J10_compress_2 (G : KG) (σ : KHp) (x0 : Option Nat) (x1 : Int32) (x2 : Option Nat) (x3 : Int32) (x4 : Int32) (Q : Int32 → KHp → Prop) (X : String → Nat → KHp → Prop) : Prop :=
  W_J10_checkBoundsOffCount G σ  (x1) (x4) (x0) (fun σ2 =>
 loopW3 (WB_J10_compress_2_10 G Q X  x0 x2 x4) 9000 σ2 x1 x3 (0 : Int32)) X
def W_J10_checkIndex (G : KG) (σ : KHp) (x0 : Int32) (x1 : Option Nat) (Q : KHp → Prop) (X : String → Nat → KHp → Prop) : Prop :=
  W_J10_length G σ  (x1) (fun v1 σ2 =>
 W_J9_checkIndex G σ2  (x0) (v1) (fun σ4 =>
 Q σ4) X) X
def W_J10_charAt (G : KG) (σ : KHp) (x0 : Option Nat) (x1 : Int32) (Q : Int32 → KHp → Prop) (X : String → Nat → KHp → Prop) : Prop :=
  W_J10_checkIndex G σ  (x1) (x0) (fun σ2 =>
 W_J10_getChar G σ2  (x0) (x1) (fun v3 σ4 =>
 (narrow .char (.int v3) = .int v3 ∧ Q (v3) σ4)) X) X
def W_J11_newLength (G : KG) (σ : KHp) (x0 : Int32) (x1 : Int32) (x2 : Int32) (Q : Int32 → KHp → Prop) (X : String → Nat → KHp → Prop) : Prop :=
  W_J12_max G σ  (x1) (x2) (fun v1 σ2 =>
 wIf ((x0 + v1) ≤ (0 : Int32))
 (False)
 (wIf ((2147483639 : Int32) < (x0 + v1))
 (False)
 (Q ((x0 + v1)) σ2))) X
def W_J11_vectorizedHashCode (G : KG) (σ : KHp) (x0 : Option Nat) (x1 : Int32) (x2 : Int32) (x3 : Int32) (x4 : Int32) (Q : Int32 → KHp → Prop) (X : String → Nat → KHp → Prop) : Prop :=
  jn (κ := Int32 → KHp → Prop) (fun v16 σ17 =>
 Q (v16) σ17) (fun k1 =>
 wIf (x4 = (4 : Int32))
 (wU x0 (fun a2 =>
 (wAr σ a2 "[B" ∧
 W_J11_signedHashCode G σ  (x3) (some a2) (x1) (x2) (fun v3 σ4 =>
 k1 v3 σ4) X)))
 (wIf (x4 = (5 : Int32))
 (wU x0 (fun a5 =>
 False))
 (wIf (x4 = (6 : Int32))
 (False)
 (wIf (x4 = (7 : Int32))
 (False)
 (wIf (x4 = (8 : Int32))
 (wU x0 (fun a7 =>
 (wAr σ a7 "[B" ∧
 W_J11_hashCode_2 G σ  (x3) (some a7) (x1) (x2) (fun v8 σ9 =>
 k1 v8 σ9) X)))
 (wIf (x4 = (9 : Int32))
 (wU x0 (fun a10 =>
 (wAr σ a10 "[S" ∧
 W_J11_hashCode_3 G σ  (x3) (some a10) (x1) (x2) (fun v11 σ12 =>
 k1 v11 σ12) X)))
 (wIf (x4 = (10 : Int32))
 (wU x0 (fun a13 =>
 (wAr σ a13 "[I" ∧
 W_J11_hashCode_4 G σ  (x3) (some a13) (x1) (x2) (fun v14 σ15 =>
 k1 v14 σ15) X)))
 (False))))))))
def W_J13_copyOfRangeByte (G : KG) (bc bs : Nat) (σ : KHp) (x0 : Option Nat) (x1 : Int32) (x2 : Int32) (Q : Option Nat → KHp → Prop) (X : String → Nat → KHp → Prop) : Prop :=
  W_J13_checkLength G σ  (x1) (x2) (fun σ2 =>
 wNA bc bs σ2 .byte (.inl (fun _ => 0)) (x2 - x1) (fun n5 q3 σ4 =>
 wU x0 (fun a6 =>
 wLen σ4 a6 (fun v7 =>
 W_J12_min G σ4  ((v7 - x1)) ((x2 - x1)) (fun v8 σ9 =>
 wCp σ9 a6 x1 q3 (0 : Int32) v8 (fun σ10 =>
 Q (some q3) σ10)) X)))) X
def W_J13_copyOf_2 (G : KG) (bc bs : Nat) (σ : KHp) (x0 : Option Nat) (x1 : Int32) (Q : Option Nat → KHp → Prop) (X : String → Nat → KHp → Prop) : Prop :=
  wU x0 (fun a1 =>
 (wAr σ a1 "[Ljava/lang/Object;" ∧
 wC bc bs (fun c4 c5 =>
 W_J13_copyOf_3 G c4 c5 σ  (some a1) (x1) (some (kx_K G 300)) (fun v2 σ3 =>
 Q (v2) σ3) X)))
def WB_J13_fill_10 (G : KG) (Q : KHp → Prop) (X : String → Nat → KHp → Prop)  (y0 : Nat)  (y2 : Int32)  (y3 : Int32) (kI10 : KHp → Int32 → Prop) (σ : KHp) (l4 : Int32) : Prop :=
  wIf (y2 ≤ l4)
 (Q σ)
 (wSB σ y0 l4 (y3) (fun σ11001 =>
 kI10 σ11001 (l4 + (1 : Int32))))
def W_J13_fill (G : KG) (σ : KHp) (x0 : Option Nat) (x1 : Int32) (x2 : Int32) (x3 : Int32) (Q : KHp → Prop) (X : String → Nat → KHp → Prop) : Prop :=
  wU x0 (fun a1 =>
 wLen σ a1 (fun v2 =>
 W_J13_rangeCheck G σ  (v2) (x1) (x2) (fun σ4 =>
 loopW1 (WB_J13_fill_10 G Q X  a1 x2 x3) 9000 σ4 x1) X))
def W_J15_hashCode (G : KG) (σ : KHp) (x0 : Option Nat) (Q : Int32 → KHp → Prop) (X : String → Nat → KHp → Prop) : Prop :=
  wU x0 (fun a1 =>
 wLen σ a1 (fun v2 =>
 jn (κ := Int32 → KHp → Prop) (fun v8 σ9 =>
 Q (v8) σ9) (fun k3 =>
 wIf (v2 = (0 : Int32))
 (k3 (0 : Int32) σ)
 (wIf (v2 = (1 : Int32))
 (wLB σ a1 (0 : Int32) (fun v4 =>
 k3 (v4 &&& (255 : Int32)) σ))
 (wLen σ a1 (fun v5 =>
 W_J11_vectorizedHashCode G σ  (some a1) ((0 : Int32)) (v5) ((0 : Int32)) ((4 : Int32)) (fun v6 σ7 =>
 k3 v6 σ7) X))))))
def W_J15_charAt (G : KG) (σ : KHp) (x0 : Option Nat) (x1 : Int32) (Q : Int32 → KHp → Prop) (X : String → Nat → KHp → Prop) : Prop :=
  wU x0 (fun a1 =>
 wLen σ a1 (fun v2 =>
 W_J9_checkIndex G σ  (x1) (v2) (fun σ4 =>
 wLB σ4 a1 x1 (fun v5 =>
 (narrow .char (.int ((((v5 &&& (255 : Int32))).toUInt32 % 65536).toInt32)) = .int ((((v5 &&& (255 : Int32))).toUInt32 % 65536).toInt32) ∧ Q (((((v5 &&& (255 : Int32))).toUInt32 % 65536).toInt32)) σ4))) X))
def W_J15_fillNull (G : KG) (σ : KHp) (x0 : Option Nat) (x1 : Int32) (x2 : Int32) (Q : KHp → Prop) (X : String → Nat → KHp → Prop) : Prop :=
  W_J13_fill G σ  (x0) (x1) (x2) ((0 : Int32)) (fun σ2 =>
 Q σ2) X
def W_J18_linkLast (G : KG) (bc bs : Nat) (σ : KHp) (x0 : Nat) (x1 : Option Nat) (Q : KHp → Prop) (X : String → Nat → KHp → Prop) : Prop :=
  wGO σ x0 [21] 3 (fun v1 =>
 wN bc bs σ 24 [.null, .null, .null] (fun q2 σ3 =>
 W_J23_init G σ3 q2 (v1) (x1) none (fun σ5 =>
 wP σ5 x0 [21] 3 (.ref (q2)) (fun σ6 =>
 wIf (v1 = none)
 (wP σ6 x0 [21] 2 (.ref (q2)) (fun σ7 =>
 wGI σ7 x0 [21] 1 (fun v8 =>
 wP σ7 x0 [21] 1 (.int ((v8 + (1 : Int32)))) (fun σ9 =>
 wGI σ9 x0 [16, 21] 0 (fun v10 =>
 wP σ9 x0 [16, 21] 0 (.int ((v10 + (1 : Int32)))) (fun σ11 =>
 Q σ11))))))
 (wU v1 (fun a12 =>
 wP σ6 a12 [24] 1 (.ref (q2)) (fun σ13 =>
 wGI σ13 x0 [21] 1 (fun v14 =>
 wP σ13 x0 [21] 1 (.int ((v14 + (1 : Int32)))) (fun σ15 =>
 wGI σ15 x0 [16, 21] 0 (fun v16 =>
 wP σ15 x0 [16, 21] 0 (.int ((v16 + (1 : Int32)))) (fun σ17 =>
 Q σ17))))))))) X))
def W_J18_checkPositionIndex (G : KG) (σ : KHp) (x0 : Nat) (x1 : Int32) (Q : KHp → Prop) (X : String → Nat → KHp → Prop) : Prop :=
  (wR σ x0 21 ∧
 W_J18_isPositionIndex G σ x0 (x1) (fun v1 σ2 =>
 wIf (v1 = 0)
 (False)
 (Q σ2)) X)
def W_J18_checkElementIndex (G : KG) (σ : KHp) (x0 : Nat) (x1 : Int32) (Q : KHp → Prop) (X : String → Nat → KHp → Prop) : Prop :=
  (wR σ x0 21 ∧
 W_J18_isElementIndex G σ x0 (x1) (fun v1 σ2 =>
 wIf (v1 = 0)
 (False)
 (Q σ2)) X)
def W_J18_remove (G : KG) (σ : KHp) (x0 : Nat) (x1 : Int32) (Q : Option Nat → KHp → Prop) (X : String → Nat → KHp → Prop) : Prop :=
  (wR σ x0 21 ∧
 W_J18_checkElementIndex G σ x0 (x1) (fun σ2 =>
 (wR σ2 x0 21 ∧
 W_J18_node G σ2 x0 (x1) (fun v3 σ4 =>
 (wR σ4 x0 21 ∧
 W_J18_unlink G σ4 x0 (v3) (fun v5 σ6 =>
 Q (v5) σ6) X)) X)) X)
def W_J19_size (G : KG) (σ : KHp) (x0 : Nat) (Q : Int32 → KHp → Prop) (X : String → Nat → KHp → Prop) : Prop :=
  wGI σ x0 [22] 2 (fun v1 =>
 wGI σ x0 [22] 1 (fun v2 =>
 wGO σ x0 [22] 0 (fun v3 =>
 wU v3 (fun a4 =>
 wLen σ a4 (fun v5 =>
 W_J19_sub G σ  (v1) (v2) (v5) (fun v6 σ7 =>
 Q (v6) σ7) X)))))
def W_J19_pollFirst (G : KG) (σ : KHp) (x0 : Nat) (Q : Option Nat → KHp → Prop) (X : String → Nat → KHp → Prop) : Prop :=
  wGO σ x0 [22] 0 (fun v1 =>
 wGI σ x0 [22] 1 (fun v2 =>
 W_J19_elementAt G σ  (v1) (v2) (fun v3 σ4 =>
 wIf (v3 = none)
 (Q (v3) σ4)
 (wU v1 (fun a5 =>
 wSO σ4 a5 v2 none (fun σ6 =>
 wLen σ6 a5 (fun v7 =>
 W_J19_inc G σ6  (v2) (v7) (fun v8 σ9 =>
 wP σ9 x0 [22] 1 (.int (v8)) (fun σ10 =>
 Q (v3) σ10)) X))))) X))
def WB_J19_grow_145 (G : KG) (Q : KHp → Prop) (X : String → Nat → KHp → Prop)  (y5 : Nat)  (y8 : Int32) (kI145 : KHp → Nat → Nat → Int32 → Prop) (σ : KHp) (bc145 bs145 : Nat) (l7 : Int32) : Prop :=
  wIf (y8 ≤ l7)
 (Q σ)
 (wSO σ y5 l7 none (fun σ146001 =>
 kI145 σ146001 bc145 bs145 (l7 + (1 : Int32))))
def W_J19_grow (G : KG) (bc bs : Nat) (σ : KHp) (x0 : Nat) (x1 : Int32) (Q : KHp → Prop) (X : String → Nat → KHp → Prop) : Prop :=
  wGO σ x0 [22] 0 (fun v1 =>
 wU v1 (fun a2 =>
 wLen σ a2 (fun v3 =>
 jn (κ := Int32 → KHp → Nat → Nat → Prop) (fun v5 σ6 bcv5 bsv5 =>
 jn (κ := Int32 → KHp → Nat → Nat → Prop) (fun v12 σ13 bcv12 bsv12 =>
 wGO σ13 x0 [22] 0 (fun v14 =>
 wC bcv12 bsv12 (fun c17 c18 =>
 W_J13_copyOf_2 G c17 c18 σ13  (v14) (v12) (fun v15 σ16 =>
 wP σ16 x0 [22] 0 (va_rf (v15)) (fun σ19 =>
 wGI σ19 x0 [22] 2 (fun v20 =>
 wGI σ19 x0 [22] 1 (fun v21 =>
 wIf (v20 < v21)
 (wGI σ19 x0 [22] 1 (fun v22 =>
 wGI σ19 x0 [22] 1 (fun v23 =>
 wGI σ19 x0 [22] 1 (fun v24 =>
 wU v15 (fun a25 =>
 wCp σ19 a25 v22 a25 (v23 + (v12 - v3)) (v3 - v24) (fun σ26 =>
 wGI σ26 x0 [22] 1 (fun v27 =>
 wGI σ26 x0 [22] 1 (fun v28 =>
 wP σ26 x0 [22] 1 (.int ((v28 + (v12 - v3)))) (fun σ29 =>
 loopW3 (WB_J19_grow_145 G Q X  a25 (v28 + (v12 - v3))) 9000 σ29 (bcv12 - c17) (bsv12 - c18) v27)))))))))
 (wGI σ19 x0 [22] 2 (fun v31 =>
 wGI σ19 x0 [22] 1 (fun v32 =>
 wIf (v31 = v32)
 (wGI σ19 x0 [22] 1 (fun v33 =>
 wU v15 (fun a34 =>
 wLO σ19 a34 v33 (fun v35 =>
 wIf (v35 = none)
 (Q σ19)
 (wGI σ19 x0 [22] 1 (fun v36 =>
 wGI σ19 x0 [22] 1 (fun v37 =>
 wGI σ19 x0 [22] 1 (fun v38 =>
 wCp σ19 a34 v36 a34 (v37 + (v12 - v3)) (v3 - v38) (fun σ39 =>
 wGI σ39 x0 [22] 1 (fun v40 =>
 wGI σ39 x0 [22] 1 (fun v41 =>
 wP σ39 x0 [22] 1 (.int ((v41 + (v12 - v3)))) (fun σ42 =>
 loopW3 (WB_J19_grow_145 G Q X  a34 (v41 + (v12 - v3))) 9000 σ42 (bcv12 - c17) (bsv12 - c18) v40))))))))))))
 (Q σ19)))))))) X))) (fun k7 =>
 wIf (v5 < x1)
 ((wR σ6 x0 22 ∧
 W_J19_newCapacity G σ6 x0 (x1) (v5) (fun v8 σ9 =>
 k7 v8 σ9 bcv5 bsv5) X))
 (wIf (((v3 + v5) - (2147483639 : Int32)) ≤ 0)
 (k7 (v3 + v5) σ6 bcv5 bsv5)
 ((wR σ6 x0 22 ∧
 W_J19_newCapacity G σ6 x0 (x1) (v5) (fun v10 σ11 =>
 k7 v10 σ11 bcv5 bsv5) X))))) (fun k4 =>
 wIf ((64 : Int32) ≤ v3)
 (k4 (v3 >>> ((1 : Int32) &&& 31)) σ bc bs)
 (k4 (v3 + (2 : Int32)) σ bc bs)))))
def W_J19_clear (G : KG) (σ : KHp) (x0 : Nat) (Q : KHp → Prop) (X : String → Nat → KHp → Prop) : Prop :=
  wGO σ x0 [22] 0 (fun v1 =>
 wGI σ x0 [22] 1 (fun v2 =>
 wGI σ x0 [22] 2 (fun v3 =>
 W_J19_circularClear G σ  (v1) (v2) (v3) (fun σ5 =>
 wP σ5 x0 [22] 2 (.int ((0 : Int32))) (fun σ6 =>
 wP σ6 x0 [22] 1 (.int ((0 : Int32))) (fun σ7 =>
 Q σ7))) X)))
def W_J19_pollLast (G : KG) (σ : KHp) (x0 : Nat) (Q : Option Nat → KHp → Prop) (X : String → Nat → KHp → Prop) : Prop :=
  wGO σ x0 [22] 0 (fun v1 =>
 wGI σ x0 [22] 2 (fun v2 =>
 wU v1 (fun a3 =>
 wLen σ a3 (fun v4 =>
 W_J19_dec G σ  (v2) (v4) (fun v5 σ6 =>
 W_J19_elementAt G σ6  (some a3) (v5) (fun v7 σ8 =>
 wIf (v7 = none)
 (Q (v7) σ8)
 (wP σ8 x0 [22] 2 (.int (v5)) (fun σ9 =>
 wSO σ9 a3 v5 none (fun σ10 =>
 Q (v7) σ10)))) X) X))))
def W_J30_next (G : KG) (σ : KHp) (x0 : Nat) (Q : Option Nat → KHp → Prop) (X : String → Nat → KHp → Prop) : Prop :=
  (wR σ x0 28 ∧
 W_J30_checkForComodification G σ x0  (fun σ2 =>
 (wR σ2 x0 28 ∧
 W_J30_hasNext G σ2 x0  (fun v3 σ4 =>
 wIf (v3 = 0)
 (False)
 (wGO σ4 x0 [28] 1 (fun v5 =>
 wP σ4 x0 [28] 0 (va_rf (v5)) (fun σ6 =>
 wGO σ6 x0 [28] 1 (fun v7 =>
 wU v7 (fun a8 =>
 wGO σ6 a8 [24] 1 (fun v9 =>
 wP σ6 x0 [28] 1 (va_rf (v9)) (fun σ10 =>
 wGI σ10 x0 [28] 2 (fun v11 =>
 wP σ10 x0 [28] 2 (.int ((v11 + (1 : Int32)))) (fun σ12 =>
 wGO σ12 x0 [28] 0 (fun v13 =>
 wU v13 (fun a14 =>
 wGO σ12 a14 [24] 0 (fun v15 =>
 Q (v15) σ12))))))))))))) X)) X)
def W_J31_init (G : KG) (σ : KHp) (x0 : Nat) (x1 : Option Nat) (Q : KHp → Prop) (X : String → Nat → KHp → Prop) : Prop :=
  wP σ x0 [29] 3 (va_rf (x1)) (fun σ1 =>
 wGO σ1 x0 [29] 3 (fun v2 =>
 wU v2 (fun a3 =>
 (wR σ1 a3 22 ∧
 W_J19_size G σ1 a3  (fun v4 σ5 =>
 wP σ5 x0 [29] 1 (.int (v4)) (fun σ6 =>
 wP σ6 x0 [29] 2 (.int ((-1 : Int32))) (fun σ7 =>
 wU x1 (fun a8 =>
 wGI σ7 a8 [22] 1 (fun v9 =>
 wP σ7 x0 [29] 0 (.int (v9)) (fun σ10 =>
 Q σ10)))))) X))))
def W_X1_memoryCount (G : KG) (σ : KHp) (x0 : Nat) (Q : Int32 → KHp → Prop) (X : String → Nat → KHp → Prop) : Prop :=
  wGO σ x0 [0] 0 (fun v1 =>
 wU v1 (fun a2 =>
 wGO σ a2 [1] 4 (fun v3 =>
 wU v3 (fun a4 =>
 (wR σ a4 22 ∧
 W_J19_size G σ a4  (fun v5 σ6 =>
 Q (v5) σ6) X)))))
def WB_X1_totalMean_4 (G : KG) (Q : UInt32 → KHp → Prop) (X : String → Nat → KHp → Prop)  (y0 : Nat) (kI4 : KHp → UInt32 → Int32 → Prop) (σ : KHp) (l1 : UInt32) (l2 : Int32) : Prop :=
  wGO σ y0 [0] 0 (fun v5001 =>
 wU v5001 (fun a5002 =>
 wGO σ a5002 [1] 1 (fun v5003 =>
 wU v5003 (fun a5004 =>
 (wR σ a5004 16 ∧
 W_J2_size G σ a5004  (fun v5005 σ5006 =>
 wIf (v5005 ≤ l2)
 (Q (l1) σ5006)
 (wGO σ5006 y0 [0] 0 (fun v5007 =>
 wU v5007 (fun a5008 =>
 wGO σ5006 a5008 [1] 1 (fun v5009 =>
 wU v5009 (fun a5010 =>
 (wR σ5006 a5010 16 ∧
 W_J2_get G σ5006 a5010 (l2) (fun v5011 σ5012 =>
 wU v5011 (fun a5013 =>
 (wR σ5012 a5013 3 ∧
 wGI σ5012 a5013 [3] 2 (fun v5014 =>
 jn (κ := UInt32 → KHp → Prop) (fun v5021 σ5022 =>
 kI4 σ5022 v5021 (l2 + (1 : Int32))) (fun k5015 =>
 wIf (v5014 = 0)
 (wGI σ5012 a5013 [3] 7 (fun v5016 =>
 wIf (v5016 ≤ 0)
 (k5015 l1 σ5012)
 (wGO σ5012 a5013 [3] 1 (fun v5017 =>
 wU v5017 (fun a5018 =>
 wLF σ5012 a5018 (1 : Int32) (fun v5019 =>
 wF (FP.fadd l1 v5019) (fun v5020 =>
 k5015 v5020 σ5012)))))))
 (k5015 l1 σ5012)))))) X))))))) X)))))
def W_X1_totalMean (G : KG) (σ : KHp) (x0 : Nat) (Q : UInt32 → KHp → Prop) (X : String → Nat → KHp → Prop) : Prop :=
  loopW2 (WB_X1_totalMean_4 G Q X  x0) 9000 σ FP.fconst0 (0 : Int32)
def W_X1_undoCount (G : KG) (σ : KHp) (x0 : Nat) (Q : Int32 → KHp → Prop) (X : String → Nat → KHp → Prop) : Prop :=
  wGO σ x0 [0] 1 (fun v1 =>
 wU v1 (fun a2 =>
 (wR σ a2 22 ∧
 W_J19_size G σ a2  (fun v3 σ4 =>
 Q (v3) σ4) X)))
def W_X1_append (G : KG) (bc bs : Nat) (σ : KHp) (x0 : Nat) (x1 : Int32) (x2 : Int32) (x3 : Int32) (x4 : Int32) (x5 : Int32) (Q : Int32 → KHp → Prop) (X : String → Nat → KHp → Prop) : Prop :=
  wGI σ x0 [0] 3 (fun v1 =>
 jn (κ := Int32 → KHp → Nat → Nat → Prop) (fun v3 σ4 bcv3 bsv3 =>
 wC bcv3 bsv3 (fun c7 c8 =>
 W_X1_requireState G c7 c8 σ4  (v3) (fun σ6 =>
 (wR σ6 x0 0 ∧
 W_X1_appendWord G σ6 x0 (x1) (fun σ10 =>
 (wR σ10 x0 0 ∧
 W_X1_appendWord G σ10 x0 (x2) (fun σ12 =>
 (wR σ12 x0 0 ∧
 W_X1_appendWord G σ12 x0 (x3) (fun σ14 =>
 (wR σ14 x0 0 ∧
 W_X1_appendWord G σ14 x0 (x4) (fun σ16 =>
 (wR σ16 x0 0 ∧
 W_X1_appendWord G σ16 x0 (x5) (fun σ18 =>
 wGI σ18 x0 [0] 3 (fun v19 =>
 Q (v19) σ18)) X)) X)) X)) X)) X)) X)) (fun k2 =>
 wIf ((1000 : Int32) < (v1 + (20 : Int32)))
 (k2 (0 : Int32) σ bc bs)
 (k2 (1 : Int32) σ bc bs)))
def W_X1_count (G : KG) (bc bs : Nat) (σ : KHp) (x0 : Nat) (x1 : Int32) (Q : Int32 → KHp → Prop) (X : String → Nat → KHp → Prop) : Prop :=
  W_X1_inRange G σ  (((x1).toInt64)) ((0 : Int64)) ((7 : Int64)) (fun v1 σ2 =>
 wC bc bs (fun c5 c6 =>
 W_X1_requireArgument G c5 c6 σ2  (v1) (fun σ4 =>
 jn (κ := Int32 → KHp → Nat → Nat → Prop) (fun v41 σ42 bcv41 bsv41 =>
 Q (v41) σ42) (fun k7 =>
 wIf (x1 = (0 : Int32))
 (wGO σ4 x0 [0] 0 (fun v8 =>
 wU v8 (fun a9 =>
 wGO σ4 a9 [1] 1 (fun v10 =>
 wU v10 (fun a11 =>
 (wR σ4 a11 16 ∧
 W_J2_size G σ4 a11  (fun v12 σ13 =>
 k7 v12 σ13 (bc - c5) (bs - c6)) X))))))
 (wIf (x1 = (1 : Int32))
 ((wR σ4 x0 0 ∧
 W_X1_loadCount G σ4 x0  (fun v14 σ15 =>
 k7 v14 σ15 (bc - c5) (bs - c6)) X))
 (wIf (x1 = (2 : Int32))
 ((wR σ4 x0 0 ∧
 W_X1_signatureCount G σ4 x0  (fun v16 σ17 =>
 k7 v16 σ17 (bc - c5) (bs - c6)) X))
 (wIf (x1 = (3 : Int32))
 (wGO σ4 x0 [0] 0 (fun v18 =>
 wU v18 (fun a19 =>
 wGO σ4 a19 [1] 2 (fun v20 =>
 wU v20 (fun a21 =>
 (wR σ4 a21 16 ∧
 W_J2_size G σ4 a21  (fun v22 σ23 =>
 k7 v22 σ23 (bc - c5) (bs - c6)) X))))))
 (wIf (x1 = (4 : Int32))
 (wGO σ4 x0 [0] 0 (fun v24 =>
 wU v24 (fun a25 =>
 wGO σ4 a25 [1] 3 (fun v26 =>
 wU v26 (fun a27 =>
 (wR σ4 a27 21 ∧
 W_J18_size G σ4 a27  (fun v28 σ29 =>
 k7 v28 σ29 (bc - c5) (bs - c6)) X))))))
 (wIf (x1 = (5 : Int32))
 (wGO σ4 x0 [0] 0 (fun v30 =>
 wU v30 (fun a31 =>
 wGO σ4 a31 [1] 0 (fun v32 =>
 wU v32 (fun a33 =>
 wGI σ4 a33 [2] 0 (fun v34 =>
 k7 v34 σ4 (bc - c5) (bs - c6)))))))
 (wIf (x1 = (6 : Int32))
 (wGO σ4 x0 [0] 0 (fun v35 =>
 wU v35 (fun a36 =>
 wGI σ4 a36 [1] 10 (fun v37 =>
 k7 v37 σ4 (bc - c5) (bs - c6)))))
 (wGO σ4 x0 [0] 0 (fun v38 =>
 wU v38 (fun a39 =>
 wGI σ4 a39 [1] 11 (fun v40 =>
 k7 v40 σ4 (bc - c5) (bs - c6))))))))))))) X)) X
def W_X1_branchAt (G : KG) (bc bs : Nat) (σ : KHp) (x0 : Nat) (x1 : Int32) (Q : Option Nat → KHp → Prop) (X : String → Nat → KHp → Prop) : Prop :=
  wGO σ x0 [0] 0 (fun v1 =>
 wU v1 (fun a2 =>
 wGO σ a2 [1] 1 (fun v3 =>
 wU v3 (fun a4 =>
 (wR σ a4 16 ∧
 W_J2_size G σ a4  (fun v5 σ6 =>
 W_X1_inRange G σ6  (((x1).toInt64)) ((0 : Int64)) ((((v5 - (1 : Int32))).toInt64)) (fun v7 σ8 =>
 wC bc bs (fun c11 c12 =>
 W_X1_requireIndex G c11 c12 σ8  (v7) (fun σ10 =>
 wGO σ10 x0 [0] 0 (fun v13 =>
 wU v13 (fun a14 =>
 wGO σ10 a14 [1] 1 (fun v15 =>
 wU v15 (fun a16 =>
 (wR σ10 a16 16 ∧
 W_J2_get G σ10 a16 (x1) (fun v17 σ18 =>
 wU v17 (fun a19 =>
 (wR σ18 a19 3 ∧
 Q (some a19) σ18))) X)))))) X)) X) X)))))
def W_X1_loadAt (G : KG) (bc bs : Nat) (σ : KHp) (x0 : Nat) (x1 : Int32) (Q : Option Nat → KHp → Prop) (X : String → Nat → KHp → Prop) : Prop :=
  (wR σ x0 0 ∧
 W_X1_loadCount G σ x0  (fun v1 σ2 =>
 W_X1_inRange G σ2  (((x1).toInt64)) ((0 : Int64)) ((((v1 - (1 : Int32))).toInt64)) (fun v3 σ4 =>
 wC bc bs (fun c7 c8 =>
 W_X1_requireIndex G c7 c8 σ4  (v3) (fun σ6 =>
 wGO σ6 x0 [0] 0 (fun v9 =>
 wU v9 (fun a10 =>
 wGO σ6 a10 [1] 0 (fun v11 =>
 wU v11 (fun a12 =>
 wGO σ6 a12 [2] 6 (fun v13 =>
 wU v13 (fun a14 =>
 (wR σ6 a14 16 ∧
 W_J2_get G σ6 a14 (x1) (fun v15 σ16 =>
 wU v15 (fun a17 =>
 ((wR σ16 a17 7 ∨ wR σ16 a17 8 ∨ wR σ16 a17 9 ∨ wR σ16 a17 10) ∧
 Q (some a17) σ16))) X)))))))) X)) X) X)
def W_X1_isOn (G : KG) (bc bs : Nat) (σ : KHp) (x0 : Nat) (x1 : Int32) (Q : Int32 → KHp → Prop) (X : String → Nat → KHp → Prop) : Prop :=
  (wR σ x0 0 ∧
 wC bc bs (fun c3 c4 =>
 W_X1_loadAt G c3 c4 σ x0 (x1) (fun v1 σ2 =>
 wGO σ2 x0 [0] 0 (fun v5 =>
 wU v5 (fun a6 =>
 wGO σ2 a6 [1] 5 (fun v7 =>
 wU v7 (fun a8 =>
 wLB σ2 a8 x1 (fun v9 =>
 (narrow .boolean (.int v9) = .int v9 ∧ Q (v9) σ2))))))) X))
def W_X1_state (G : KG) (bc bs : Nat) (σ : KHp) (x0 : Nat) (x1 : Int32) (Q : Int32 → KHp → Prop) (X : String → Nat → KHp → Prop) : Prop :=
  (wR σ x0 0 ∧
 wC bc bs (fun c3 c4 =>
 W_X1_branchAt G c3 c4 σ x0 (x1) (fun v1 σ2 =>
 wU v1 (fun a5 =>
 wGI σ2 a5 [3] 2 (fun v6 =>
 Q (v6) σ2))) X))
def W_X1_sample (G : KG) (bc bs : Nat) (σ : KHp) (x0 : Nat) (x1 : Int32) (x2 : Int32) (Q : UInt32 → KHp → Prop) (X : String → Nat → KHp → Prop) : Prop :=
  (wR σ x0 0 ∧
 wC bc bs (fun c3 c4 =>
 W_X1_branchAt G c3 c4 σ x0 (x1) (fun v1 σ2 =>
 wGO σ2 x0 [0] 0 (fun v5 =>
 wU v5 (fun a6 =>
 wGO σ2 a6 [1] 0 (fun v7 =>
 wU v7 (fun a8 =>
 wGI σ2 a8 [2] 0 (fun v9 =>
 W_X1_inRange G σ2  (((x2).toInt64)) ((0 : Int64)) ((((v9 - (1 : Int32))).toInt64)) (fun v10 σ11 =>
 wC (bc - c3) (bs - c4) (fun c14 c15 =>
 W_X1_requireArgument G c14 c15 σ11  (v10) (fun σ13 =>
 wU v1 (fun a16 =>
 wGI σ13 a16 [3] 7 (fun v17 =>
 jn (κ := Int32 → KHp → Nat → Nat → Prop) (fun v19 σ20 bcv19 bsv19 =>
 wC bcv19 bsv19 (fun c23 c24 =>
 W_X1_requireElement G c23 c24 σ20  (v19) (fun σ22 =>
 wGO σ22 a16 [3] 0 (fun v25 =>
 wU v25 (fun a26 =>
 wLF σ22 a26 x2 (fun v27 =>
 Q (v27) σ22)))) X)) (fun k18 =>
 wIf (v17 ≤ 0)
 (k18 (0 : Int32) σ13 (bc - c3 - c14) (bs - c4 - c15))
 (k18 (1 : Int32) σ13 (bc - c3 - c14) (bs - c4 - c15)))))) X)) X)))))) X))
def W_X1_feature (G : KG) (bc bs : Nat) (σ : KHp) (x0 : Nat) (x1 : Int32) (x2 : Int32) (Q : UInt32 → KHp → Prop) (X : String → Nat → KHp → Prop) : Prop :=
  (wR σ x0 0 ∧
 wC bc bs (fun c3 c4 =>
 W_X1_branchAt G c3 c4 σ x0 (x1) (fun v1 σ2 =>
 wC (bc - c3) (bs - c4) (fun c7 c8 =>
 W_X1_requireFeature G c7 c8 σ2  (x2) (fun σ6 =>
 wU v1 (fun a9 =>
 wGI σ6 a9 [3] 7 (fun v10 =>
 jn (κ := Int32 → KHp → Nat → Nat → Prop) (fun v12 σ13 bcv12 bsv12 =>
 wC bcv12 bsv12 (fun c16 c17 =>
 W_X1_requireElement G c16 c17 σ13  (v12) (fun σ15 =>
 wGO σ15 a9 [3] 1 (fun v18 =>
 wU v18 (fun a19 =>
 wLF σ15 a19 x2 (fun v20 =>
 Q (v20) σ15)))) X)) (fun k11 =>
 wIf (v10 ≤ 0)
 (k11 (0 : Int32) σ6 (bc - c3 - c7) (bs - c4 - c8))
 (k11 (1 : Int32) σ6 (bc - c3 - c7) (bs - c4 - c8)))))) X)) X))
def W_X1_matching (G : KG) (bc bs : Nat) (σ : KHp) (x0 : Nat) (x1 : Int32) (Q : Int32 → KHp → Prop) (X : String → Nat → KHp → Prop) : Prop :=
  (wR σ x0 0 ∧
 wC bc bs (fun c3 c4 =>
 W_X1_branchAt G c3 c4 σ x0 (x1) (fun v1 σ2 =>
 wU v1 (fun a5 =>
 wGI σ2 a5 [3] 5 (fun v6 =>
 Q (v6) σ2))) X))
def W_X1_hiding (G : KG) (bc bs : Nat) (σ : KHp) (x0 : Nat) (x1 : Int32) (Q : Int32 → KHp → Prop) (X : String → Nat → KHp → Prop) : Prop :=
  (wR σ x0 0 ∧
 wC bc bs (fun c3 c4 =>
 W_X1_branchAt G c3 c4 σ x0 (x1) (fun v1 σ2 =>
 wU v1 (fun a5 =>
 wGI σ2 a5 [3] 6 (fun v6 =>
 Q (v6) σ2))) X))
def W_X1_isSuspect (G : KG) (bc bs : Nat) (σ : KHp) (x0 : Nat) (x1 : Int32) (Q : Int32 → KHp → Prop) (X : String → Nat → KHp → Prop) : Prop :=
  (wR σ x0 0 ∧
 wC bc bs (fun c3 c4 =>
 W_X1_branchAt G c3 c4 σ x0 (x1) (fun v1 σ2 =>
 wU v1 (fun a5 =>
 wGI σ2 a5 [3] 10 (fun v6 =>
 (narrow .boolean (.int v6) = .int v6 ∧ Q (v6) σ2)))) X))
def W_X1_wasSuspect (G : KG) (bc bs : Nat) (σ : KHp) (x0 : Nat) (x1 : Int32) (x2 : Int32) (Q : Int32 → KHp → Prop) (X : String → Nat → KHp → Prop) : Prop :=
  (wR σ x0 0 ∧
 wC bc bs (fun c3 c4 =>
 W_X1_branchAt G c3 c4 σ x0 (x1) (fun v1 σ2 =>
 W_X1_inRange G σ2  (((x2).toInt64)) ((0 : Int64)) ((63 : Int64)) (fun v5 σ6 =>
 wC (bc - c3) (bs - c4) (fun c9 c10 =>
 W_X1_requireArgument G c9 c10 σ6  (v5) (fun σ8 =>
 wGO σ8 x0 [0] 0 (fun v11 =>
 wU v11 (fun a12 =>
 wGI σ8 a12 [1] 10 (fun v13 =>
 jn (κ := Int32 → KHp → Nat → Nat → Prop) (fun v18 σ19 bcv18 bsv18 =>
 (narrow .boolean (.int v18) = .int v18 ∧ Q (v18) σ19)) (fun k14 =>
 wIf (v13 ≤ x2)
 (k14 (0 : Int32) σ8 (bc - c3 - c9) (bs - c4 - c10))
 (wU v1 (fun a15 =>
 (wR σ8 a15 3 ∧
 W_X5_was G σ8 a15 (x2) (fun v16 σ17 =>
 wIf (v16 = 0)
 (k14 (0 : Int32) σ17 (bc - c3 - c9) (bs - c4 - c10))
 (k14 (1 : Int32) σ17 (bc - c3 - c9) (bs - c4 - c10))) X)))))))) X)) X) X))
def W_X1_signatureAt (G : KG) (bc bs : Nat) (σ : KHp) (x0 : Nat) (x1 : Int32) (Q : Option Nat → KHp → Prop) (X : String → Nat → KHp → Prop) : Prop :=
  (wR σ x0 0 ∧
 W_X1_signatureCount G σ x0  (fun v1 σ2 =>
 W_X1_inRange G σ2  (((x1).toInt64)) ((0 : Int64)) ((((v1 - (1 : Int32))).toInt64)) (fun v3 σ4 =>
 wC bc bs (fun c7 c8 =>
 W_X1_requireIndex G c7 c8 σ4  (v3) (fun σ6 =>
 wGO σ6 x0 [0] 0 (fun v9 =>
 wU v9 (fun a10 =>
 wGO σ6 a10 [1] 0 (fun v11 =>
 wU v11 (fun a12 =>
 wGO σ6 a12 [2] 7 (fun v13 =>
 wU v13 (fun a14 =>
 (wR σ6 a14 16 ∧
 W_J2_get G σ6 a14 (x1) (fun v15 σ16 =>
 wU v15 (fun a17 =>
 (wR σ16 a17 11 ∧
 Q (some a17) σ16))) X)))))))) X)) X) X)
def W_X1_isAlways (G : KG) (bc bs : Nat) (σ : KHp) (x0 : Nat) (x1 : Int32) (Q : Int32 → KHp → Prop) (X : String → Nat → KHp → Prop) : Prop :=
  (wR σ x0 0 ∧
 wC bc bs (fun c3 c4 =>
 W_X1_signatureAt G c3 c4 σ x0 (x1) (fun v1 σ2 =>
 wU v1 (fun a5 =>
 wGI σ2 a5 [11] 1 (fun v6 =>
 (narrow .boolean (.int v6) = .int v6 ∧ Q (v6) σ2)))) X))
def W_X1_nuisanceAt (G : KG) (bc bs : Nat) (σ : KHp) (x0 : Nat) (x1 : Int32) (Q : Option Nat → KHp → Prop) (X : String → Nat → KHp → Prop) : Prop :=
  wGO σ x0 [0] 0 (fun v1 =>
 wU v1 (fun a2 =>
 wGO σ a2 [1] 2 (fun v3 =>
 wU v3 (fun a4 =>
 (wR σ a4 16 ∧
 W_J2_size G σ a4  (fun v5 σ6 =>
 W_X1_inRange G σ6  (((x1).toInt64)) ((0 : Int64)) ((((v5 - (1 : Int32))).toInt64)) (fun v7 σ8 =>
 wC bc bs (fun c11 c12 =>
 W_X1_requireIndex G c11 c12 σ8  (v7) (fun σ10 =>
 wGO σ10 x0 [0] 0 (fun v13 =>
 wU v13 (fun a14 =>
 wGO σ10 a14 [1] 2 (fun v15 =>
 wU v15 (fun a16 =>
 (wR σ10 a16 16 ∧
 W_J2_get G σ10 a16 (x1) (fun v17 σ18 =>
 wU v17 (fun a19 =>
 (wR σ18 a19 13 ∧
 Q (some a19) σ18))) X)))))) X)) X) X)))))
def W_X1_isTested (G : KG) (bc bs : Nat) (σ : KHp) (x0 : Nat) (x1 : Int32) (Q : Int32 → KHp → Prop) (X : String → Nat → KHp → Prop) : Prop :=
  (wR σ x0 0 ∧
 wC bc bs (fun c3 c4 =>
 W_X1_branchAt G c3 c4 σ x0 (x1) (fun v1 σ2 =>
 wU v1 (fun a5 =>
 wGI σ2 a5 [3] 9 (fun v6 =>
 (narrow .boolean (.int v6) = .int v6 ∧ Q (v6) σ2)))) X))
def W_X1_trips (G : KG) (bc bs : Nat) (σ : KHp) (x0 : Nat) (x1 : Int32) (Q : Int32 → KHp → Prop) (X : String → Nat → KHp → Prop) : Prop :=
  (wR σ x0 0 ∧
 wC bc bs (fun c3 c4 =>
 W_X1_branchAt G c3 c4 σ x0 (x1) (fun v1 σ2 =>
 wU v1 (fun a5 =>
 wGI σ2 a5 [3] 3 (fun v6 =>
 Q (v6) σ2))) X))
def W_X1_loadSample (G : KG) (bc bs : Nat) (σ : KHp) (x0 : Nat) (x1 : Int32) (x2 : Int32) (Q : UInt32 → KHp → Prop) (X : String → Nat → KHp → Prop) : Prop :=
  (wR σ x0 0 ∧
 wC bc bs (fun c3 c4 =>
 W_X1_loadAt G c3 c4 σ x0 (x1) (fun v1 σ2 =>
 wGO σ2 x0 [0] 0 (fun v5 =>
 wU v5 (fun a6 =>
 wGO σ2 a6 [1] 0 (fun v7 =>
 wU v7 (fun a8 =>
 wGI σ2 a8 [2] 0 (fun v9 =>
 W_X1_inRange G σ2  (((x2).toInt64)) ((0 : Int64)) ((((v9 - (1 : Int32))).toInt64)) (fun v10 σ11 =>
 wC (bc - c3) (bs - c4) (fun c14 c15 =>
 W_X1_requireArgument G c14 c15 σ11  (v10) (fun σ13 =>
 wGO σ13 x0 [0] 0 (fun v16 =>
 wU v16 (fun a17 =>
 wGO σ13 a17 [1] 0 (fun v18 =>
 wU v18 (fun a19 =>
 wGO σ13 a19 [2] 3 (fun v20 =>
 wU v1 (fun a21 =>
 jn (κ := Int32 → KHp → Nat → Nat → Prop) (fun v22 σ23 bcv22 bsv22 =>
 jn (κ := UInt32 → KHp → Nat → Nat → Prop) (fun v25 σ26 bcv25 bsv25 =>
 Q (v25) σ26) (fun k27 =>
 (wR σ23 a21 7 ∧ W_X9_at G σ23 a21 (v20) (x2) (v22) (FP.fconst1) (fun r_ σ_ => k27 r_ σ_ bcv22 bsv22) X) ∨
 (wR σ23 a21 8 ∧ W_X11_at G σ23 a21 (v20) (x2) (v22) (FP.fconst1) (fun r_ σ_ => k27 r_ σ_ bcv22 bsv22) X) ∨
 (wR σ23 a21 9 ∧ W_X12_at G σ23 a21 (v20) (x2) (v22) (FP.fconst1) (fun r_ σ_ => k27 r_ σ_ bcv22 bsv22) X) ∨
 (wR σ23 a21 10 ∧ W_X13_at G σ23 a21 (v20) (x2) (v22) (FP.fconst1) (fun r_ σ_ => k27 r_ σ_ bcv22 bsv22) X))) (fun k24 =>
 (wR σ13 a21 7 ∧ W_X9_first G σ13 a21  (fun r_ σ_ => k24 r_ σ_ (bc - c3 - c14) (bs - c4 - c15)) X) ∨
 (wR σ13 a21 8 ∧ W_X11_first G σ13 a21  (fun r_ σ_ => k24 r_ σ_ (bc - c3 - c14) (bs - c4 - c15)) X) ∨
 (wR σ13 a21 9 ∧ W_X12_first G σ13 a21  (fun r_ σ_ => k24 r_ σ_ (bc - c3 - c14) (bs - c4 - c15)) X) ∨
 (wR σ13 a21 10 ∧ W_X13_first G σ13 a21  (fun r_ σ_ => k24 r_ σ_ (bc - c3 - c14) (bs - c4 - c15)) X))))))))) X)) X)))))) X))
def WB_X2_findNuisance_2 (G : KG) (Q : Int32 → KHp → Prop) (X : String → Nat → KHp → Prop)  (y0 : Nat)  (y1 : Option Nat) (kI2 : KHp → Int32 → Prop) (σ : KHp) (l2 : Int32) : Prop :=
  wGO σ y0 [1] 2 (fun v3001 =>
 wU v3001 (fun a3002 =>
 (wR σ a3002 16 ∧
 W_J2_size G σ a3002  (fun v3003 σ3004 =>
 wIf (v3003 ≤ l2)
 (Q ((-1 : Int32)) σ3004)
 (wGO σ3004 y0 [1] 2 (fun v3005 =>
 wU v3005 (fun a3006 =>
 (wR σ3004 a3006 16 ∧
 W_J2_get G σ3004 a3006 (l2) (fun v3007 σ3008 =>
 wU v3007 (fun a3009 =>
 (wR σ3008 a3009 13 ∧
 wGO σ3008 a3009 [13] 0 (fun v3010 =>
 wU v3010 (fun a3011 =>
 wGO σ3008 a3011 [11] 0 (fun v3012 =>
 wU v3012 (fun a3013 =>
 (wR σ3008 a3013 20 ∧
 W_J9_equals G σ3008 a3013 (y1) (fun v3014 σ3015 =>
 wIf (v3014 = 0)
 (kI2 σ3015 (l2 + (1 : Int32)))
 (Q (l2) σ3015)) X)))))))) X))))) X)))
def W_X2_findNuisance (G : KG) (σ : KHp) (x0 : Nat) (x1 : Option Nat) (Q : Int32 → KHp → Prop) (X : String → Nat → KHp → Prop) : Prop :=
  loopW1 (WB_X2_findNuisance_2 G Q X  x0 x1) 9000 σ (0 : Int32)
def WB_X2_drawArcs_2 (G : KG) (Q : KHp → Prop) (X : String → Nat → KHp → Prop)  (y0 : Nat) (kI2 : KHp → Int32 → Prop) (σ : KHp) (l1 : Int32) : Prop :=
  wGO σ y0 [1] 0 (fun v3001 =>
 wU v3001 (fun a3002 =>
 wGO σ a3002 [2] 6 (fun v3003 =>
 wU v3003 (fun a3004 =>
 (wR σ a3004 16 ∧
 W_J2_size G σ a3004  (fun v3005 σ3006 =>
 wIf (v3005 ≤ l1)
 (Q σ3006)
 (wGO σ3006 y0 [1] 0 (fun v3007 =>
 wU v3007 (fun a3008 =>
 wGO σ3006 a3008 [2] 6 (fun v3009 =>
 wU v3009 (fun a3010 =>
 (wR σ3006 a3010 16 ∧
 W_J2_get G σ3006 a3010 (l1) (fun v3011 σ3012 =>
 wU v3011 (fun a3013 =>
 ((wR σ3012 a3013 7 ∨ wR σ3012 a3013 8 ∨ wR σ3012 a3013 9 ∨ wR σ3012 a3013 10) ∧
 wIn σ3012 a3013 10 [7, 8, 9] (fun v3014 =>
 jn (κ := KHp → Prop) (fun σ3051 =>
 kI2 σ3051 (l1 + (1 : Int32))) (fun k3015 =>
 wIf (v3014 = 0)
 (k3015 σ3012)
 ((wR σ3012 a3013 10 ∧
 wGO σ3012 y0 [1] 5 (fun v3016 =>
 wU v3016 (fun a3017 =>
 wLB σ3012 a3017 l1 (fun v3018 =>
 wIf (v3018 = 0)
 (k3015 σ3012)
 (wGO σ3012 y0 [1] 1 (fun v3019 =>
 wGI σ3012 a3013 [7, 8, 9, 10] 1 (fun v3020 =>
 wU v3019 (fun a3021 =>
 (wR σ3012 a3021 16 ∧
 W_J2_get G σ3012 a3021 (v3020) (fun v3022 σ3023 =>
 wU v3022 (fun a3024 =>
 (wR σ3023 a3024 3 ∧
 wGI σ3023 a3024 [3] 2 (fun v3025 =>
 wIf (v3025 = 0)
 ((wR σ3023 y0 1 ∧
 W_X2_draw G σ3023 y0  (fun v3026 σ3027 =>
 wGI σ3027 a3013 [10] 4 (fun v3028 =>
 jn (κ := Int32 → KHp → Prop) (fun v3030 σ3031 =>
 wGI σ3031 a3013 [10] 3 (fun v3032 =>
 (wR σ3031 y0 1 ∧
 W_X2_draw G σ3031 y0  (fun v3033 σ3034 =>
 (¬ (3 : Int32) = 0 ∧
 wGO σ3034 y0 [1] 8 (fun v3035 =>
 (wR σ3034 y0 1 ∧
 W_X2_draw G σ3034 y0  (fun v3036 σ3037 =>
 (¬ (21 : Int32) = 0 ∧
 wF (FP.fdiv (FP.i2f ((80 : Int32) + (v3036 - v3036 / (21 : Int32) * (21 : Int32)))) (1120403456 : UInt32)) (fun v3038 =>
 wU v3035 (fun a3039 =>
 wSF σ3037 a3039 l1 (v3038) (fun σ3040 =>
 wGO σ3040 y0 [1] 7 (fun v3041 =>
 jn (κ := Int32 → KHp → Prop) (fun v3046 σ3047 =>
 wU v3041 (fun a3048 =>
 wSI σ3047 a3048 l1 (v3046) (fun σ3049 =>
 k3015 σ3049))) (fun k3042 =>
 wIf (v3030 = 0)
 (k3042 (v3032 + (v3033 - v3033 / (3 : Int32) * (3 : Int32))) σ3040)
 (wGO σ3040 y0 [1] 0 (fun v3043 =>
 wU v3043 (fun a3044 =>
 wGI σ3040 a3044 [2] 0 (fun v3045 =>
 k3042 v3045 σ3040))))))))))) X)))) X))) (fun k3029 =>
 wIf (v3028 ≤ v3026)
 (k3029 (0 : Int32) σ3027)
 (k3029 (1 : Int32) σ3027)))) X))
 (k3015 σ3023))))) X))))))))))))))) X))))))) X)))))
def W_X2_drawArcs (G : KG) (σ : KHp) (x0 : Nat) (Q : KHp → Prop) (X : String → Nat → KHp → Prop) : Prop :=
  loopW1 (WB_X2_drawArcs_2 G Q X  x0) 9000 σ (0 : Int32)
def WB_X2_layRow_29 (G : KG) (Q : KHp → Prop) (X : String → Nat → KHp → Prop) (kI17 : KHp → Int32 → Prop) (y0 : Nat)  (y1 : Int32)  (y2 : Nat)  (y3 : Int32) (kI29 : KHp → UInt32 → Int32 → Prop) (σ : KHp) (l4 : UInt32) (l5 : Int32) : Prop :=
  wGO σ y0 [1] 0 (fun v30001 =>
 wU v30001 (fun a30002 =>
 wGO σ a30002 [2] 6 (fun v30003 =>
 wU v30003 (fun a30004 =>
 (wR σ a30004 16 ∧
 W_J2_size G σ a30004  (fun v30005 σ30006 =>
 wIf (v30005 ≤ l5)
 (wSF σ30006 y2 y3 (l4) (fun σ30007 =>
 kI17 σ30007 (y3 + (1 : Int32))))
 (wGO σ30006 y0 [1] 5 (fun v30008 =>
 wU v30008 (fun a30009 =>
 wLB σ30006 a30009 l5 (fun v30010 =>
 jn (κ := UInt32 → KHp → Prop) (fun v30040 σ30041 =>
 kI29 σ30041 v30040 (l5 + (1 : Int32))) (fun k30011 =>
 wIf (v30010 = 0)
 (k30011 l4 σ30006)
 (wGO σ30006 y0 [1] 0 (fun v30012 =>
 wU v30012 (fun a30013 =>
 wGO σ30006 a30013 [2] 6 (fun v30014 =>
 wU v30014 (fun a30015 =>
 (wR σ30006 a30015 16 ∧
 W_J2_get G σ30006 a30015 (l5) (fun v30016 σ30017 =>
 wU v30016 (fun a30018 =>
 ((wR σ30017 a30018 7 ∨ wR σ30017 a30018 8 ∨ wR σ30017 a30018 9 ∨ wR σ30017 a30018 10) ∧
 wGI σ30017 a30018 [7, 8, 9, 10] 1 (fun v30019 =>
 wIf (v30019 = y1)
 (wGO σ30017 y0 [1] 0 (fun v30020 =>
 wU v30020 (fun a30021 =>
 wGO σ30017 a30021 [2] 6 (fun v30022 =>
 wU v30022 (fun a30023 =>
 (wR σ30017 a30023 16 ∧
 W_J2_get G σ30017 a30023 (l5) (fun v30024 σ30025 =>
 wU v30024 (fun a30026 =>
 ((wR σ30025 a30026 7 ∨ wR σ30025 a30026 8 ∨ wR σ30025 a30026 9 ∨ wR σ30025 a30026 10) ∧
 wGO σ30025 y0 [1] 0 (fun v30027 =>
 wU v30027 (fun a30028 =>
 wGO σ30025 a30028 [2] 3 (fun v30029 =>
 wGO σ30025 y0 [1] 7 (fun v30030 =>
 wU v30030 (fun a30031 =>
 wLI σ30025 a30031 l5 (fun v30032 =>
 wGO σ30025 y0 [1] 8 (fun v30033 =>
 wU v30033 (fun a30034 =>
 wLF σ30025 a30034 l5 (fun v30035 =>
 jn (κ := UInt32 → KHp → Prop) (fun v30036 σ30037 =>
 wF (FP.fadd l4 v30036) (fun v30039 =>
 k30011 v30039 σ30037)) (fun k30038 =>
 (wR σ30025 a30026 7 ∧ W_X9_at G σ30025 a30026 (v30029) (y3) (v30032) (v30035) (fun r_ σ_ => k30038 r_ σ_) X) ∨
 (wR σ30025 a30026 8 ∧ W_X11_at G σ30025 a30026 (v30029) (y3) (v30032) (v30035) (fun r_ σ_ => k30038 r_ σ_) X) ∨
 (wR σ30025 a30026 9 ∧ W_X12_at G σ30025 a30026 (v30029) (y3) (v30032) (v30035) (fun r_ σ_ => k30038 r_ σ_) X) ∨
 (wR σ30025 a30026 10 ∧ W_X13_at G σ30025 a30026 (v30029) (y3) (v30032) (v30035) (fun r_ σ_ => k30038 r_ σ_) X)))))))))))))) X))))))
 (k30011 l4 σ30017))))) X)))))))))))) X)))))
def WB_X2_layRow_17 (G : KG) (Q : KHp → Prop) (X : String → Nat → KHp → Prop)  (y0 : Nat)  (y1 : Int32)  (y2 : Option Nat) (kI17 : KHp → Int32 → Prop) (σ : KHp) (l3 : Int32) : Prop :=
  wU y2 (fun a18001 =>
 wLen σ a18001 (fun v18002 =>
 wIf (v18002 ≤ l3)
 (Q σ)
 (loopW2 (WB_X2_layRow_29 G Q X kI17 y0 y1 a18001 l3) 9000 σ FP.fconst0 (0 : Int32))))
def W_X2_layRow (G : KG) (σ : KHp) (x0 : Nat) (x1 : Int32) (Q : KHp → Prop) (X : String → Nat → KHp → Prop) : Prop :=
  wGO σ x0 [1] 1 (fun v1 =>
 wU v1 (fun a2 =>
 (wR σ a2 16 ∧
 W_J2_get G σ a2 (x1) (fun v3 σ4 =>
 wU v3 (fun a5 =>
 (wR σ4 a5 3 ∧
 wGO σ4 a5 [3] 0 (fun v6 =>
 loopW1 (WB_X2_layRow_17 G Q X  x0 x1 v6) 9000 σ4 (0 : Int32))))) X)))
def WB_X2_findFeatures_2 (G : KG) (Q : KHp → Prop) (X : String → Nat → KHp → Prop)  (y0 : Nat)  (y1 : Option Nat) (kI2 : KHp → Int32 → Prop) (σ : KHp) (l2 : Int32) : Prop :=
  wIf ((6 : Int32) ≤ l2)
 (wU y1 (fun a3001 =>
 wGO σ a3001 [3] 1 (fun v3002 =>
 wU v3002 (fun a3003 =>
 wLF σ a3003 (1 : Int32) (fun v3004 =>
 wP σ a3001 [3] 11 (.float (v3004)) (fun σ3005 =>
 Q σ3005))))))
 (wU y1 (fun a3006 =>
 wGO σ a3006 [3] 1 (fun v3007 =>
 wGO σ y0 [1] 9 (fun v3008 =>
 wU v3008 (fun a3009 =>
 wLO σ a3009 l2 (fun v3010 =>
 wGO σ a3006 [3] 0 (fun v3011 =>
 wGO σ a3006 [3] 1 (fun v3012 =>
 wGF σ a3006 [3] 11 (fun v3013 =>
 wU v3010 (fun a3014 =>
 jn (κ := UInt32 → KHp → Prop) (fun v3015 σ3016 =>
 wU v3007 (fun a3018 =>
 wSF σ3016 a3018 l2 (v3015) (fun σ3019 =>
 kI2 σ3019 (l2 + (1 : Int32))))) (fun k3017 =>
 (wR σ a3014 103 ∧ W_X18_of G σ a3014 (v3011) (v3012) (v3013) (fun r_ σ_ => k3017 r_ σ_) X) ∨
 (wR σ a3014 105 ∧ W_X19_of G σ a3014 (v3011) (v3012) (v3013) (fun r_ σ_ => k3017 r_ σ_) X) ∨
 (wR σ a3014 101 ∧ W_X21_of G σ a3014 (v3011) (v3012) (v3013) (fun r_ σ_ => k3017 r_ σ_) X) ∨
 (wR σ a3014 102 ∧ W_X22_of G σ a3014 (v3011) (v3012) (v3013) (fun r_ σ_ => k3017 r_ σ_) X) ∨
 (wR σ a3014 104 ∧ W_X23_of G σ a3014 (v3011) (v3012) (v3013) (fun r_ σ_ => k3017 r_ σ_) X) ∨
 (wR σ a3014 106 ∧ W_X24_of G σ a3014 (v3011) (v3012) (v3013) (fun r_ σ_ => k3017 r_ σ_) X))))))))))))
def W_X2_findFeatures (G : KG) (σ : KHp) (x0 : Nat) (x1 : Option Nat) (Q : KHp → Prop) (X : String → Nat → KHp → Prop) : Prop :=
  loopW1 (WB_X2_findFeatures_2 G Q X  x0 x1) 9000 σ (0 : Int32)
def WB_X2_causeOf_2 (G : KG) (Q : Int32 → KHp → Prop) (X : String → Nat → KHp → Prop)  (y0 : Nat)  (y1 : Option Nat) (kI2 : KHp → Int32 → Prop) (σ : KHp) (l2 : Int32) : Prop :=
  wGO σ y0 [1] 0 (fun v3001 =>
 wU v3001 (fun a3002 =>
 wGO σ a3002 [2] 7 (fun v3003 =>
 wU v3003 (fun a3004 =>
 (wR σ a3004 16 ∧
 W_J2_size G σ a3004  (fun v3005 σ3006 =>
 wIf (v3005 ≤ l2)
 (Q ((-1 : Int32)) σ3006)
 (wU y1 (fun a3007 =>
 wGI σ3006 a3007 [3] 5 (fun v3008 =>
 W_X1_has G σ3006  (v3008) (l2) (fun v3009 σ3010 =>
 wIf (v3009 = 0)
 (kI2 σ3010 (l2 + (1 : Int32)))
 (wGI σ3010 a3007 [3] 6 (fun v3011 =>
 wIf (v3011 = 0)
 (Q (l2) σ3010)
 (wGO σ3010 y0 [1] 0 (fun v3012 =>
 wU v3012 (fun a3013 =>
 wGO σ3010 a3013 [2] 7 (fun v3014 =>
 wU v3014 (fun a3015 =>
 (wR σ3010 a3015 16 ∧
 W_J2_get G σ3010 a3015 (l2) (fun v3016 σ3017 =>
 wU v3016 (fun a3018 =>
 (wR σ3017 a3018 11 ∧
 wGI σ3017 a3018 [11] 1 (fun v3019 =>
 wIf (v3019 = 0)
 (kI2 σ3017 (l2 + (1 : Int32)))
 (Q (l2) σ3017))))) X))))))))) X)))) X)))))
def W_X2_causeOf (G : KG) (σ : KHp) (x0 : Nat) (x1 : Option Nat) (Q : Int32 → KHp → Prop) (X : String → Nat → KHp → Prop) : Prop :=
  loopW1 (WB_X2_causeOf_2 G Q X  x0 x1) 9000 σ (0 : Int32)
def WB_X3_findLoad_2 (G : KG) (Q : Int32 → KHp → Prop) (X : String → Nat → KHp → Prop)  (y0 : Nat)  (y1 : Option Nat) (kI2 : KHp → Int32 → Prop) (σ : KHp) (l2 : Int32) : Prop :=
  wGO σ y0 [2] 6 (fun v3001 =>
 wU v3001 (fun a3002 =>
 (wR σ a3002 16 ∧
 W_J2_size G σ a3002  (fun v3003 σ3004 =>
 wIf (v3003 ≤ l2)
 (Q ((-1 : Int32)) σ3004)
 (wGO σ3004 y0 [2] 6 (fun v3005 =>
 wU v3005 (fun a3006 =>
 (wR σ3004 a3006 16 ∧
 W_J2_get G σ3004 a3006 (l2) (fun v3007 σ3008 =>
 wU v3007 (fun a3009 =>
 ((wR σ3008 a3009 7 ∨ wR σ3008 a3009 8 ∨ wR σ3008 a3009 9 ∨ wR σ3008 a3009 10) ∧
 wGO σ3008 a3009 [7, 8, 9, 10] 0 (fun v3010 =>
 wU v3010 (fun a3011 =>
 (wR σ3008 a3011 20 ∧
 W_J9_equals G σ3008 a3011 (y1) (fun v3012 σ3013 =>
 wIf (v3012 = 0)
 (kI2 σ3013 (l2 + (1 : Int32)))
 (Q (l2) σ3013)) X)))))) X))))) X)))
def W_X3_findLoad (G : KG) (σ : KHp) (x0 : Nat) (x1 : Option Nat) (Q : Int32 → KHp → Prop) (X : String → Nat → KHp → Prop) : Prop :=
  loopW1 (WB_X3_findLoad_2 G Q X  x0 x1) 9000 σ (0 : Int32)
def WB_X3_findSignature_2 (G : KG) (Q : Int32 → KHp → Prop) (X : String → Nat → KHp → Prop)  (y0 : Nat)  (y1 : Option Nat) (kI2 : KHp → Int32 → Prop) (σ : KHp) (l2 : Int32) : Prop :=
  wGO σ y0 [2] 7 (fun v3001 =>
 wU v3001 (fun a3002 =>
 (wR σ a3002 16 ∧
 W_J2_size G σ a3002  (fun v3003 σ3004 =>
 wIf (v3003 ≤ l2)
 (Q ((-1 : Int32)) σ3004)
 (wGO σ3004 y0 [2] 7 (fun v3005 =>
 wU v3005 (fun a3006 =>
 (wR σ3004 a3006 16 ∧
 W_J2_get G σ3004 a3006 (l2) (fun v3007 σ3008 =>
 wU v3007 (fun a3009 =>
 (wR σ3008 a3009 11 ∧
 wGO σ3008 a3009 [11] 0 (fun v3010 =>
 wU v3010 (fun a3011 =>
 (wR σ3008 a3011 20 ∧
 W_J9_equals G σ3008 a3011 (y1) (fun v3012 σ3013 =>
 wIf (v3012 = 0)
 (kI2 σ3013 (l2 + (1 : Int32)))
 (Q (l2) σ3013)) X)))))) X))))) X)))
def W_X3_findSignature (G : KG) (σ : KHp) (x0 : Nat) (x1 : Option Nat) (Q : Int32 → KHp → Prop) (X : String → Nat → KHp → Prop) : Prop :=
  loopW1 (WB_X3_findSignature_2 G Q X  x0 x1) 9000 σ (0 : Int32)
def WB_X5_suspects_4 (G : KG) (Q : Int32 → KHp → Prop) (X : String → Nat → KHp → Prop)  (y0 : Nat)  (y1 : Int32) (kI4 : KHp → Int32 → Int32 → Prop) (σ : KHp) (l2 : Int32) (l3 : Int32) : Prop :=
  wIf (y1 ≤ l3)
 (Q (l2) σ)
 ((wR σ y0 3 ∧
 W_X5_was G σ y0 (l3) (fun v5001 σ5002 =>
 jn (κ := Int32 → KHp → Prop) (fun v5004 σ5005 =>
 kI4 σ5005 (l2 + v5004) (l3 + (1 : Int32))) (fun k5003 =>
 wIf (v5001 = 0)
 (k5003 (0 : Int32) σ5002)
 (k5003 (1 : Int32) σ5002))) X))
def W_X5_suspects (G : KG) (σ : KHp) (x0 : Nat) (x1 : Int32) (Q : Int32 → KHp → Prop) (X : String → Nat → KHp → Prop) : Prop :=
  loopW2 (WB_X5_suspects_4 G Q X  x0 x1) 9000 σ (0 : Int32) (0 : Int32)
def WB_X5_margin_2 (G : KG) (Q : Int32 → KHp → Prop) (X : String → Nat → KHp → Prop)  (y0 : Nat)  (y1 : Int32)  (y2 : Int32) (kI2 : KHp → Int32 → Prop) (σ : KHp) (l3 : Int32) : Prop :=
  (wR σ y0 3 ∧
 W_X5_suspects G σ y0 ((y1 - l3)) (fun v3001 σ3002 =>
 wIf (y2 ≤ (l3 + v3001))
 (Q (l3) σ3002)
 (kI2 σ3002 (l3 + (1 : Int32)))) X)
def W_X5_margin (G : KG) (σ : KHp) (x0 : Nat) (x1 : Int32) (x2 : Int32) (Q : Int32 → KHp → Prop) (X : String → Nat → KHp → Prop) : Prop :=
  loopW1 (WB_X5_margin_2 G Q X  x0 x1 x2) 9000 σ (1 : Int32)
def W_X7_require (G : KG) (bc bs : Nat) (σ : KHp) (x0 : Nat) (x1 : Int32) (x2 : Int32) (Q : KHp → Prop) (X : String → Nat → KHp → Prop) : Prop :=
  wIf (x1 = 0)
 (wN bc bs σ 6 [.null, .null, .null, .null, .null, .int 0, .int 0, .int 0] (fun q1 σ2 =>
 wGI σ2 x0 [5] 4 (fun v3 =>
 W_X8_init G σ2 q1 (x2) (v3) (fun σ5 =>
 (wR σ5 q1 6 ∧ X "ArcRecorder$ParseError" q1 σ5)) X)))
 (Q σ)
def WB_X14_matches_2 (G : KG) (Q : Int32 → KHp → Prop) (X : String → Nat → KHp → Prop)  (y0 : Nat)  (y1 : Option Nat) (kI2 : KHp → Int32 → Prop) (σ : KHp) (l2 : Int32) : Prop :=
  wGO σ y0 [11] 2 (fun v3001 =>
 wU v3001 (fun a3002 =>
 (wR σ a3002 16 ∧
 W_J2_size G σ a3002  (fun v3003 σ3004 =>
 wIf (v3003 ≤ l2)
 (Q ((1 : Int32)) σ3004)
 (wGO σ3004 y0 [11] 2 (fun v3005 =>
 wU v3005 (fun a3006 =>
 (wR σ3004 a3006 16 ∧
 W_J2_get G σ3004 a3006 (l2) (fun v3007 σ3008 =>
 wU v3007 (fun a3009 =>
 (wR σ3008 a3009 12 ∧
 (wR σ3008 a3009 12 ∧
 W_X15_holds G σ3008 a3009 (y1) (fun v3010 σ3011 =>
 wIf (v3010 = 0)
 (Q ((0 : Int32)) σ3011)
 (kI2 σ3011 (l2 + (1 : Int32)))) X)))) X))))) X)))
def W_X14_matches (G : KG) (σ : KHp) (x0 : Nat) (x1 : Option Nat) (Q : Int32 → KHp → Prop) (X : String → Nat → KHp → Prop) : Prop :=
  loopW1 (WB_X14_matches_2 G Q X  x0 x1) 9000 σ (0 : Int32)
def W_J2_grow_2 (G : KG) (bc bs : Nat) (σ : KHp) (x0 : Nat) (x1 : Int32) (Q : Option Nat → KHp → Prop) (X : String → Nat → KHp → Prop) : Prop :=
  wGO σ x0 [16] 1 (fun v1 =>
 wU v1 (fun a2 =>
 wLen σ a2 (fun v3 =>
 wIf (0 < v3)
 (W_J11_newLength G σ  (v3) ((x1 - v3)) ((v3 >>> ((1 : Int32) &&& 31))) (fun v4 σ5 =>
 wGO σ5 x0 [16] 1 (fun v6 =>
 wC bc bs (fun c9 c10 =>
 W_J13_copyOf_2 G c9 c10 σ5  (v6) (v4) (fun v7 σ8 =>
 wP σ8 x0 [16] 1 (va_rf (v7)) (fun σ11 =>
 Q (v7) σ11)) X))) X)
 (wGO σ x0 [16] 1 (fun v12 =>
 wIf ((v12) = (some (kx_K G 1)))
 (W_J12_max G σ  ((10 : Int32)) (x1) (fun v13 σ14 =>
 wNQ bc bs σ14 "java/lang/Object" v13 (fun n17 q15 σ16 =>
 wP σ16 x0 [16] 1 (.ref (q15)) (fun σ18 =>
 Q (some q15) σ18))) X)
 (W_J11_newLength G σ  (v3) ((x1 - v3)) ((v3 >>> ((1 : Int32) &&& 31))) (fun v19 σ20 =>
 wGO σ20 x0 [16] 1 (fun v21 =>
 wC bc bs (fun c24 c25 =>
 W_J13_copyOf_2 G c24 c25 σ20  (v21) (v19) (fun v22 σ23 =>
 wP σ23 x0 [16] 1 (va_rf (v22)) (fun σ26 =>
 Q (v22) σ26)) X))) X))))))
def WB_J2_indexOfRange_13 (G : KG) (Q : Int32 → KHp → Prop) (X : String → Nat → KHp → Prop)  (y3 : Int32)  (y4 : Option Nat) (kI13 : KHp → Int32 → Prop) (σ : KHp) (l5 : Int32) : Prop :=
  wIf (y3 ≤ l5)
 (Q ((-1 : Int32)) σ)
 (wU y4 (fun a14001 =>
 wLO σ a14001 l5 (fun v14002 =>
 wIf (v14002 = none)
 (Q (l5) σ)
 (kI13 σ (l5 + (1 : Int32))))))
def WB_J2_indexOfRange_42 (G : KG) (Q : Int32 → KHp → Prop) (X : String → Nat → KHp → Prop)  (y1 : Option Nat)  (y3 : Int32)  (y4 : Option Nat) (kI42 : KHp → Int32 → Prop) (σ : KHp) (l5 : Int32) : Prop :=
  wIf (y3 ≤ l5)
 (Q ((-1 : Int32)) σ)
 (wU y4 (fun a43001 =>
 wLO σ a43001 l5 (fun v43002 =>
 wU y1 (fun a43003 =>
 (wR σ a43003 20 ∧
 W_J9_equals G σ a43003 (v43002) (fun v43004 σ43005 =>
 wIf (v43004 = 0)
 (kI42 σ43005 (l5 + (1 : Int32)))
 (Q (l5) σ43005)) X)))))
def W_J2_indexOfRange (G : KG) (σ : KHp) (x0 : Nat) (x1 : Option Nat) (x2 : Int32) (x3 : Int32) (Q : Int32 → KHp → Prop) (X : String → Nat → KHp → Prop) : Prop :=
  wGO σ x0 [16] 1 (fun v1 =>
 wIf (x1 = none)
 (loopW1 (WB_J2_indexOfRange_13 G Q X  x3 v1) 9000 σ x2)
 (loopW1 (WB_J2_indexOfRange_42 G Q X  x1 x3 v1) 9000 σ x2))
def W_J7_init (G : KG) (bc bs : Nat) (σ : KHp) (x0 : Nat) (x1 : Int32) (Q : KHp → Prop) (X : String → Nat → KHp → Prop) : Prop :=
  wIf ((1 : Int32) = 0)
 (wC bc bs (fun c3 c4 =>
 W_J10_newBytesFor G c3 c4 σ  (x1) (fun v1 σ2 =>
 wP σ2 x0 [19] 0 (va_rf (v1)) (fun σ5 =>
 wPB σ5 x0 [19] 1 (1 : Int32) (fun σ6 =>
 Q σ6))) X))
 (wNA bc bs σ .byte (.inl (fun _ => 0)) x1 (fun n9 q7 σ8 =>
 wP σ8 x0 [19] 0 (.ref (q7)) (fun σ10 =>
 wPB σ10 x0 [19] 1 (0 : Int32) (fun σ11 =>
 Q σ11))))
def W_J7_newCapacity (G : KG) (σ : KHp) (x0 : Nat) (x1 : Int32) (Q : Int32 → KHp → Prop) (X : String → Nat → KHp → Prop) : Prop :=
  wGO σ x0 [19] 0 (fun v1 =>
 wU v1 (fun a2 =>
 wLen σ a2 (fun v3 =>
 wGI σ x0 [19] 1 (fun v4 =>
 wGI σ x0 [19] 1 (fun v5 =>
 W_J11_newLength G σ  (v3) (((x1 <<< (v4 &&& 31)) - v3)) ((v3 + ((2 : Int32) <<< (v5 &&& 31)))) (fun v6 σ7 =>
 wIf (v6 = (2147483647 : Int32))
 (False)
 (wGI σ7 x0 [19] 1 (fun v8 =>
 Q ((v6 >>> (v8 &&& 31))) σ7))) X)))))
def W_J7_charAt (G : KG) (σ : KHp) (x0 : Nat) (x1 : Int32) (Q : Int32 → KHp → Prop) (X : String → Nat → KHp → Prop) : Prop :=
  wGI σ x0 [19] 1 (fun v1 =>
 wGO σ x0 [19] 0 (fun v2 =>
 wGI σ x0 [19] 3 (fun v3 =>
 wU v2 (fun a4 =>
 wLen σ a4 (fun v5 =>
 W_J12_min G σ  (v3) ((v5 >>> (v1 &&& 31))) (fun v6 σ7 =>
 W_J9_checkIndex G σ7  (x1) (v6) (fun σ9 =>
 wIf (v1 = 0)
 (wLB σ9 a4 x1 (fun v12 =>
 (narrow .char (.int ((((v12 &&& (255 : Int32))).toUInt32 % 65536).toInt32)) = .int ((((v12 &&& (255 : Int32))).toUInt32 % 65536).toInt32) ∧ Q (((((v12 &&& (255 : Int32))).toUInt32 % 65536).toInt32)) σ9)))
 (W_J10_getChar G σ9  (some a4) (x1) (fun v10 σ11 =>
 (narrow .char (.int v10) = .int v10 ∧ Q (v10) σ11)) X)) X) X)))))
def W_J8_init (G : KG) (bc bs : Nat) (σ : KHp) (x0 : Nat) (Q : KHp → Prop) (X : String → Nat → KHp → Prop) : Prop :=
  wC bc bs (fun c3 c4 =>
 W_J7_init G c3 c4 σ x0 ((16 : Int32)) (fun σ2 =>
 Q σ2) X)
def W_J8_charAt (G : KG) (σ : KHp) (x0 : Nat) (x1 : Int32) (Q : Int32 → KHp → Prop) (X : String → Nat → KHp → Prop) : Prop :=
  (wR σ x0 19 ∧
 W_J7_charAt G σ x0 (x1) (fun v1 σ2 =>
 (narrow .char (.int v1) = .int v1 ∧ Q (v1) σ2)) X)
def W_J9_charAt (G : KG) (σ : KHp) (x0 : Nat) (x1 : Int32) (Q : Int32 → KHp → Prop) (X : String → Nat → KHp → Prop) : Prop :=
  (wR σ x0 20 ∧
 W_J9_isLatin1 G σ x0  (fun v1 σ2 =>
 wIf (v1 = 0)
 (wGO σ2 x0 [20] 0 (fun v3 =>
 W_J10_charAt G σ2  (v3) (x1) (fun v4 σ5 =>
 (narrow .char (.int v4) = .int v4 ∧ Q (v4) σ5)) X))
 (wGO σ2 x0 [20] 0 (fun v6 =>
 W_J15_charAt G σ2  (v6) (x1) (fun v7 σ8 =>
 (narrow .char (.int v7) = .int v7 ∧ Q (v7) σ8)) X))) X)
def W_J10_putCharsAt (G : KG) (σ : KHp) (x0 : Option Nat) (x1 : Int32) (x2 : Int32) (x3 : Int32) (x4 : Int32) (x5 : Int32) (Q : Int32 → KHp → Prop) (X : String → Nat → KHp → Prop) : Prop :=
  W_J10_checkBoundsBeginEnd G σ  (x1) ((x1 + (4 : Int32))) (x0) (fun σ2 =>
 W_J10_putChar G σ2  (x0) (x1) (x2) (fun σ4 =>
 W_J10_putChar G σ4  (x0) ((x1 + (1 : Int32))) (x3) (fun σ6 =>
 W_J10_putChar G σ6  (x0) (((x1 + (1 : Int32)) + (1 : Int32))) (x4) (fun σ8 =>
 W_J10_putChar G σ8  (x0) ((((x1 + (1 : Int32)) + (1 : Int32)) + (1 : Int32))) (x5) (fun σ10 =>
 wIf ((1 : Int32) = 0)
 (wIf (((((x1 + (1 : Int32)) + (1 : Int32)) + (1 : Int32)) + (1 : Int32)) = (x1 + (4 : Int32)))
 (Q ((x1 + (4 : Int32))) σ10)
 (False))
 (Q ((x1 + (4 : Int32))) σ10)) X) X) X) X) X
def WB_J10_inflate_10 (G : KG) (Q : KHp → Prop) (X : String → Nat → KHp → Prop)  (y0 : Option Nat)  (y2 : Option Nat)  (y4 : Int32) (kI10 : KHp → Int32 → Int32 → Int32 → Prop) (σ : KHp) (l1 : Int32) (l3 : Int32) (l5 : Int32) : Prop :=
  wIf (y4 ≤ l5)
 (Q σ)
 (wU y0 (fun a11001 =>
 wLB σ a11001 l1 (fun v11002 =>
 W_J10_putChar G σ  (y2) (l3) ((v11002 &&& (255 : Int32))) (fun σ11004 =>
 kI10 σ11004 (l1 + (1 : Int32)) (l3 + (1 : Int32)) (l5 + (1 : Int32))) X)))
def W_J10_inflate (G : KG) (σ : KHp) (x0 : Option Nat) (x1 : Int32) (x2 : Option Nat) (x3 : Int32) (x4 : Int32) (Q : KHp → Prop) (X : String → Nat → KHp → Prop) : Prop :=
  W_J10_checkBoundsOffCount G σ  (x3) (x4) (x2) (fun σ2 =>
 loopW3 (WB_J10_inflate_10 G Q X  x0 x2 x4) 9000 σ2 x1 x3 (0 : Int32)) X
def W_J10_putCharSB (G : KG) (σ : KHp) (x0 : Option Nat) (x1 : Int32) (x2 : Int32) (Q : KHp → Prop) (X : String → Nat → KHp → Prop) : Prop :=
  W_J10_checkIndex G σ  (x1) (x0) (fun σ2 =>
 W_J10_putChar G σ2  (x0) (x1) (x2) (fun σ4 =>
 Q σ4) X) X
def W_J10_hashCode (G : KG) (σ : KHp) (x0 : Option Nat) (Q : Int32 → KHp → Prop) (X : String → Nat → KHp → Prop) : Prop :=
  wU x0 (fun a1 =>
 wLen σ a1 (fun v2 =>
 jn (κ := Int32 → KHp → Prop) (fun v9 σ10 =>
 Q (v9) σ10) (fun k3 =>
 wIf (v2 = (0 : Int32))
 (k3 (0 : Int32) σ)
 (wIf (v2 = (2 : Int32))
 (W_J10_getChar G σ  (some a1) ((0 : Int32)) (fun v4 σ5 =>
 k3 v4 σ5) X)
 (wLen σ a1 (fun v6 =>
 W_J11_vectorizedHashCode G σ  (some a1) ((0 : Int32)) ((v6 >>> ((1 : Int32) &&& 31))) ((0 : Int32)) ((5 : Int32)) (fun v7 σ8 =>
 k3 v7 σ8) X))))))
def W_J10_fillNull (G : KG) (σ : KHp) (x0 : Option Nat) (x1 : Int32) (x2 : Int32) (Q : KHp → Prop) (X : String → Nat → KHp → Prop) : Prop :=
  W_J13_fill G σ  (x0) ((x1 <<< ((1 : Int32) &&& 31))) ((x2 <<< ((1 : Int32) &&& 31))) ((0 : Int32)) (fun σ2 =>
 Q σ2) X
def W_J13_copyOfRange (G : KG) (bc bs : Nat) (σ : KHp) (x0 : Option Nat) (x1 : Int32) (x2 : Int32) (Q : Option Nat → KHp → Prop) (X : String → Nat → KHp → Prop) : Prop :=
  wIf (x1 = 0)
 (wU x0 (fun a5 =>
 wLen σ a5 (fun v6 =>
 wIf (x2 = v6)
 (wClB bc bs σ a5 (fun n9 q7 σ8 =>
 (wAr σ8 q7 "[B" ∧
 Q (some q7) σ8)))
 (wC bc bs (fun c12 c13 =>
 W_J13_copyOfRangeByte G c12 c13 σ  (some a5) (x1) (x2) (fun v10 σ11 =>
 Q (v10) σ11) X)))))
 (wC bc bs (fun c3 c4 =>
 W_J13_copyOfRangeByte G c3 c4 σ  (x0) (x1) (x2) (fun v1 σ2 =>
 Q (v1) σ2) X))
def W_J15_inflate (G : KG) (σ : KHp) (x0 : Option Nat) (x1 : Int32) (x2 : Option Nat) (x3 : Int32) (x4 : Int32) (Q : KHp → Prop) (X : String → Nat → KHp → Prop) : Prop :=
  W_J10_inflate G σ  (x0) (x1) (x2) (x3) (x4) (fun σ2 =>
 Q σ2) X
def W_J18_addLast (G : KG) (bc bs : Nat) (σ : KHp) (x0 : Nat) (x1 : Option Nat) (Q : KHp → Prop) (X : String → Nat → KHp → Prop) : Prop :=
  (wR σ x0 21 ∧
 wC bc bs (fun c3 c4 =>
 W_J18_linkLast G c3 c4 σ x0 (x1) (fun σ2 =>
 Q σ2) X))
def W_J18_listIterator (G : KG) (bc bs : Nat) (σ : KHp) (x0 : Nat) (x1 : Int32) (Q : Option Nat → KHp → Prop) (X : String → Nat → KHp → Prop) : Prop :=
  (wR σ x0 21 ∧
 W_J18_checkPositionIndex G σ x0 (x1) (fun σ2 =>
 wN bc bs σ2 28 [.null, .null, .int 0, .int 0, .null] (fun q3 σ4 =>
 W_J30_init G σ4 q3 (some x0) (x1) (fun σ6 =>
 Q (some q3) σ6) X)) X)
def W_J18_get (G : KG) (σ : KHp) (x0 : Nat) (x1 : Int32) (Q : Option Nat → KHp → Prop) (X : String → Nat → KHp → Prop) : Prop :=
  (wR σ x0 21 ∧
 W_J18_checkElementIndex G σ x0 (x1) (fun σ2 =>
 (wR σ2 x0 21 ∧
 W_J18_node G σ2 x0 (x1) (fun v3 σ4 =>
 wU v3 (fun a5 =>
 wGO σ4 a5 [24] 0 (fun v6 =>
 Q (v6) σ4))) X)) X)
def W_J19_removeFirst (G : KG) (σ : KHp) (x0 : Nat) (Q : Option Nat → KHp → Prop) (X : String → Nat → KHp → Prop) : Prop :=
  (wR σ x0 22 ∧
 W_J19_pollFirst G σ x0  (fun v1 σ2 =>
 wIf (v1 = none)
 (False)
 (Q (v1) σ2)) X)
def W_J19_addLast (G : KG) (bc bs : Nat) (σ : KHp) (x0 : Nat) (x1 : Option Nat) (Q : KHp → Prop) (X : String → Nat → KHp → Prop) : Prop :=
  wIf (x1 = none)
 (False)
 (wGO σ x0 [22] 0 (fun v1 =>
 wGI σ x0 [22] 2 (fun v2 =>
 wU v1 (fun a3 =>
 wSO σ a3 v2 (x1) (fun σ4 =>
 wGI σ4 x0 [22] 1 (fun v5 =>
 wGI σ4 x0 [22] 2 (fun v6 =>
 wLen σ4 a3 (fun v7 =>
 W_J19_inc G σ4  (v6) (v7) (fun v8 σ9 =>
 wP σ9 x0 [22] 2 (.int (v8)) (fun σ10 =>
 wIf (v5 = v8)
 ((wR σ10 x0 22 ∧
 wC bc bs (fun c13 c14 =>
 W_J19_grow G c13 c14 σ10 x0 ((1 : Int32)) (fun σ12 =>
 Q σ12) X)))
 (Q σ10))) X))))))))
def W_J19_iterator (G : KG) (bc bs : Nat) (σ : KHp) (x0 : Nat) (Q : Option Nat → KHp → Prop) (X : String → Nat → KHp → Prop) : Prop :=
  wN bc bs σ 29 [.int 0, .int 0, .int 0, .null] (fun q1 σ2 =>
 W_J31_init G σ2 q1 (some x0) (fun σ4 =>
 Q (some q1) σ4) X)
def W_J19_removeLast (G : KG) (σ : KHp) (x0 : Nat) (Q : Option Nat → KHp → Prop) (X : String → Nat → KHp → Prop) : Prop :=
  (wR σ x0 22 ∧
 W_J19_pollLast G σ x0  (fun v1 σ2 =>
 wIf (v1 = none)
 (False)
 (Q (v1) σ2)) X)
def W_X1_keep (G : KG) (bc bs : Nat) (σ : KHp) (x0 : Nat) (x1 : Option Nat) (Q : KHp → Prop) (X : String → Nat → KHp → Prop) : Prop :=
  wGO σ x0 [0] 1 (fun v1 =>
 wU v1 (fun a2 =>
 (wR σ a2 22 ∧
 W_J19_size G σ a2  (fun v3 σ4 =>
 jn (κ := KHp → Nat → Nat → Prop) (fun σ11 bcv10 bsv10 =>
 wGO σ11 x0 [0] 1 (fun v12 =>
 wU v12 (fun a13 =>
 (wR σ11 a13 22 ∧
 wC bcv10 bsv10 (fun c16 c17 =>
 W_J19_addLast G c16 c17 σ11 a13 (x1) (fun σ15 =>
 Q σ15) X))))) (fun k5 =>
 wIf (v3 = (6 : Int32))
 (wGO σ4 x0 [0] 1 (fun v6 =>
 wU v6 (fun a7 =>
 (wR σ4 a7 22 ∧
 W_J19_removeFirst G σ4 a7  (fun v8 σ9 =>
 k5 σ9 bc bs) X))))
 (k5 σ4 bc bs))) X)))
def W_X1_rated (G : KG) (bc bs : Nat) (σ : KHp) (x0 : Nat) (x1 : Int32) (Q : Int32 → KHp → Prop) (X : String → Nat → KHp → Prop) : Prop :=
  (wR σ x0 0 ∧
 wC bc bs (fun c3 c4 =>
 W_X1_branchAt G c3 c4 σ x0 (x1) (fun v1 σ2 =>
 wGO σ2 x0 [0] 0 (fun v5 =>
 wU v5 (fun a6 =>
 wGO σ2 a6 [1] 0 (fun v7 =>
 wU v7 (fun a8 =>
 wGO σ2 a8 [2] 5 (fun v9 =>
 wU v9 (fun a10 =>
 wLI σ2 a10 x1 (fun v11 =>
 Q (v11) σ2)))))))) X))
def W_X1_loadOf (G : KG) (bc bs : Nat) (σ : KHp) (x0 : Nat) (x1 : Int32) (x2 : Int32) (Q : Int32 → KHp → Prop) (X : String → Nat → KHp → Prop) : Prop :=
  (wR σ x0 0 ∧
 wC bc bs (fun c3 c4 =>
 W_X1_loadAt G c3 c4 σ x0 (x1) (fun v1 σ2 =>
 W_X1_inRange G σ2  (((x2).toInt64)) ((0 : Int64)) ((4 : Int64)) (fun v5 σ6 =>
 wC (bc - c3) (bs - c4) (fun c9 c10 =>
 W_X1_requireArgument G c9 c10 σ6  (v5) (fun σ8 =>
 jn (κ := Int32 → KHp → Nat → Nat → Prop) (fun v28 σ29 bcv28 bsv28 =>
 Q (v28) σ29) (fun k11 =>
 wIf (x2 = 0)
 (wU v1 (fun a24 =>
 jn (κ := Int32 → KHp → Nat → Nat → Prop) (fun v25 σ26 bcv25 bsv25 =>
 k11 v25 σ26 bcv25 bsv25) (fun k27 =>
 (wR σ8 a24 7 ∧ W_X10_kind G σ8 a24  (fun r_ σ_ => k27 r_ σ_ (bc - c3 - c9) (bs - c4 - c10)) X) ∨
 (wR σ8 a24 8 ∧ W_X11_kind G σ8 a24  (fun r_ σ_ => k27 r_ σ_ (bc - c3 - c9) (bs - c4 - c10)) X) ∨
 (wR σ8 a24 9 ∧ W_X12_kind G σ8 a24  (fun r_ σ_ => k27 r_ σ_ (bc - c3 - c9) (bs - c4 - c10)) X) ∨
 (wR σ8 a24 10 ∧ W_X13_kind G σ8 a24  (fun r_ σ_ => k27 r_ σ_ (bc - c3 - c9) (bs - c4 - c10)) X))))
 (wIf (x2 = (1 : Int32))
 (wU v1 (fun a22 =>
 wGI σ8 a22 [7, 8, 9, 10] 1 (fun v23 =>
 k11 v23 σ8 (bc - c3 - c9) (bs - c4 - c10))))
 (wIf (x2 = (2 : Int32))
 (wU v1 (fun a20 =>
 wGI σ8 a20 [7, 8, 9, 10] 2 (fun v21 =>
 k11 v21 σ8 (bc - c3 - c9) (bs - c4 - c10))))
 (wIf (x2 = (3 : Int32))
 (wU v1 (fun a16 =>
 jn (κ := Int32 → KHp → Nat → Nat → Prop) (fun v17 σ18 bcv17 bsv17 =>
 k11 v17 σ18 bcv17 bsv17) (fun k19 =>
 (wR σ8 a16 7 ∧ W_X9_first G σ8 a16  (fun r_ σ_ => k19 r_ σ_ (bc - c3 - c9) (bs - c4 - c10)) X) ∨
 (wR σ8 a16 8 ∧ W_X11_first G σ8 a16  (fun r_ σ_ => k19 r_ σ_ (bc - c3 - c9) (bs - c4 - c10)) X) ∨
 (wR σ8 a16 9 ∧ W_X12_first G σ8 a16  (fun r_ σ_ => k19 r_ σ_ (bc - c3 - c9) (bs - c4 - c10)) X) ∨
 (wR σ8 a16 10 ∧ W_X13_first G σ8 a16  (fun r_ σ_ => k19 r_ σ_ (bc - c3 - c9) (bs - c4 - c10)) X))))
 (wU v1 (fun a12 =>
 jn (κ := Int32 → KHp → Nat → Nat → Prop) (fun v13 σ14 bcv13 bsv13 =>
 k11 v13 σ14 bcv13 bsv13) (fun k15 =>
 (wR σ8 a12 7 ∧ W_X9_out G σ8 a12  (fun r_ σ_ => k15 r_ σ_ (bc - c3 - c9) (bs - c4 - c10)) X) ∨
 (wR σ8 a12 8 ∧ W_X9_out G σ8 a12  (fun r_ σ_ => k15 r_ σ_ (bc - c3 - c9) (bs - c4 - c10)) X) ∨
 (wR σ8 a12 9 ∧ W_X9_out G σ8 a12  (fun r_ σ_ => k15 r_ σ_ (bc - c3 - c9) (bs - c4 - c10)) X) ∨
 (wR σ8 a12 10 ∧ W_X13_out G σ8 a12  (fun r_ σ_ => k15 r_ σ_ (bc - c3 - c9) (bs - c4 - c10)) X))))))))) X)) X) X))
def W_X1_suspects (G : KG) (bc bs : Nat) (σ : KHp) (x0 : Nat) (x1 : Int32) (Q : Int32 → KHp → Prop) (X : String → Nat → KHp → Prop) : Prop :=
  (wR σ x0 0 ∧
 wC bc bs (fun c3 c4 =>
 W_X1_branchAt G c3 c4 σ x0 (x1) (fun v1 σ2 =>
 wGO σ2 x0 [0] 0 (fun v5 =>
 wU v5 (fun a6 =>
 wGI σ2 a6 [1] 10 (fun v7 =>
 wU v1 (fun a8 =>
 (wR σ2 a8 3 ∧
 W_X5_suspects G σ2 a8 (v7) (fun v9 σ10 =>
 Q (v9) σ10) X)))))) X))
def W_X1_margin (G : KG) (bc bs : Nat) (σ : KHp) (x0 : Nat) (x1 : Int32) (Q : Int32 → KHp → Prop) (X : String → Nat → KHp → Prop) : Prop :=
  (wR σ x0 0 ∧
 wC bc bs (fun c3 c4 =>
 W_X1_branchAt G c3 c4 σ x0 (x1) (fun v1 σ2 =>
 wU v1 (fun a5 =>
 wGI σ2 a5 [3] 2 (fun v6 =>
 jn (κ := Int32 → KHp → Nat → Nat → Prop) (fun v16 σ17 bcv16 bsv16 =>
 Q (v16) σ17) (fun k7 =>
 wIf (v6 = 0)
 (wGO σ2 x0 [0] 0 (fun v8 =>
 wU v8 (fun a9 =>
 wGI σ2 a9 [1] 10 (fun v10 =>
 wGO σ2 x0 [0] 0 (fun v11 =>
 wU v11 (fun a12 =>
 wGI σ2 a12 [1] 11 (fun v13 =>
 (wR σ2 a5 3 ∧
 W_X5_margin G σ2 a5 (v10) (v13) (fun v14 σ15 =>
 k7 v14 σ15 (bc - c3) (bs - c4)) X))))))))
 (k7 (-1 : Int32) σ2 (bc - c3) (bs - c4)))))) X))
def W_X1_hits (G : KG) (bc bs : Nat) (σ : KHp) (x0 : Nat) (x1 : Int32) (Q : Int32 → KHp → Prop) (X : String → Nat → KHp → Prop) : Prop :=
  (wR σ x0 0 ∧
 wC bc bs (fun c3 c4 =>
 W_X1_signatureAt G c3 c4 σ x0 (x1) (fun v1 σ2 =>
 wGO σ2 x0 [0] 0 (fun v5 =>
 wU v5 (fun a6 =>
 wGO σ2 a6 [1] 6 (fun v7 =>
 wU v7 (fun a8 =>
 wLI σ2 a8 x1 (fun v9 =>
 Q (v9) σ2)))))) X))
def W_X1_nuisanceHits (G : KG) (bc bs : Nat) (σ : KHp) (x0 : Nat) (x1 : Int32) (Q : Int32 → KHp → Prop) (X : String → Nat → KHp → Prop) : Prop :=
  (wR σ x0 0 ∧
 wC bc bs (fun c3 c4 =>
 W_X1_nuisanceAt G c3 c4 σ x0 (x1) (fun v1 σ2 =>
 wU v1 (fun a5 =>
 wGI σ2 a5 [13] 1 (fun v6 =>
 Q (v6) σ2))) X))
def W_X1_wouldMatch (G : KG) (bc bs : Nat) (σ : KHp) (x0 : Nat) (x1 : Int32) (x2 : UInt32) (x3 : UInt32) (x4 : UInt32) (x5 : UInt32) (x6 : UInt32) (Q : Int32 → KHp → Prop) (X : String → Nat → KHp → Prop) : Prop :=
  wNA bc bs σ .float (.inr (.inr (.inl (fun _ => 0)))) (6 : Int32) (fun n3 q1 σ2 =>
 wSF σ2 q1 (0 : Int32) (x2) (fun σ4 =>
 wSF σ4 q1 (1 : Int32) (x3) (fun σ5 =>
 wSF σ5 q1 (2 : Int32) (x4) (fun σ6 =>
 wSF σ6 q1 (3 : Int32) (x5) (fun σ7 =>
 wSF σ7 q1 (4 : Int32) (x6) (fun σ8 =>
 wF (FP.fmul x3 x3) (fun v9 =>
 wSF σ8 q1 (5 : Int32) (v9) (fun σ10 =>
 (wR σ10 x0 0 ∧
 wC (bc - 1) (bs - n3) (fun c13 c14 =>
 W_X1_signatureAt G c13 c14 σ10 x0 (x1) (fun v11 σ12 =>
 wU v11 (fun a15 =>
 (wR σ12 a15 11 ∧
 W_X14_matches G σ12 a15 (some q1) (fun v16 σ17 =>
 (narrow .boolean (.int v16) = .int v16 ∧ Q (v16) σ17)) X))) X))))))))))
def WB_X1_tripAt_29 (G : KG) (Q : Option Nat → KHp → Prop) (X : String → Nat → KHp → Prop)  (y3 : Option Nat) (kI29 : KHp → Nat → Nat → Int32 → Prop) (σ : KHp) (bc29 bs29 : Nat) (l2 : Int32) : Prop :=
  wU y3 (fun a30001 =>
 jn (κ := Int32 → KHp → Nat → Nat → Prop) (fun v30002 σ30003 bcv30002 bsv30002 =>
 wIf (v30002 = 0)
 (Q none σ30003)
 (jn (κ := Option Nat → KHp → Nat → Nat → Prop) (fun v30005 σ30006 bcv30005 bsv30005 =>
 wU v30005 (fun a30008 =>
 (wR σ30006 a30008 15 ∧
 wIf (l2 = 0)
 (Q (some a30008) σ30006)
 (kI29 σ30006 bcv30005 bsv30005 (l2 + (-1 : Int32)))))) (fun k30007 =>
 (wR σ30003 a30001 28 ∧ W_J30_next G σ30003 a30001  (fun r_ σ_ => k30007 r_ σ_ bcv30002 bsv30002) X) ∨
 (wR σ30003 a30001 29 ∧ W_J31_next G σ30003 a30001  (fun r_ σ_ => k30007 r_ σ_ bcv30002 bsv30002) X)))) (fun k30004 =>
 (wR σ a30001 28 ∧ W_J30_hasNext G σ a30001  (fun r_ σ_ => k30004 r_ σ_ bc29 bs29) X) ∨
 (wR σ a30001 29 ∧ W_J31_hasNext G σ a30001  (fun r_ σ_ => k30004 r_ σ_ bc29 bs29) X)))
def W_X1_tripAt (G : KG) (bc bs : Nat) (σ : KHp) (x0 : Nat) (x1 : Int32) (Q : Option Nat → KHp → Prop) (X : String → Nat → KHp → Prop) : Prop :=
  (wR σ x0 0 ∧
 W_X1_memoryCount G σ x0  (fun v1 σ2 =>
 W_X1_inRange G σ2  (((x1).toInt64)) ((0 : Int64)) ((((v1 - (1 : Int32))).toInt64)) (fun v3 σ4 =>
 wC bc bs (fun c7 c8 =>
 W_X1_requireIndex G c7 c8 σ4  (v3) (fun σ6 =>
 wGO σ6 x0 [0] 0 (fun v9 =>
 wU v9 (fun a10 =>
 wGO σ6 a10 [1] 4 (fun v11 =>
 wU v11 (fun a12 =>
 (wR σ6 a12 22 ∧
 wC (bc - c7) (bs - c8) (fun c15 c16 =>
 W_J19_iterator G c15 c16 σ6 a12  (fun v13 σ14 =>
 loopW3 (WB_X1_tripAt_29 G Q X  v13) 9000 σ14 (bc - c7 - c15) (bs - c8 - c16) x1) X))))))) X)) X) X)
def W_X1_named (G : KG) (bc bs : Nat) (σ : KHp) (x0 : Nat) (x1 : Int32) (x2 : Int32) (Q : Int32 → KHp → Prop) (X : String → Nat → KHp → Prop) : Prop :=
  (wR σ x0 0 ∧
 wC bc bs (fun c3 c4 =>
 W_X1_tripAt G c3 c4 σ x0 (x1) (fun v1 σ2 =>
 wU v1 (fun a5 =>
 wGO σ2 a5 [15] 5 (fun v6 =>
 wU v6 (fun a7 =>
 wLen σ2 a7 (fun v8 =>
 W_X1_inRange G σ2  (((x2).toInt64)) ((0 : Int64)) ((((v8 - (1 : Int32))).toInt64)) (fun v9 σ10 =>
 wC (bc - c3) (bs - c4) (fun c13 c14 =>
 W_X1_requireElement G c13 c14 σ10  (v9) (fun σ12 =>
 wGO σ12 a5 [15] 5 (fun v15 =>
 wU v15 (fun a16 =>
 wLI σ12 a16 x2 (fun v17 =>
 Q (v17) σ12)))) X)) X))))) X))
def W_X1_peakOf (G : KG) (bc bs : Nat) (σ : KHp) (x0 : Nat) (x1 : Int32) (Q : UInt32 → KHp → Prop) (X : String → Nat → KHp → Prop) : Prop :=
  (wR σ x0 0 ∧
 wC bc bs (fun c3 c4 =>
 W_X1_tripAt G c3 c4 σ x0 (x1) (fun v1 σ2 =>
 wU v1 (fun a5 =>
 wGF σ2 a5 [15] 4 (fun v6 =>
 Q (v6) σ2))) X))
def W_X1_undo (G : KG) (bc bs : Nat) (σ : KHp) (x0 : Nat) (Q : Int32 → KHp → Prop) (X : String → Nat → KHp → Prop) : Prop :=
  wGO σ x0 [0] 1 (fun v1 =>
 wU v1 (fun a2 =>
 (wR σ a2 22 ∧
 W_J19_isEmpty G σ a2  (fun v3 σ4 =>
 jn (κ := Int32 → KHp → Nat → Nat → Prop) (fun v6 σ7 bcv6 bsv6 =>
 wC bcv6 bsv6 (fun c10 c11 =>
 W_X1_requireState G c10 c11 σ7  (v6) (fun σ9 =>
 wGO σ9 x0 [0] 1 (fun v12 =>
 wU v12 (fun a13 =>
 (wR σ9 a13 22 ∧
 W_J19_removeLast G σ9 a13  (fun v14 σ15 =>
 wU v14 (fun a16 =>
 (wR σ15 a16 1 ∧
 wP σ15 x0 [0] 0 (.ref (a16)) (fun σ17 =>
 wGO σ17 x0 [0] 1 (fun v18 =>
 wU v18 (fun a19 =>
 (wR σ17 a19 22 ∧
 W_J19_size G σ17 a19  (fun v20 σ21 =>
 Q (v20) σ21) X))))))) X)))) X)) (fun k5 =>
 wIf (v3 = 0)
 (k5 (1 : Int32) σ4 bc bs)
 (k5 (0 : Int32) σ4 bc bs))) X)))
def W_X1_outputByte (G : KG) (bc bs : Nat) (σ : KHp) (x0 : Nat) (x1 : Int32) (Q : Int32 → KHp → Prop) (X : String → Nat → KHp → Prop) : Prop :=
  wGO σ x0 [0] 6 (fun v1 =>
 wU v1 (fun a2 =>
 (wR σ a2 19 ∧
 W_J8_length G σ a2  (fun v3 σ4 =>
 W_X1_inRange G σ4  (((x1).toInt64)) ((0 : Int64)) ((((v3 - (1 : Int32))).toInt64)) (fun v5 σ6 =>
 wC bc bs (fun c9 c10 =>
 W_X1_requireIndex G c9 c10 σ6  (v5) (fun σ8 =>
 wGO σ8 x0 [0] 6 (fun v11 =>
 wU v11 (fun a12 =>
 (wR σ8 a12 19 ∧
 W_J8_charAt G σ8 a12 (x1) (fun v13 σ14 =>
 Q (v13) σ14) X)))) X)) X) X)))
def WB_X2_doSwitches_75 (G : KG) (Q : KHp → Prop) (X : String → Nat → KHp → Prop) (kI2 : KHp → Int32 → Prop) (y0 : Nat) (kI75 : KHp → Int32 → Prop) (σ : KHp) (l1 : Int32) : Prop :=
  wGO σ y0 [1] 3 (fun v76001 =>
 wU v76001 (fun a76002 =>
 (wR σ a76002 21 ∧
 W_J18_size G σ a76002  (fun v76003 σ76004 =>
 wIf (v76003 ≤ l1)
 (Q σ76004)
 (wGO σ76004 y0 [1] 3 (fun v76005 =>
 wU v76005 (fun a76006 =>
 (wR σ76004 a76006 21 ∧
 W_J18_get G σ76004 a76006 (l1) (fun v76007 σ76008 =>
 wU v76007 (fun a76009 =>
 (wR σ76008 a76009 14 ∧
 wGI σ76008 a76009 [14] 0 (fun v76010 =>
 wGI σ76008 y0 [1] 12 (fun v76011 =>
 wIf (v76010 = v76011)
 (wGO σ76008 y0 [1] 3 (fun v76012 =>
 wU v76012 (fun a76013 =>
 (wR σ76008 a76013 21 ∧
 W_J18_remove G σ76008 a76013 (l1) (fun v76014 σ76015 =>
 kI75 σ76015 l1) X))))
 (kI75 σ76008 (l1 + (1 : Int32)))))))) X))))) X)))
def WB_X2_doSwitches_2 (G : KG) (Q : KHp → Prop) (X : String → Nat → KHp → Prop)  (y0 : Nat) (kI2 : KHp → Int32 → Prop) (σ : KHp) (l1 : Int32) : Prop :=
  wGO σ y0 [1] 3 (fun v3001 =>
 wU v3001 (fun a3002 =>
 (wR σ a3002 21 ∧
 W_J18_size G σ a3002  (fun v3003 σ3004 =>
 wIf (v3003 ≤ l1)
 (loopW1 (WB_X2_doSwitches_75 G Q X kI2 y0) 9000 σ3004 (0 : Int32))
 (wGO σ3004 y0 [1] 3 (fun v3006 =>
 wU v3006 (fun a3007 =>
 (wR σ3004 a3007 21 ∧
 W_J18_get G σ3004 a3007 (l1) (fun v3008 σ3009 =>
 wU v3008 (fun a3010 =>
 (wR σ3009 a3010 14 ∧
 wGI σ3009 a3010 [14] 0 (fun v3011 =>
 wGI σ3009 y0 [1] 12 (fun v3012 =>
 jn (κ := KHp → Prop) (fun σ3030 =>
 kI2 σ3030 (l1 + (1 : Int32))) (fun k3013 =>
 wIf (v3011 = v3012)
 (wGO σ3009 y0 [1] 5 (fun v3014 =>
 wGO σ3009 y0 [1] 3 (fun v3015 =>
 wU v3015 (fun a3016 =>
 (wR σ3009 a3016 21 ∧
 W_J18_get G σ3009 a3016 (l1) (fun v3017 σ3018 =>
 wU v3017 (fun a3019 =>
 (wR σ3018 a3019 14 ∧
 wGI σ3018 a3019 [14] 1 (fun v3020 =>
 wGO σ3018 y0 [1] 3 (fun v3021 =>
 wU v3021 (fun a3022 =>
 (wR σ3018 a3022 21 ∧
 W_J18_get G σ3018 a3022 (l1) (fun v3023 σ3024 =>
 wU v3023 (fun a3025 =>
 (wR σ3024 a3025 14 ∧
 wGI σ3024 a3025 [14] 2 (fun v3026 =>
 wU v3014 (fun a3027 =>
 wSB σ3024 a3027 v3020 (v3026) (fun σ3028 =>
 k3013 σ3028)))))) X))))))) X)))))
 (k3013 σ3009))))))) X))))) X)))
def W_X2_doSwitches (G : KG) (σ : KHp) (x0 : Nat) (Q : KHp → Prop) (X : String → Nat → KHp → Prop) : Prop :=
  loopW1 (WB_X2_doSwitches_2 G Q X  x0) 9000 σ (0 : Int32)
def WB_X2_match_83 (G : KG) (Q : KHp → Prop) (X : String → Nat → KHp → Prop) (kI12 : KHp → Int32 → Prop) (y0 : Nat)  (y1 : Nat) (kI83 : KHp → Int32 → Prop) (σ : KHp) (l2 : Int32) : Prop :=
  wGO σ y0 [1] 2 (fun v84001 =>
 wU v84001 (fun a84002 =>
 (wR σ a84002 16 ∧
 W_J2_size G σ a84002  (fun v84003 σ84004 =>
 wIf (v84003 ≤ l2)
 (Q σ84004)
 (wGO σ84004 y0 [1] 2 (fun v84005 =>
 wU v84005 (fun a84006 =>
 (wR σ84004 a84006 16 ∧
 W_J2_get G σ84004 a84006 (l2) (fun v84007 σ84008 =>
 wU v84007 (fun a84009 =>
 (wR σ84008 a84009 13 ∧
 wGO σ84008 a84009 [13] 0 (fun v84010 =>
 wGO σ84008 y1 [3] 1 (fun v84011 =>
 wU v84010 (fun a84012 =>
 (wR σ84008 a84012 11 ∧
 W_X14_matches G σ84008 a84012 (v84011) (fun v84013 σ84014 =>
 jn (κ := KHp → Prop) (fun σ84026 =>
 kI83 σ84026 (l2 + (1 : Int32))) (fun k84015 =>
 wIf (v84013 = 0)
 (k84015 σ84014)
 (wGI σ84014 y1 [3] 6 (fun v84016 =>
 wP σ84014 y1 [3] 6 (.int ((v84016 ||| ((1 : Int32) <<< (l2 &&& 31))))) (fun σ84017 =>
 wGO σ84017 y0 [1] 2 (fun v84018 =>
 wU v84018 (fun a84019 =>
 (wR σ84017 a84019 16 ∧
 W_J2_get G σ84017 a84019 (l2) (fun v84020 σ84021 =>
 wU v84020 (fun a84022 =>
 (wR σ84021 a84022 13 ∧
 wGI σ84021 a84022 [13] 1 (fun v84023 =>
 wP σ84021 a84022 [13] 1 (.int ((v84023 + (1 : Int32)))) (fun σ84024 =>
 k84015 σ84024))))) X)))))))) X))))))) X))))) X)))
def WB_X2_match_12 (G : KG) (Q : KHp → Prop) (X : String → Nat → KHp → Prop)  (y0 : Nat)  (y1 : Nat) (kI12 : KHp → Int32 → Prop) (σ : KHp) (l2 : Int32) : Prop :=
  wGO σ y0 [1] 0 (fun v13001 =>
 wU v13001 (fun a13002 =>
 wGO σ a13002 [2] 7 (fun v13003 =>
 wU v13003 (fun a13004 =>
 (wR σ a13004 16 ∧
 W_J2_size G σ a13004  (fun v13005 σ13006 =>
 wIf (v13005 ≤ l2)
 (loopW1 (WB_X2_match_83 G Q X kI12 y0 y1) 9000 σ13006 (0 : Int32))
 (wGO σ13006 y0 [1] 0 (fun v13008 =>
 wU v13008 (fun a13009 =>
 wGO σ13006 a13009 [2] 7 (fun v13010 =>
 wU v13010 (fun a13011 =>
 (wR σ13006 a13011 16 ∧
 W_J2_get G σ13006 a13011 (l2) (fun v13012 σ13013 =>
 wU v13012 (fun a13014 =>
 (wR σ13013 a13014 11 ∧
 wGO σ13013 y1 [3] 1 (fun v13015 =>
 (wR σ13013 a13014 11 ∧
 W_X14_matches G σ13013 a13014 (v13015) (fun v13016 σ13017 =>
 jn (κ := KHp → Prop) (fun σ13026 =>
 kI12 σ13026 (l2 + (1 : Int32))) (fun k13018 =>
 wIf (v13016 = 0)
 (k13018 σ13017)
 (wGI σ13017 y1 [3] 5 (fun v13019 =>
 wP σ13017 y1 [3] 5 (.int ((v13019 ||| ((1 : Int32) <<< (l2 &&& 31))))) (fun σ13020 =>
 wGO σ13020 y0 [1] 6 (fun v13021 =>
 wU v13021 (fun a13022 =>
 wLI σ13020 a13022 l2 (fun v13023 =>
 wSI σ13020 a13022 l2 ((v13023 + (1 : Int32))) (fun σ13024 =>
 k13018 σ13024))))))))) X))))) X))))))) X)))))
def W_X2_match (G : KG) (σ : KHp) (x0 : Nat) (x1 : Option Nat) (Q : KHp → Prop) (X : String → Nat → KHp → Prop) : Prop :=
  wU x1 (fun a1 =>
 wP σ a1 [3] 5 (.int ((0 : Int32))) (fun σ2 =>
 wP σ2 a1 [3] 6 (.int ((0 : Int32))) (fun σ3 =>
 loopW1 (WB_X2_match_12 G Q X  x0 a1) 9000 σ3 (0 : Int32))))
def WB_X2_trip_37 (G : KG) (Q : KHp → Prop) (X : String → Nat → KHp → Prop)  (y0 : Nat)  (y1 : Int32)  (y2 : Int32)  (y3 : Int32)  (y4 : Nat)  (y5 : Nat) (kI37 : KHp → Nat → Nat → Int32 → Int32 → Prop) (σ : KHp) (bc37 bs37 : Nat) (l6 : Int32) (l7 : Int32) : Prop :=
  wIf (l7 < 0)
 (wGO σ y0 [1] 4 (fun v38001 =>
 wU v38001 (fun a38002 =>
 (wR σ a38002 22 ∧
 W_J19_size G σ a38002  (fun v38003 σ38004 =>
 jn (κ := KHp → Nat → Nat → Prop) (fun σ38011 bcv38010 bsv38010 =>
 wGO σ38011 y0 [1] 4 (fun v38012 =>
 wN bcv38010 bsv38010 σ38011 15 [.int 0, .int 0, .int 0, .int 0, .float 0, .null] (fun q38013 σ38014 =>
 wGI σ38014 y0 [1] 12 (fun v38015 =>
 wGO σ38014 y4 [3] 1 (fun v38016 =>
 wU v38016 (fun a38017 =>
 wLF σ38014 a38017 (0 : Int32) (fun v38018 =>
 W_X20_init G σ38014 q38013 (v38015) (y1) (y2) (y3) (v38018) (some y5) (fun σ38020 =>
 wU v38012 (fun a38021 =>
 (wR σ38020 a38021 22 ∧
 wC (bcv38010 - 1) (bsv38010 - 6) (fun c38024 c38025 =>
 W_J19_addLast G c38024 c38025 σ38020 a38021 (some q38013) (fun σ38023 =>
 wGI σ38023 y4 [3] 3 (fun v38026 =>
 wP σ38023 y4 [3] 3 (.int ((v38026 + (1 : Int32)))) (fun σ38027 =>
 wGI σ38027 y4 [3] 3 (fun v38028 =>
 jn (κ := Int32 → KHp → Nat → Nat → Prop) (fun v38030 σ38031 bcv38030 bsv38030 =>
 wP σ38031 y4 [3] 2 (.int (v38030)) (fun σ38032 =>
 (wR σ38032 y4 3 ∧
 W_X5_forgetWindow G σ38032 y4  (fun σ38034 =>
 Q σ38034) X))) (fun k38029 =>
 wIf (v38028 < (3 : Int32))
 (k38029 (1 : Int32) σ38027 (bcv38010 - 1 - c38024) (bsv38010 - 6 - c38025))
 (k38029 (2 : Int32) σ38027 (bcv38010 - 1 - c38024) (bsv38010 - 6 - c38025))))))) X)))) X))))))) (fun k38005 =>
 wIf (v38003 = (8 : Int32))
 (wGO σ38004 y0 [1] 4 (fun v38006 =>
 wU v38006 (fun a38007 =>
 (wR σ38004 a38007 22 ∧
 W_J19_removeFirst G σ38004 a38007  (fun v38008 σ38009 =>
 k38005 σ38009 bc37 bs37) X))))
 (k38005 σ38004 bc37 bs37))) X))))
 ((wR σ y4 3 ∧
 W_X5_was G σ y4 (l7) (fun v38035 σ38036 =>
 jn (κ := Int32 → KHp → Nat → Nat → Prop) (fun v38040 σ38041 bcv38040 bsv38040 =>
 kI37 σ38041 bcv38040 bsv38040 v38040 (l7 + (-1 : Int32))) (fun k38037 =>
 wIf (v38035 = 0)
 (k38037 l6 σ38036 bc37 bs37)
 (wGI σ38036 y0 [1] 12 (fun v38038 =>
 wSI σ38036 y5 l6 ((v38038 - l7)) (fun σ38039 =>
 k38037 (l6 + (1 : Int32)) σ38039 bc37 bs37))))) X))
def W_X2_trip (G : KG) (bc bs : Nat) (σ : KHp) (x0 : Nat) (x1 : Int32) (x2 : Int32) (x3 : Int32) (Q : KHp → Prop) (X : String → Nat → KHp → Prop) : Prop :=
  wGO σ x0 [1] 1 (fun v1 =>
 wU v1 (fun a2 =>
 (wR σ a2 16 ∧
 W_J2_get G σ a2 (x1) (fun v3 σ4 =>
 wU v3 (fun a5 =>
 (wR σ4 a5 3 ∧
 wGI σ4 x0 [1] 10 (fun v6 =>
 (wR σ4 a5 3 ∧
 W_X5_suspects G σ4 a5 (v6) (fun v7 σ8 =>
 wNA bc bs σ8 .int (.inl (fun _ => 0)) v7 (fun n11 q9 σ10 =>
 wGI σ10 x0 [1] 10 (fun v12 =>
 loopW4 (WB_X2_trip_37 G Q X  x0 x1 x2 x3 a5 q9) 9000 σ10 (bc - 1) (bs - n11) (0 : Int32) (v12 - (1 : Int32))))) X))))) X)))
def W_J1_listIterator (G : KG) (bc bs : Nat) (σ : KHp) (x0 : Nat) (Q : Option Nat → KHp → Prop) (X : String → Nat → KHp → Prop) : Prop :=
  jn (κ := Option Nat → KHp → Nat → Nat → Prop) (fun v1 σ2 bcv1 bsv1 =>
 Q (v1) σ2) (fun k3 =>
 (wR σ x0 16 ∧ W_J2_listIterator G σ x0 ((0 : Int32)) (fun r_ σ_ => k3 r_ σ_ bc bs) X) ∨
 (wR σ x0 21 ∧ wC bc bs (fun c1 s1 => W_J18_listIterator G c1 s1 σ x0 ((0 : Int32)) (fun r_ σ_ => k3 r_ σ_ (bc - c1) (bs - s1)) X)))
def W_J2_grow (G : KG) (bc bs : Nat) (σ : KHp) (x0 : Nat) (Q : Option Nat → KHp → Prop) (X : String → Nat → KHp → Prop) : Prop :=
  wGI σ x0 [16] 2 (fun v1 =>
 (wR σ x0 16 ∧
 wC bc bs (fun c4 c5 =>
 W_J2_grow_2 G c4 c5 σ x0 ((v1 + (1 : Int32))) (fun v2 σ3 =>
 Q (v2) σ3) X)))
def W_J2_indexOf (G : KG) (σ : KHp) (x0 : Nat) (x1 : Option Nat) (Q : Int32 → KHp → Prop) (X : String → Nat → KHp → Prop) : Prop :=
  wGI σ x0 [16] 2 (fun v1 =>
 (wR σ x0 16 ∧
 W_J2_indexOfRange G σ x0 (x1) ((0 : Int32)) (v1) (fun v2 σ3 =>
 Q (v2) σ3) X))
def W_J7_ensureCapacityInternal (G : KG) (bc bs : Nat) (σ : KHp) (x0 : Nat) (x1 : Int32) (Q : KHp → Prop) (X : String → Nat → KHp → Prop) : Prop :=
  wGO σ x0 [19] 0 (fun v1 =>
 wU v1 (fun a2 =>
 wLen σ a2 (fun v3 =>
 wGI σ x0 [19] 1 (fun v4 =>
 wIf ((x1 - (v3 >>> (v4 &&& 31))) ≤ 0)
 (Q σ)
 (wGO σ x0 [19] 0 (fun v5 =>
 (wR σ x0 19 ∧
 W_J7_newCapacity G σ x0 (x1) (fun v6 σ7 =>
 wGI σ7 x0 [19] 1 (fun v8 =>
 wC bc bs (fun c11 c12 =>
 W_J13_copyOf G c11 c12 σ7  (v5) ((v6 <<< (v8 &&& 31))) (fun v9 σ10 =>
 wP σ10 x0 [19] 0 (va_rf (v9)) (fun σ13 =>
 Q σ13)) X))) X)))))))
def W_J7_inflate (G : KG) (bc bs : Nat) (σ : KHp) (x0 : Nat) (Q : KHp → Prop) (X : String → Nat → KHp → Prop) : Prop :=
  (wR σ x0 19 ∧
 W_J7_isLatin1 G σ x0  (fun v1 σ2 =>
 wIf (v1 = 0)
 (Q σ2)
 (wGO σ2 x0 [19] 0 (fun v3 =>
 wU v3 (fun a4 =>
 wLen σ2 a4 (fun v5 =>
 wC bc bs (fun c8 c9 =>
 W_J10_newBytesFor G c8 c9 σ2  (v5) (fun v6 σ7 =>
 wGO σ7 x0 [19] 0 (fun v10 =>
 wGI σ7 x0 [19] 3 (fun v11 =>
 W_J15_inflate G σ7  (v10) ((0 : Int32)) (v6) ((0 : Int32)) (v11) (fun σ13 =>
 wP σ13 x0 [19] 0 (va_rf (v6)) (fun σ14 =>
 wPB σ14 x0 [19] 1 (1 : Int32) (fun σ15 =>
 Q σ15))) X))) X)))))) X)
def W_J7_append_2 (G : KG) (bc bs : Nat) (σ : KHp) (x0 : Nat) (x1 : Int32) (Q : Option Nat → KHp → Prop) (X : String → Nat → KHp → Prop) : Prop :=
  wGI σ x0 [19] 3 (fun v1 =>
 W_J16_stringSize G σ  (x1) (fun v2 σ3 =>
 (wR σ3 x0 19 ∧
 wC bc bs (fun c6 c7 =>
 W_J7_ensureCapacityInternal G c6 c7 σ3 x0 ((v1 + v2)) (fun σ5 =>
 (wR σ5 x0 19 ∧
 W_J7_isLatin1 G σ5 x0  (fun v8 σ9 =>
 jn (κ := KHp → Nat → Nat → Prop) (fun σ18 bcv17 bsv17 =>
 wP σ18 x0 [19] 3 (.int ((v1 + v2))) (fun σ19 =>
 Q (some x0) σ19)) (fun k10 =>
 wIf (v8 = 0)
 (wGO σ9 x0 [19] 0 (fun v11 =>
 W_J10_getChars G σ9  (x1) (v1) ((v1 + v2)) (v11) (fun v12 σ13 =>
 k10 σ13 (bc - c6) (bs - c7)) X))
 (wGO σ9 x0 [19] 0 (fun v14 =>
 W_J16_getChars G σ9  (x1) ((v1 + v2)) (v14) (fun v15 σ16 =>
 k10 σ16 (bc - c6) (bs - c7)) X)))) X)) X))) X)
def W_J7_append_3 (G : KG) (bc bs : Nat) (σ : KHp) (x0 : Nat) (x1 : Int32) (Q : Option Nat → KHp → Prop) (X : String → Nat → KHp → Prop) : Prop :=
  wGI σ x0 [19] 3 (fun v1 =>
 (wR σ x0 19 ∧
 wC bc bs (fun c4 c5 =>
 W_J7_ensureCapacityInternal G c4 c5 σ x0 ((v1 + (1 : Int32))) (fun σ3 =>
 (wR σ3 x0 19 ∧
 W_J7_isLatin1 G σ3 x0  (fun v6 σ7 =>
 wIf (v6 = 0)
 ((wR σ7 x0 19 ∧
 W_J7_isLatin1 G σ7 x0  (fun v8 σ9 =>
 jn (κ := KHp → Nat → Nat → Prop) (fun σ16 bcv15 bsv15 =>
 wGO σ16 x0 [19] 0 (fun v17 =>
 wGI σ16 x0 [19] 3 (fun v18 =>
 wP σ16 x0 [19] 3 (.int ((v18 + (1 : Int32)))) (fun σ19 =>
 W_J10_putCharSB G σ19  (v17) (v18) (x1) (fun σ21 =>
 Q (some x0) σ21) X)))) (fun k10 =>
 wIf (v8 = 0)
 (k10 σ9 (bc - c4) (bs - c5))
 ((wR σ9 x0 19 ∧
 wC (bc - c4) (bs - c5) (fun c13 c14 =>
 W_J7_inflate G c13 c14 σ9 x0  (fun σ12 =>
 k10 σ12 (bc - c4 - c13) (bs - c5 - c14)) X))))) X))
 (W_J15_canEncode G σ7  (x1) (fun v22 σ23 =>
 wIf (v22 = 0)
 ((wR σ23 x0 19 ∧
 W_J7_isLatin1 G σ23 x0  (fun v24 σ25 =>
 jn (κ := KHp → Nat → Nat → Prop) (fun σ32 bcv31 bsv31 =>
 wGO σ32 x0 [19] 0 (fun v33 =>
 wGI σ32 x0 [19] 3 (fun v34 =>
 wP σ32 x0 [19] 3 (.int ((v34 + (1 : Int32)))) (fun σ35 =>
 W_J10_putCharSB G σ35  (v33) (v34) (x1) (fun σ37 =>
 Q (some x0) σ37) X)))) (fun k26 =>
 wIf (v24 = 0)
 (k26 σ25 (bc - c4) (bs - c5))
 ((wR σ25 x0 19 ∧
 wC (bc - c4) (bs - c5) (fun c29 c30 =>
 W_J7_inflate G c29 c30 σ25 x0  (fun σ28 =>
 k26 σ28 (bc - c4 - c29) (bs - c5 - c30)) X))))) X))
 (wGO σ23 x0 [19] 0 (fun v38 =>
 wGI σ23 x0 [19] 3 (fun v39 =>
 wP σ23 x0 [19] 3 (.int ((v39 + (1 : Int32)))) (fun σ40 =>
 wU v38 (fun a41 =>
 wSB σ40 a41 v39 (((x1).toInt8.toInt32)) (fun σ42 =>
 Q (some x0) σ42))))))) X)) X)) X)))
def W_J7_setLength (G : KG) (bc bs : Nat) (σ : KHp) (x0 : Nat) (x1 : Int32) (Q : KHp → Prop) (X : String → Nat → KHp → Prop) : Prop :=
  wIf (0 ≤ x1)
 ((wR σ x0 19 ∧
 wC bc bs (fun c3 c4 =>
 W_J7_ensureCapacityInternal G c3 c4 σ x0 (x1) (fun σ2 =>
 wGI σ2 x0 [19] 3 (fun v5 =>
 jn (κ := KHp → Nat → Nat → Prop) (fun σ20 bcv19 bsv19 =>
 wP σ20 x0 [19] 3 (.int (x1)) (fun σ21 =>
 Q σ21)) (fun k6 =>
 wIf (x1 ≤ v5)
 (wGI σ2 x0 [19] 3 (fun v7 =>
 wIf (v7 ≤ x1)
 (k6 σ2 (bc - c3) (bs - c4))
 (wPZ σ2 x0 [19] 2 (1 : Int32) (fun σ8 =>
 k6 σ8 (bc - c3) (bs - c4)))))
 ((wR σ2 x0 19 ∧
 W_J7_isLatin1 G σ2 x0  (fun v9 σ10 =>
 wIf (v9 = 0)
 (wGO σ10 x0 [19] 0 (fun v11 =>
 wGI σ10 x0 [19] 3 (fun v12 =>
 W_J10_fillNull G σ10  (v11) (v12) (x1) (fun σ14 =>
 k6 σ14 (bc - c3) (bs - c4)) X)))
 (wGO σ10 x0 [19] 0 (fun v15 =>
 wGI σ10 x0 [19] 3 (fun v16 =>
 W_J15_fillNull G σ10  (v15) (v16) (x1) (fun σ18 =>
 k6 σ18 (bc - c3) (bs - c4)) X)))) X))))) X)))
 (False)
def W_J8_append_2 (G : KG) (bc bs : Nat) (σ : KHp) (x0 : Nat) (x1 : Int32) (Q : Option Nat → KHp → Prop) (X : String → Nat → KHp → Prop) : Prop :=
  (wR σ x0 19 ∧
 wC bc bs (fun c3 c4 =>
 W_J7_append_2 G c3 c4 σ x0 (x1) (fun v1 σ2 =>
 Q (some x0) σ2) X))
def W_J8_append_3 (G : KG) (bc bs : Nat) (σ : KHp) (x0 : Nat) (x1 : Int32) (Q : Option Nat → KHp → Prop) (X : String → Nat → KHp → Prop) : Prop :=
  (wR σ x0 19 ∧
 wC bc bs (fun c3 c4 =>
 W_J7_append_3 G c3 c4 σ x0 (x1) (fun v1 σ2 =>
 Q (some x0) σ2) X))
def W_J8_setLength (G : KG) (bc bs : Nat) (σ : KHp) (x0 : Nat) (x1 : Int32) (Q : KHp → Prop) (X : String → Nat → KHp → Prop) : Prop :=
  (wR σ x0 19 ∧
 wC bc bs (fun c3 c4 =>
 W_J7_setLength G c3 c4 σ x0 (x1) (fun σ2 =>
 Q σ2) X))
def W_J9_getBytes (G : KG) (σ : KHp) (x0 : Nat) (x1 : Option Nat) (x2 : Int32) (x3 : Int32) (Q : KHp → Prop) (X : String → Nat → KHp → Prop) : Prop :=
  (wR σ x0 20 ∧
 W_J9_coder G σ x0  (fun v1 σ2 =>
 wIf (v1 = x3)
 (wGO σ2 x0 [20] 0 (fun v9 =>
 wGO σ2 x0 [20] 0 (fun v10 =>
 wU v10 (fun a11 =>
 wLen σ2 a11 (fun v12 =>
 wU v9 (fun a13 =>
 wU x1 (fun a14 =>
 wCp σ2 a13 (0 : Int32) a14 (x2 <<< (x3 &&& 31)) v12 (fun σ15 =>
 Q σ15))))))))
 (wGO σ2 x0 [20] 0 (fun v3 =>
 wGO σ2 x0 [20] 0 (fun v4 =>
 wU v4 (fun a5 =>
 wLen σ2 a5 (fun v6 =>
 W_J15_inflate G σ2  (v3) ((0 : Int32)) (x1) (x2) (v6) (fun σ8 =>
 Q σ8) X)))))) X)
def W_J9_hashCode (G : KG) (σ : KHp) (x0 : Nat) (Q : Int32 → KHp → Prop) (X : String → Nat → KHp → Prop) : Prop :=
  wGI σ x0 [20] 2 (fun v1 =>
 wIf (v1 = 0)
 (wGI σ x0 [20] 3 (fun v2 =>
 wIf (v2 = 0)
 ((wR σ x0 20 ∧
 W_J9_isLatin1 G σ x0  (fun v3 σ4 =>
 jn (κ := Int32 → KHp → Prop) (fun v12 σ13 =>
 wIf (v12 = 0)
 (wPZ σ13 x0 [20] 3 (1 : Int32) (fun σ15 =>
 Q (v12) σ15))
 (wP σ13 x0 [20] 2 (.int (v12)) (fun σ14 =>
 Q (v12) σ14))) (fun k5 =>
 wIf (v3 = 0)
 (wGO σ4 x0 [20] 0 (fun v6 =>
 W_J10_hashCode G σ4  (v6) (fun v7 σ8 =>
 k5 v7 σ8) X))
 (wGO σ4 x0 [20] 0 (fun v9 =>
 W_J15_hashCode G σ4  (v9) (fun v10 σ11 =>
 k5 v10 σ11) X)))) X))
 (Q (v1) σ)))
 (Q (v1) σ))
def W_J10_compress (G : KG) (bc bs : Nat) (σ : KHp) (x0 : Option Nat) (x1 : Int32) (x2 : Int32) (Q : Option Nat → KHp → Prop) (X : String → Nat → KHp → Prop) : Prop :=
  wNA bc bs σ .byte (.inl (fun _ => 0)) x2 (fun n3 q1 σ2 =>
 W_J10_compress_2 G σ2  (x0) (x1) (some q1) ((0 : Int32)) (x2) (fun v4 σ5 =>
 wIf (v4 = x2)
 (Q (some q1) σ5)
 (W_J10_newBytesLength G σ5  ((x1 + x2)) (fun v6 σ7 =>
 wC (bc - 1) (bs - n3) (fun c10 c11 =>
 W_J13_copyOfRange G c10 c11 σ7  (x0) ((x1 <<< ((1 : Int32) &&& 31))) (v6) (fun v8 σ9 =>
 W_J10_getChar G σ9  (v8) (v4) (fun v12 σ13 =>
 wIf ((255 : Int32) < v12)
 (Q (v8) σ13)
 (W_J10_compress_2 G σ13  (v8) ((0 : Int32)) (some q1) ((0 : Int32)) (x2) (fun v14 σ15 =>
 wIf (v14 = x2)
 (Q (some q1) σ15)
 (Q (v8) σ15)) X)) X) X)) X)) X)
def W_J17_iterator (G : KG) (bc bs : Nat) (σ : KHp) (x0 : Nat) (Q : Option Nat → KHp → Prop) (X : String → Nat → KHp → Prop) : Prop :=
  (wR σ x0 21 ∧
 wC bc bs (fun c3 c4 =>
 W_J1_listIterator G c3 c4 σ x0  (fun v1 σ2 =>
 Q (v1) σ2) X))
def W_X1_featureOf (G : KG) (σ : KHp) (x0 : Option Nat) (Q : Int32 → KHp → Prop) (X : String → Nat → KHp → Prop) : Prop :=
  wU x0 (fun a1 =>
 (wR σ a1 20 ∧
 W_J9_hashCode G σ a1  (fun v2 σ3 =>
 jn (κ := Int32 → KHp → Prop) (fun v17 σ18 =>
 jn (κ := Int32 → KHp → Prop) (fun v20 σ21 =>
 Q (v20) σ21) (fun k19 =>
 wIf (v17 = (0 : Int32))
 (k19 (0 : Int32) σ18)
 (wIf (v17 = (1 : Int32))
 (k19 (1 : Int32) σ18)
 (wIf (v17 = (2 : Int32))
 (k19 (2 : Int32) σ18)
 (wIf (v17 = (3 : Int32))
 (k19 (3 : Int32) σ18)
 (wIf (v17 = (4 : Int32))
 (k19 (4 : Int32) σ18)
 (wIf (v17 = (5 : Int32))
 (k19 (5 : Int32) σ18)
 (k19 (-1 : Int32) σ18)))))))) (fun k4 =>
 wIf (v2 = (-1361636432 : Int32))
 ((wR σ3 a1 20 ∧
 W_J9_equals G σ3 a1 (some (kx_K G 52)) (fun v5 σ6 =>
 wIf (v5 = 0)
 (k4 (-1 : Int32) σ6)
 (k4 (4 : Int32) σ6)) X))
 (wIf (v2 = (-1298713976 : Int32))
 ((wR σ3 a1 20 ∧
 W_J9_equals G σ3 a1 (some (kx_K G 53)) (fun v7 σ8 =>
 wIf (v7 = 0)
 (k4 (-1 : Int32) σ8)
 (k4 (5 : Int32) σ8)) X))
 (wIf (v2 = (3145593 : Int32))
 ((wR σ3 a1 20 ∧
 W_J9_equals G σ3 a1 (some (kx_K G 50)) (fun v9 σ10 =>
 wIf (v9 = 0)
 (k4 (-1 : Int32) σ10)
 (k4 (2 : Int32) σ10)) X))
 (wIf (v2 = (3347397 : Int32))
 ((wR σ3 a1 20 ∧
 W_J9_equals G σ3 a1 (some (kx_K G 49)) (fun v11 σ12 =>
 wIf (v11 = 0)
 (k4 (-1 : Int32) σ12)
 (k4 (1 : Int32) σ12)) X))
 (wIf (v2 = (3436767 : Int32))
 ((wR σ3 a1 20 ∧
 W_J9_equals G σ3 a1 (some (kx_K G 48)) (fun v13 σ14 =>
 wIf (v13 = 0)
 (k4 (-1 : Int32) σ14)
 (k4 (0 : Int32) σ14)) X))
 (wIf (v2 = (109760975 : Int32))
 ((wR σ3 a1 20 ∧
 W_J9_equals G σ3 a1 (some (kx_K G 51)) (fun v15 σ16 =>
 wIf (v15 = 0)
 (k4 (-1 : Int32) σ16)
 (k4 (3 : Int32) σ16)) X))
 (k4 (-1 : Int32) σ3)))))))) X))
def WB_X1_nextSwitch_19 (G : KG) (Q : Int32 → KHp → Prop) (X : String → Nat → KHp → Prop)  (y1 : Int32)  (y3 : Option Nat) (kI19 : KHp → Nat → Nat → Int32 → Prop) (σ : KHp) (bc19 bs19 : Nat) (l2 : Int32) : Prop :=
  wU y3 (fun a20001 =>
 jn (κ := Int32 → KHp → Nat → Nat → Prop) (fun v20002 σ20003 bcv20002 bsv20002 =>
 wIf (v20002 = 0)
 (Q (l2) σ20003)
 (jn (κ := Option Nat → KHp → Nat → Nat → Prop) (fun v20005 σ20006 bcv20005 bsv20005 =>
 wU v20005 (fun a20008 =>
 (wR σ20006 a20008 14 ∧
 wGI σ20006 a20008 [14] 1 (fun v20009 =>
 jn (κ := Int32 → KHp → Nat → Nat → Prop) (fun v20014 σ20015 bcv20014 bsv20014 =>
 kI19 σ20015 bcv20014 bsv20014 v20014) (fun k20010 =>
 wIf (v20009 = y1)
 (wIf (l2 = (-1 : Int32))
 (wGI σ20006 a20008 [14] 0 (fun v20011 =>
 k20010 v20011 σ20006 bcv20005 bsv20005))
 (wGI σ20006 a20008 [14] 0 (fun v20012 =>
 wIf (l2 ≤ v20012)
 (k20010 l2 σ20006 bcv20005 bsv20005)
 (wGI σ20006 a20008 [14] 0 (fun v20013 =>
 k20010 v20013 σ20006 bcv20005 bsv20005)))))
 (k20010 l2 σ20006 bcv20005 bsv20005)))))) (fun k20007 =>
 (wR σ20003 a20001 28 ∧ W_J30_next G σ20003 a20001  (fun r_ σ_ => k20007 r_ σ_ bcv20002 bsv20002) X) ∨
 (wR σ20003 a20001 29 ∧ W_J31_next G σ20003 a20001  (fun r_ σ_ => k20007 r_ σ_ bcv20002 bsv20002) X)))) (fun k20004 =>
 (wR σ a20001 28 ∧ W_J30_hasNext G σ a20001  (fun r_ σ_ => k20004 r_ σ_ bc19 bs19) X) ∨
 (wR σ a20001 29 ∧ W_J31_hasNext G σ a20001  (fun r_ σ_ => k20004 r_ σ_ bc19 bs19) X)))
def W_X1_nextSwitch (G : KG) (bc bs : Nat) (σ : KHp) (x0 : Nat) (x1 : Int32) (Q : Int32 → KHp → Prop) (X : String → Nat → KHp → Prop) : Prop :=
  (wR σ x0 0 ∧
 wC bc bs (fun c3 c4 =>
 W_X1_loadAt G c3 c4 σ x0 (x1) (fun v1 σ2 =>
 wGO σ2 x0 [0] 0 (fun v5 =>
 wU v5 (fun a6 =>
 wGO σ2 a6 [1] 3 (fun v7 =>
 wU v7 (fun a8 =>
 (wR σ2 a8 21 ∧
 wC (bc - c3) (bs - c4) (fun c11 c12 =>
 W_J17_iterator G c11 c12 σ2 a8  (fun v9 σ10 =>
 loopW3 (WB_X1_nextSwitch_19 G Q X  x1 v9) 9000 σ10 (bc - c3 - c11) (bs - c4 - c12) (-1 : Int32)) X))))))) X))
def W_X1_memory (G : KG) (bc bs : Nat) (σ : KHp) (x0 : Nat) (x1 : Int32) (x2 : Int32) (Q : Int32 → KHp → Prop) (X : String → Nat → KHp → Prop) : Prop :=
  (wR σ x0 0 ∧
 wC bc bs (fun c3 c4 =>
 W_X1_tripAt G c3 c4 σ x0 (x1) (fun v1 σ2 =>
 W_X1_inRange G σ2  (((x2).toInt64)) ((0 : Int64)) ((4 : Int64)) (fun v5 σ6 =>
 wC (bc - c3) (bs - c4) (fun c9 c10 =>
 W_X1_requireArgument G c9 c10 σ6  (v5) (fun σ8 =>
 jn (κ := Int32 → KHp → Nat → Nat → Prop) (fun v24 σ25 bcv24 bsv24 =>
 Q (v24) σ25) (fun k11 =>
 wIf (x2 = 0)
 (wU v1 (fun a22 =>
 wGI σ8 a22 [15] 0 (fun v23 =>
 k11 v23 σ8 (bc - c3 - c9) (bs - c4 - c10))))
 (wIf (x2 = (1 : Int32))
 (wU v1 (fun a20 =>
 wGI σ8 a20 [15] 1 (fun v21 =>
 k11 v21 σ8 (bc - c3 - c9) (bs - c4 - c10))))
 (wIf (x2 = (2 : Int32))
 (wU v1 (fun a18 =>
 wGI σ8 a18 [15] 2 (fun v19 =>
 k11 v19 σ8 (bc - c3 - c9) (bs - c4 - c10))))
 (wIf (x2 = (3 : Int32))
 (wU v1 (fun a16 =>
 wGI σ8 a16 [15] 3 (fun v17 =>
 k11 v17 σ8 (bc - c3 - c9) (bs - c4 - c10))))
 (wU v1 (fun a12 =>
 wGO σ8 a12 [15] 5 (fun v13 =>
 wU v13 (fun a14 =>
 wLen σ8 a14 (fun v15 =>
 k11 v15 σ8 (bc - c3 - c9) (bs - c4 - c10))))))))))) X)) X) X))
def W_X2_find (G : KG) (σ : KHp) (x0 : Nat) (x1 : Option Nat) (Q : Int32 → KHp → Prop) (X : String → Nat → KHp → Prop) : Prop :=
  wGO σ x0 [1] 0 (fun v1 =>
 wU v1 (fun a2 =>
 wGO σ a2 [2] 4 (fun v3 =>
 wU v3 (fun a4 =>
 (wR σ a4 16 ∧
 W_J2_indexOf G σ a4 (x1) (fun v5 σ6 =>
 wIf (v5 = (-1 : Int32))
 (wGO σ6 x0 [1] 0 (fun v7 =>
 wU v7 (fun a8 =>
 (wR σ6 a8 2 ∧
 W_X3_findLoad G σ6 a8 (x1) (fun v9 σ10 =>
 wIf (v9 = (-1 : Int32))
 (wGO σ10 x0 [1] 0 (fun v11 =>
 wU v11 (fun a12 =>
 (wR σ10 a12 2 ∧
 W_X3_findSignature G σ10 a12 (x1) (fun v13 σ14 =>
 wIf (v13 = (-1 : Int32))
 ((wR σ14 x0 1 ∧
 W_X2_findNuisance G σ14 x0 (x1) (fun v15 σ16 =>
 jn (κ := Int32 → KHp → Prop) (fun v20 σ21 =>
 Q (v20) σ21) (fun k17 =>
 wIf (v15 = (-1 : Int32))
 (k17 (-1 : Int32) σ16)
 ((wR σ16 x0 1 ∧
 W_X2_findNuisance G σ16 x0 (x1) (fun v18 σ19 =>
 k17 ((300 : Int32) + v18) σ19) X)))) X))
 (wGO σ14 x0 [1] 0 (fun v22 =>
 wU v22 (fun a23 =>
 (wR σ14 a23 2 ∧
 W_X3_findSignature G σ14 a23 (x1) (fun v24 σ25 =>
 Q (((200 : Int32) + v24)) σ25) X))))) X))))
 (wGO σ10 x0 [1] 0 (fun v26 =>
 wU v26 (fun a27 =>
 (wR σ10 a27 2 ∧
 W_X3_findLoad G σ10 a27 (x1) (fun v28 σ29 =>
 Q (((100 : Int32) + v28)) σ29) X))))) X))))
 (Q (v5) σ6)) X)))))
def W_X2_goOn (G : KG) (bc bs : Nat) (σ : KHp) (x0 : Nat) (x1 : Int32) (Q : KHp → Prop) (X : String → Nat → KHp → Prop) : Prop :=
  wGO σ x0 [1] 1 (fun v1 =>
 wU v1 (fun a2 =>
 (wR σ a2 16 ∧
 W_J2_get G σ a2 (x1) (fun v3 σ4 =>
 wU v3 (fun a5 =>
 (wR σ4 a5 3 ∧
 (wR σ4 x0 1 ∧
 W_X2_layRow G σ4 x0 (x1) (fun σ7 =>
 (wR σ7 x0 1 ∧
 W_X2_findFeatures G σ7 x0 (some a5) (fun σ9 =>
 (wR σ9 x0 1 ∧
 W_X2_match G σ9 x0 (some a5) (fun σ11 =>
 (wR σ11 x0 1 ∧
 W_X2_causeOf G σ11 x0 (some a5) (fun v12 σ13 =>
 wGI σ13 a5 [3] 9 (fun v14 =>
 jn (κ := Int32 → KHp → Nat → Nat → Prop) (fun v16 σ17 bcv16 bsv16 =>
 wPZ σ17 a5 [3] 10 v16 (fun σ18 =>
 wGJ σ18 a5 [3] 8 (fun v19 =>
 wGI σ18 a5 [3] 10 (fun v20 =>
 jn (κ := Int64 → KHp → Nat → Nat → Prop) (fun v22 σ23 bcv22 bsv22 =>
 wP σ23 a5 [3] 8 (.long (((v19 <<< (((1 : Int32)).toInt64 &&& 63)) ||| v22))) (fun σ24 =>
 wGI σ24 a5 [3] 4 (fun v25 =>
 wP σ24 a5 [3] 4 (.int ((v25 + (1 : Int32)))) (fun σ26 =>
 wGI σ26 a5 [3] 7 (fun v27 =>
 wP σ26 a5 [3] 7 (.int ((v27 + (1 : Int32)))) (fun σ28 =>
 wGO σ28 a5 [3] 1 (fun v29 =>
 wU v29 (fun a30 =>
 wLF σ28 a30 (0 : Int32) (fun v31 =>
 wGO σ28 x0 [1] 0 (fun v32 =>
 wU v32 (fun a33 =>
 wGO σ28 a33 [2] 5 (fun v34 =>
 wU v34 (fun a35 =>
 wLI σ28 a35 x1 (fun v36 =>
 wIf ((Op.cmpValue (FP.fcmp v31 (FP.i2f ((10 : Int32) * v36))) .l) ≤ 0)
 (wGI σ28 x0 [1] 10 (fun v37 =>
 (wR σ28 a5 3 ∧
 W_X5_suspects G σ28 a5 (v37) (fun v38 σ39 =>
 wGI σ39 x0 [1] 11 (fun v40 =>
 wIf (v38 < v40)
 (Q σ39)
 (wGI σ39 a5 [3] 9 (fun v41 =>
 jn (κ := Int32 → KHp → Nat → Nat → Prop) (fun v43 σ44 bcv43 bsv43 =>
 (wR σ44 x0 1 ∧
 wC bcv43 bsv43 (fun c47 c48 =>
 W_X2_trip G c47 c48 σ44 x0 (x1) (v43) (v12) (fun σ46 =>
 Q σ46) X))) (fun k42 =>
 wIf (v41 = 0)
 (k42 (0 : Int32) σ39 bcv22 bsv22)
 (k42 (1 : Int32) σ39 bcv22 bsv22)))))) X)))
 ((wR σ28 x0 1 ∧
 wC bcv22 bsv22 (fun c51 c52 =>
 W_X2_trip G c51 c52 σ28 x0 (x1) ((2 : Int32)) (v12) (fun σ50 =>
 Q σ50) X))))))))))))))))) (fun k21 =>
 wIf (v20 = 0)
 (k21 (0 : Int64) σ18 bcv16 bsv16)
 (k21 (1 : Int64) σ18 bcv16 bsv16)))))) (fun k15 =>
 wIf (v14 = 0)
 (wIf (v12 = (-1 : Int32))
 (k15 (0 : Int32) σ13 bc bs)
 (k15 (1 : Int32) σ13 bc bs))
 (k15 (1 : Int32) σ13 bc bs)))) X)) X)) X)) X)))) X)))
def W_J2_add_2 (G : KG) (bc bs : Nat) (σ : KHp) (x0 : Nat) (x1 : Option Nat) (x2 : Option Nat) (x3 : Int32) (Q : KHp → Prop) (X : String → Nat → KHp → Prop) : Prop :=
  wU x2 (fun a1 =>
 wLen σ a1 (fun v2 =>
 wIf (x3 = v2)
 ((wR σ x0 16 ∧
 wC bc bs (fun c7 c8 =>
 W_J2_grow G c7 c8 σ x0  (fun v5 σ6 =>
 wU v5 (fun a9 =>
 wSO σ6 a9 x3 (x1) (fun σ10 =>
 wP σ10 x0 [16] 2 (.int ((x3 + (1 : Int32)))) (fun σ11 =>
 Q σ11)))) X)))
 (wSO σ a1 x3 (x1) (fun σ3 =>
 wP σ3 x0 [16] 2 (.int ((x3 + (1 : Int32)))) (fun σ4 =>
 Q σ4)))))
def W_J2_contains (G : KG) (σ : KHp) (x0 : Nat) (x1 : Option Nat) (Q : Int32 → KHp → Prop) (X : String → Nat → KHp → Prop) : Prop :=
  (wR σ x0 16 ∧
 W_J2_indexOf G σ x0 (x1) (fun v1 σ2 =>
 jn (κ := Int32 → KHp → Prop) (fun v4 σ5 =>
 (narrow .boolean (.int v4) = .int v4 ∧ Q (v4) σ5)) (fun k3 =>
 wIf (v1 < 0)
 (k3 (0 : Int32) σ2)
 (k3 (1 : Int32) σ2))) X)
def W_J7_appendNull (G : KG) (bc bs : Nat) (σ : KHp) (x0 : Nat) (Q : Option Nat → KHp → Prop) (X : String → Nat → KHp → Prop) : Prop :=
  wGI σ x0 [19] 3 (fun v1 =>
 (wR σ x0 19 ∧
 wC bc bs (fun c4 c5 =>
 W_J7_ensureCapacityInternal G c4 c5 σ x0 ((v1 + (4 : Int32))) (fun σ3 =>
 wGI σ3 x0 [19] 3 (fun v6 =>
 wGO σ3 x0 [19] 0 (fun v7 =>
 (wR σ3 x0 19 ∧
 W_J7_isLatin1 G σ3 x0  (fun v8 σ9 =>
 wIf (v8 = 0)
 (W_J10_putCharsAt G σ9  (v7) (v6) ((110 : Int32)) ((117 : Int32)) ((108 : Int32)) ((108 : Int32)) (fun v10 σ11 =>
 wP σ11 x0 [19] 3 (.int (v10)) (fun σ12 =>
 Q (some x0) σ12)) X)
 (wU v7 (fun a13 =>
 wSB σ9 a13 v6 ((110 : Int32)) (fun σ14 =>
 wSB σ14 a13 (v6 + (1 : Int32)) ((117 : Int32)) (fun σ15 =>
 wSB σ15 a13 ((v6 + (1 : Int32)) + (1 : Int32)) ((108 : Int32)) (fun σ16 =>
 wSB σ16 a13 (((v6 + (1 : Int32)) + (1 : Int32)) + (1 : Int32)) ((108 : Int32)) (fun σ17 =>
 wP σ17 x0 [19] 3 (.int (((((v6 + (1 : Int32)) + (1 : Int32)) + (1 : Int32)) + (1 : Int32)))) (fun σ18 =>
 Q (some x0) σ18)))))))) X)))) X)))
def W_J7_inflateIfNeededFor (G : KG) (bc bs : Nat) (σ : KHp) (x0 : Nat) (x1 : Option Nat) (Q : KHp → Prop) (X : String → Nat → KHp → Prop) : Prop :=
  wIf ((1 : Int32) = 0)
 (Q σ)
 (wGI σ x0 [19] 1 (fun v1 =>
 wU x1 (fun a2 =>
 (wR σ a2 20 ∧
 W_J9_coder G σ a2  (fun v3 σ4 =>
 wIf (v1 = v3)
 (Q σ4)
 ((wR σ4 x0 19 ∧
 wC bc bs (fun c7 c8 =>
 W_J7_inflate G c7 c8 σ4 x0  (fun σ6 =>
 Q σ6) X)))) X))))
def W_J9_init_2 (G : KG) (bc bs : Nat) (σ : KHp) (x0 : Nat) (x1 : Option Nat) (x2 : Option Nat) (Q : KHp → Prop) (X : String → Nat → KHp → Prop) : Prop :=
  wU x1 (fun a1 =>
 (wR σ a1 19 ∧
 W_J7_getValue G σ a1  (fun v2 σ3 =>
 (wR σ3 a1 19 ∧
 W_J8_length G σ3 a1  (fun v4 σ5 =>
 (wR σ5 a1 19 ∧
 W_J7_isLatin1 G σ5 a1  (fun v6 σ7 =>
 wIf (v6 = 0)
 (wIf ((1 : Int32) = 0)
 (wPB σ7 x0 [20] 1 (1 : Int32) (fun σ8 =>
 wC bc bs (fun c11 c12 =>
 W_J13_copyOfRange G c11 c12 σ8  (v2) ((0 : Int32)) ((v4 <<< ((1 : Int32) &&& 31))) (fun v9 σ10 =>
 wP σ10 x0 [20] 0 (va_rf (v9)) (fun σ13 =>
 Q σ13)) X)))
 (wGI σ7 a1 [19] 2 (fun v14 =>
 wIf (v14 = 0)
 (wPB σ7 x0 [20] 1 (1 : Int32) (fun σ15 =>
 wC bc bs (fun c18 c19 =>
 W_J13_copyOfRange G c18 c19 σ15  (v2) ((0 : Int32)) ((v4 <<< ((1 : Int32) &&& 31))) (fun v16 σ17 =>
 wP σ17 x0 [20] 0 (va_rf (v16)) (fun σ20 =>
 Q σ20)) X)))
 (wC bc bs (fun c23 c24 =>
 W_J10_compress G c23 c24 σ7  (v2) ((0 : Int32)) (v4) (fun v21 σ22 =>
 wP σ22 x0 [20] 0 (va_rf (v21)) (fun σ25 =>
 wGO σ25 x0 [20] 0 (fun v26 =>
 W_J10_coderFromArrayLen G σ25  (v26) (v4) (fun v27 σ28 =>
 wPB σ28 x0 [20] 1 v27 (fun σ29 =>
 Q σ29)) X))) X)))))
 (wPB σ7 x0 [20] 1 (0 : Int32) (fun σ30 =>
 wC bc bs (fun c33 c34 =>
 W_J13_copyOfRange G c33 c34 σ30  (v2) ((0 : Int32)) (v4) (fun v31 σ32 =>
 wP σ32 x0 [20] 0 (va_rf (v31)) (fun σ35 =>
 Q σ35)) X)))) X)) X)) X))
def W_X1_isKeyword (G : KG) (σ : KHp) (x0 : Option Nat) (Q : Int32 → KHp → Prop) (X : String → Nat → KHp → Prop) : Prop :=
  wU x0 (fun a1 =>
 (wR σ a1 20 ∧
 W_J9_hashCode G σ a1  (fun v2 σ3 =>
 jn (κ := Int32 → KHp → Prop) (fun v53 σ54 =>
 jn (κ := Int32 → KHp → Prop) (fun v58 σ59 =>
 (narrow .boolean (.int v58) = .int v58 ∧ Q (v58) σ59)) (fun k55 =>
 wIf (v53 = (0 : Int32))
 (k55 (1 : Int32) σ54)
 (wIf (v53 = (1 : Int32))
 (k55 (1 : Int32) σ54)
 (wIf (v53 = (2 : Int32))
 (k55 (1 : Int32) σ54)
 (wIf (v53 = (3 : Int32))
 (k55 (1 : Int32) σ54)
 (wIf (v53 = (4 : Int32))
 (k55 (1 : Int32) σ54)
 (wIf (v53 = (5 : Int32))
 (k55 (1 : Int32) σ54)
 (wIf (v53 = (6 : Int32))
 (k55 (1 : Int32) σ54)
 (wIf (v53 = (7 : Int32))
 (k55 (1 : Int32) σ54)
 (wIf (v53 = (8 : Int32))
 (k55 (1 : Int32) σ54)
 (wIf (v53 = (9 : Int32))
 (k55 (1 : Int32) σ54)
 (wIf (v53 = (10 : Int32))
 (k55 (1 : Int32) σ54)
 (wIf (v53 = (11 : Int32))
 (k55 (1 : Int32) σ54)
 (wIf (v53 = (12 : Int32))
 (k55 (1 : Int32) σ54)
 (wIf (v53 = (13 : Int32))
 (k55 (1 : Int32) σ54)
 (wIf (v53 = (14 : Int32))
 (k55 (1 : Int32) σ54)
 (wIf (v53 = (15 : Int32))
 (k55 (1 : Int32) σ54)
 (wIf (v53 = (16 : Int32))
 (k55 (1 : Int32) σ54)
 (wIf (v53 = (17 : Int32))
 (k55 (1 : Int32) σ54)
 (wIf (v53 = (18 : Int32))
 (k55 (1 : Int32) σ54)
 (wIf (v53 = (19 : Int32))
 (k55 (1 : Int32) σ54)
 (wIf (v53 = (20 : Int32))
 (k55 (1 : Int32) σ54)
 (wIf (v53 = (21 : Int32))
 (k55 (1 : Int32) σ54)
 (wIf (v53 = (22 : Int32))
 (k55 (1 : Int32) σ54)
 (wIf (v53 = (23 : Int32))
 (k55 (1 : Int32) σ54)
 (W_X1_featureOf G σ54  (some a1) (fun v56 σ57 =>
 wIf (v56 = (-1 : Int32))
 (k55 (0 : Int32) σ57)
 (k55 (1 : Int32) σ57)) X)))))))))))))))))))))))))) (fun k4 =>
 wIf (v2 = (-1985378816 : Int32))
 ((wR σ3 a1 20 ∧
 W_J9_equals G σ3 a1 (some (kx_K G 35)) (fun v5 σ6 =>
 wIf (v5 = 0)
 (k4 (-1 : Int32) σ6)
 (k4 (20 : Int32) σ6)) X))
 (wIf (v2 = (-1414557169 : Int32))
 ((wR σ3 a1 20 ∧
 W_J9_equals G σ3 a1 (some (kx_K G 44)) (fun v7 σ8 =>
 wIf (v7 = 0)
 (k4 (-1 : Int32) σ8)
 (k4 (18 : Int32) σ8)) X))
 (wIf (v2 = (-1381030494 : Int32))
 ((wR σ3 a1 20 ∧
 W_J9_equals G σ3 a1 (some (kx_K G 28)) (fun v9 σ10 =>
 wIf (v9 = 0)
 (k4 (-1 : Int32) σ10)
 (k4 (4 : Int32) σ10)) X))
 (wIf (v2 = (-1331727278 : Int32))
 ((wR σ3 a1 20 ∧
 W_J9_equals G σ3 a1 (some (kx_K G 31)) (fun v11 σ12 =>
 wIf (v11 = 0)
 (k4 (-1 : Int32) σ12)
 (k4 (8 : Int32) σ12)) X))
 (wIf (v2 = (-1221255523 : Int32))
 ((wR σ3 a1 20 ∧
 W_J9_equals G σ3 a1 (some (kx_K G 29)) (fun v13 σ14 =>
 wIf (v13 = 0)
 (k4 (-1 : Int32) σ14)
 (k4 (6 : Int32) σ14)) X))
 (wIf (v2 = (-799233858 : Int32))
 ((wR σ3 a1 20 ∧
 W_J9_equals G σ3 a1 (some (kx_K G 23)) (fun v15 σ16 =>
 wIf (v15 = 0)
 (k4 (-1 : Int32) σ16)
 (k4 (0 : Int32) σ16)) X))
 (wIf (v2 = (-787751952 : Int32))
 ((wR σ3 a1 20 ∧
 W_J9_equals G σ3 a1 (some (kx_K G 25)) (fun v17 σ18 =>
 wIf (v17 = 0)
 (k4 (-1 : Int32) σ18)
 (k4 (2 : Int32) σ18)) X))
 (wIf (v2 = (3123 : Int32))
 ((wR σ3 a1 20 ∧
 W_J9_equals G σ3 a1 (some (kx_K G 36)) (fun v19 σ20 =>
 wIf (v19 = 0)
 (k4 (-1 : Int32) σ20)
 (k4 (21 : Int32) σ20)) X))
 (wIf (v2 = (3543 : Int32))
 ((wR σ3 a1 20 ∧
 W_J9_equals G σ3 a1 (some (kx_K G 38)) (fun v21 σ22 =>
 wIf (v21 = 0)
 (k4 (-1 : Int32) σ22)
 (k4 (10 : Int32) σ22)) X))
 (wIf (v2 = (3551 : Int32))
 ((wR σ3 a1 20 ∧
 W_J9_equals G σ3 a1 (some (kx_K G 46)) (fun v23 σ24 =>
 wIf (v23 = 0)
 (k4 (-1 : Int32) σ24)
 (k4 (22 : Int32) σ24)) X))
 (wIf (v2 = (96727 : Int32))
 ((wR σ3 a1 20 ∧
 W_J9_equals G σ3 a1 (some (kx_K G 45)) (fun v25 σ26 =>
 wIf (v25 = 0)
 (k4 (-1 : Int32) σ26)
 (k4 (19 : Int32) σ26)) X))
 (wIf (v2 = (96850 : Int32))
 ((wR σ3 a1 20 ∧
 W_J9_equals G σ3 a1 (some (kx_K G 32)) (fun v27 σ28 =>
 wIf (v27 = 0)
 (k4 (-1 : Int32) σ28)
 (k4 (9 : Int32) σ28)) X))
 (wIf (v2 = (98882 : Int32))
 ((wR σ3 a1 20 ∧
 W_J9_equals G σ3 a1 (some (kx_K G 41)) (fun v29 σ30 =>
 wIf (v29 = 0)
 (k4 (-1 : Int32) σ30)
 (k4 (13 : Int32) σ30)) X))
 (wIf (v2 = (102102 : Int32))
 ((wR σ3 a1 20 ∧
 W_J9_equals G σ3 a1 (some (kx_K G 42)) (fun v31 σ32 =>
 wIf (v31 = 0)
 (k4 (-1 : Int32) σ32)
 (k4 (14 : Int32) σ32)) X))
 (wIf (v2 = (106898 : Int32))
 ((wR σ3 a1 20 ∧
 W_J9_equals G σ3 a1 (some (kx_K G 40)) (fun v33 σ34 =>
 wIf (v33 = 0)
 (k4 (-1 : Int32) σ34)
 (k4 (12 : Int32) σ34)) X))
 (wIf (v2 = (109935 : Int32))
 ((wR σ3 a1 20 ∧
 W_J9_equals G σ3 a1 (some (kx_K G 47)) (fun v35 σ36 =>
 wIf (v35 = 0)
 (k4 (-1 : Int32) σ36)
 (k4 (23 : Int32) σ36)) X))
 (wIf (v2 = (110414 : Int32))
 ((wR σ3 a1 20 ∧
 W_J9_equals G σ3 a1 (some (kx_K G 43)) (fun v37 σ38 =>
 wIf (v37 = 0)
 (k4 (-1 : Int32) σ38)
 (k4 (15 : Int32) σ38)) X))
 (wIf (v2 = (2998063 : Int32))
 ((wR σ3 a1 20 ∧
 W_J9_equals G σ3 a1 (some (kx_K G 39)) (fun v39 σ40 =>
 wIf (v39 = 0)
 (k4 (-1 : Int32) σ40)
 (k4 (11 : Int32) σ40)) X))
 (wIf (v2 = (3526257 : Int32))
 ((wR σ3 a1 20 ∧
 W_J9_equals G σ3 a1 (some (kx_K G 33)) (fun v41 σ42 =>
 wIf (v41 = 0)
 (k4 (-1 : Int32) σ42)
 (k4 (16 : Int32) σ42)) X))
 (wIf (v2 = (94851343 : Int32))
 ((wR σ3 a1 20 ∧
 W_J9_equals G σ3 a1 (some (kx_K G 26)) (fun v43 σ44 =>
 wIf (v43 = 0)
 (k4 (-1 : Int32) σ44)
 (k4 (3 : Int32) σ44)) X))
 (wIf (v2 = (104085621 : Int32))
 ((wR σ3 a1 20 ∧
 W_J9_equals G σ3 a1 (some (kx_K G 30)) (fun v45 σ46 =>
 wIf (v45 = 0)
 (k4 (-1 : Int32) σ46)
 (k4 (7 : Int32) σ46)) X))
 (wIf (v2 = (108285828 : Int32))
 ((wR σ3 a1 20 ∧
 W_J9_equals G σ3 a1 (some (kx_K G 37)) (fun v47 σ48 =>
 wIf (v47 = 0)
 (k4 (-1 : Int32) σ48)
 (k4 (5 : Int32) σ48)) X))
 (wIf (v2 = (1073584312 : Int32))
 ((wR σ3 a1 20 ∧
 W_J9_equals G σ3 a1 (some (kx_K G 34)) (fun v49 σ50 =>
 wIf (v49 = 0)
 (k4 (-1 : Int32) σ50)
 (k4 (17 : Int32) σ50)) X))
 (wIf (v2 = (1864843273 : Int32))
 ((wR σ3 a1 20 ∧
 W_J9_equals G σ3 a1 (some (kx_K G 24)) (fun v51 σ52 =>
 wIf (v51 = 0)
 (k4 (-1 : Int32) σ52)
 (k4 (1 : Int32) σ52)) X))
 (k4 (-1 : Int32) σ3)))))))))))))))))))))))))) X))
def WB_X1_isName_30 (G : KG) (Q : Int32 → KHp → Prop) (X : String → Nat → KHp → Prop)  (y0 : Nat) (kI30 : KHp → Int32 → Int32 → Prop) (σ : KHp) (l1 : Int32) (l2 : Int32) : Prop :=
  (wR σ y0 20 ∧
 W_J9_length G σ y0  (fun v31001 σ31002 =>
 wIf (v31001 ≤ l2)
 ((narrow .boolean (.int l1) = .int l1 ∧ Q (l1) σ31002))
 ((wR σ31002 y0 20 ∧
 W_J9_charAt G σ31002 y0 (l2) (fun v31003 σ31004 =>
 W_X1_inRange G σ31004  (((v31003).toInt64)) ((97 : Int64)) ((122 : Int64)) (fun v31005 σ31006 =>
 kI30 σ31006 (l1 &&& v31005) (l2 + (1 : Int32))) X) X))) X)
def W_X1_isName (G : KG) (σ : KHp) (x0 : Option Nat) (Q : Int32 → KHp → Prop) (X : String → Nat → KHp → Prop) : Prop :=
  wU x0 (fun a1 =>
 (wR σ a1 20 ∧
 W_J9_length G σ a1  (fun v2 σ3 =>
 W_X1_inRange G σ3  (((v2).toInt64)) ((1 : Int64)) ((6 : Int64)) (fun v4 σ5 =>
 jn (κ := Int32 → KHp → Prop) (fun v9 σ10 =>
 loopW2 (WB_X1_isName_30 G Q X  a1) 9000 σ10 v9 (0 : Int32)) (fun k6 =>
 wIf (v4 = 0)
 (k6 (0 : Int32) σ5)
 (W_X1_isKeyword G σ5  (some a1) (fun v7 σ8 =>
 wIf (v7 = 0)
 (k6 (1 : Int32) σ8)
 (k6 (0 : Int32) σ8)) X))) X) X))
def WB_X2_step_22 (G : KG) (Q : Int32 → KHp → Prop) (X : String → Nat → KHp → Prop)  (y0 : Nat) (kI22 : KHp → Nat → Nat → Int32 → Int32 → Prop) (σ : KHp) (bc22 bs22 : Nat) (l1 : Int32) (l2 : Int32) : Prop :=
  wGO σ y0 [1] 1 (fun v23001 =>
 wU v23001 (fun a23002 =>
 (wR σ a23002 16 ∧
 W_J2_size G σ a23002  (fun v23003 σ23004 =>
 wIf (v23003 ≤ l2)
 (Q (l1) σ23004)
 (wGO σ23004 y0 [1] 1 (fun v23005 =>
 wU v23005 (fun a23006 =>
 (wR σ23004 a23006 16 ∧
 W_J2_get G σ23004 a23006 (l2) (fun v23007 σ23008 =>
 wU v23007 (fun a23009 =>
 (wR σ23008 a23009 3 ∧
 wGI σ23008 a23009 [3] 2 (fun v23010 =>
 jn (κ := Int32 → KHp → Nat → Nat → Prop) (fun v23025 σ23026 bcv23025 bsv23025 =>
 kI22 σ23026 bcv23025 bsv23025 v23025 (l2 + (1 : Int32))) (fun k23011 =>
 wIf (v23010 = 0)
 ((wR σ23008 y0 1 ∧
 wC bc22 bs22 (fun c23014 c23015 =>
 W_X2_goOn G c23014 c23015 σ23008 y0 (l2) (fun σ23013 =>
 wGO σ23013 y0 [1] 1 (fun v23016 =>
 wU v23016 (fun a23017 =>
 (wR σ23013 a23017 16 ∧
 W_J2_get G σ23013 a23017 (l2) (fun v23018 σ23019 =>
 wU v23018 (fun a23020 =>
 (wR σ23019 a23020 3 ∧
 wGI σ23019 a23020 [3] 2 (fun v23021 =>
 jn (κ := Int32 → KHp → Nat → Nat → Prop) (fun v23023 σ23024 bcv23023 bsv23023 =>
 k23011 (l1 ||| v23023) σ23024 bcv23023 bsv23023) (fun k23022 =>
 wIf (v23021 = 0)
 (k23022 (0 : Int32) σ23019 (bc22 - c23014) (bs22 - c23015))
 (k23022 ((1 : Int32) <<< (l2 &&& 31)) σ23019 (bc22 - c23014) (bs22 - c23015))))))) X)))) X)))
 (k23011 l1 σ23008 bc22 bs22)))))) X))))) X)))
def W_X2_step (G : KG) (bc bs : Nat) (σ : KHp) (x0 : Nat) (Q : Int32 → KHp → Prop) (X : String → Nat → KHp → Prop) : Prop :=
  wGI σ x0 [1] 12 (fun v1 =>
 wP σ x0 [1] 12 (.int ((v1 + (1 : Int32)))) (fun σ2 =>
 (wR σ2 x0 1 ∧
 W_X2_doSwitches G σ2 x0  (fun σ4 =>
 (wR σ4 x0 1 ∧
 W_X2_drawArcs G σ4 x0  (fun σ6 =>
 loopW4 (WB_X2_step_22 G Q X  x0) 9000 σ6 bc bs (0 : Int32) (0 : Int32)) X)) X)))
def WB_X2_tripIn_21 (G : KG) (Q : Int32 → KHp → Prop) (X : String → Nat → KHp → Prop)  (y0 : Nat)  (y1 : Int32)  (y2 : Int32) (kI21 : KHp → Nat → Nat → Int32 → Prop) (σ : KHp) (bc21 bs21 : Nat) (l3 : Int32) : Prop :=
  wIf (y2 < l3)
 (Q ((-1 : Int32)) σ)
 ((wR σ y0 1 ∧
 wC bc21 bs21 (fun c22003 c22004 =>
 W_X2_step G c22003 c22004 σ y0  (fun v22001 σ22002 =>
 W_X1_has G σ22002  (v22001) (y1) (fun v22005 σ22006 =>
 wIf (v22005 = 0)
 (kI21 σ22006 (bc21 - c22003) (bs21 - c22004) (l3 + (1 : Int32)))
 (Q (l3) σ22006)) X) X)))
def W_X2_tripIn (G : KG) (bc bs : Nat) (σ : KHp) (x0 : Nat) (x1 : Int32) (x2 : Int32) (Q : Int32 → KHp → Prop) (X : String → Nat → KHp → Prop) : Prop :=
  wGO σ x0 [1] 1 (fun v1 =>
 wU v1 (fun a2 =>
 (wR σ a2 16 ∧
 W_J2_get G σ a2 (x1) (fun v3 σ4 =>
 wU v3 (fun a5 =>
 (wR σ4 a5 3 ∧
 wGI σ4 a5 [3] 2 (fun v6 =>
 wIf (v6 = 0)
 (loopW3 (WB_X2_tripIn_21 G Q X  x0 x1 x2) 9000 σ4 bc bs (1 : Int32))
 (Q ((-1 : Int32)) σ4))))) X)))
def W_X7_requireName (G : KG) (bc bs : Nat) (σ : KHp) (x0 : Nat) (Q : KHp → Prop) (X : String → Nat → KHp → Prop) : Prop :=
  wGO σ x0 [5] 8 (fun v1 =>
 wIf ((v1) = (some (kx_K G 8)))
 (wGO σ x0 [5] 7 (fun v6 =>
 wU v6 (fun a7 =>
 (wR σ a7 20 ∧
 W_J9_length G σ a7  (fun v8 σ9 =>
 jn (κ := Int32 → KHp → Nat → Nat → Prop) (fun v14 σ15 bcv14 bsv14 =>
 (wR σ15 x0 5 ∧
 wC bcv14 bsv14 (fun c18 c19 =>
 W_X7_require G c18 c19 σ15 x0 (v14) ((1 : Int32)) (fun σ17 =>
 Q σ17) X))) (fun k10 =>
 wIf ((6 : Int32) < v8)
 (k10 (0 : Int32) σ9 bc bs)
 (wGO σ9 x0 [5] 7 (fun v11 =>
 W_X1_isKeyword G σ9  (v11) (fun v12 σ13 =>
 wIf (v12 = 0)
 (k10 (1 : Int32) σ13 bc bs)
 (k10 (0 : Int32) σ13 bc bs)) X)))) X))))
 ((wR σ x0 5 ∧
 wC bc bs (fun c4 c5 =>
 W_X7_require G c4 c5 σ x0 ((0 : Int32)) ((1 : Int32)) (fun σ3 =>
 Q σ3) X))))
def WB_X7_isUsed_55 (G : KG) (Q : Int32 → KHp → Prop) (X : String → Nat → KHp → Prop)  (y0 : Nat) (kI55 : KHp → Int32 → Int32 → Prop) (σ : KHp) (l1 : Int32) (l2 : Int32) : Prop :=
  wGO σ y0 [5] 1 (fun v56001 =>
 wU v56001 (fun a56002 =>
 (wR σ a56002 16 ∧
 W_J2_size G σ a56002  (fun v56003 σ56004 =>
 wIf (v56003 ≤ l2)
 ((narrow .boolean (.int l1) = .int l1 ∧ Q (l1) σ56004))
 (wGO σ56004 y0 [5] 1 (fun v56005 =>
 wU v56005 (fun a56006 =>
 (wR σ56004 a56006 16 ∧
 W_J2_get G σ56004 a56006 (l2) (fun v56007 σ56008 =>
 wU v56007 (fun a56009 =>
 (wR σ56008 a56009 13 ∧
 wGO σ56008 a56009 [13] 0 (fun v56010 =>
 wU v56010 (fun a56011 =>
 wGO σ56008 a56011 [11] 0 (fun v56012 =>
 wGO σ56008 y0 [5] 7 (fun v56013 =>
 wU v56012 (fun a56014 =>
 (wR σ56008 a56014 20 ∧
 W_J9_equals G σ56008 a56014 (v56013) (fun v56015 σ56016 =>
 kI55 σ56016 (l1 ||| v56015) (l2 + (1 : Int32))) X))))))))) X))))) X)))
def W_X7_isUsed (G : KG) (σ : KHp) (x0 : Nat) (Q : Int32 → KHp → Prop) (X : String → Nat → KHp → Prop) : Prop :=
  wGO σ x0 [5] 0 (fun v1 =>
 wU v1 (fun a2 =>
 wGO σ a2 [2] 4 (fun v3 =>
 wGO σ x0 [5] 7 (fun v4 =>
 wU v3 (fun a5 =>
 (wR σ a5 16 ∧
 W_J2_contains G σ a5 (v4) (fun v6 σ7 =>
 jn (κ := Int32 → KHp → Prop) (fun v19 σ20 =>
 loopW2 (WB_X7_isUsed_55 G Q X  x0) 9000 σ20 v19 (0 : Int32)) (fun k8 =>
 wIf (v6 = 0)
 (wGO σ7 x0 [5] 0 (fun v9 =>
 wGO σ7 x0 [5] 7 (fun v10 =>
 wU v9 (fun a11 =>
 (wR σ7 a11 2 ∧
 W_X3_findLoad G σ7 a11 (v10) (fun v12 σ13 =>
 wIf (v12 = (-1 : Int32))
 (wGO σ13 x0 [5] 0 (fun v14 =>
 wGO σ13 x0 [5] 7 (fun v15 =>
 wU v14 (fun a16 =>
 (wR σ13 a16 2 ∧
 W_X3_findSignature G σ13 a16 (v15) (fun v17 σ18 =>
 wIf (v17 = (-1 : Int32))
 (k8 (0 : Int32) σ18)
 (k8 (1 : Int32) σ18)) X)))))
 (k8 (1 : Int32) σ13)) X)))))
 (k8 (1 : Int32) σ7))) X))))))
def W_J2_add (G : KG) (bc bs : Nat) (σ : KHp) (x0 : Nat) (x1 : Option Nat) (Q : Int32 → KHp → Prop) (X : String → Nat → KHp → Prop) : Prop :=
  wGI σ x0 [16, 21] 0 (fun v1 =>
 wP σ x0 [16, 21] 0 (.int ((v1 + (1 : Int32)))) (fun σ2 =>
 wGO σ2 x0 [16] 1 (fun v3 =>
 wGI σ2 x0 [16] 2 (fun v4 =>
 (wR σ2 x0 16 ∧
 wC bc bs (fun c7 c8 =>
 W_J2_add_2 G c7 c8 σ2 x0 (x1) (v3) (v4) (fun σ6 =>
 Q ((1 : Int32)) σ6) X))))))
def W_J7_putStringAt (G : KG) (bc bs : Nat) (σ : KHp) (x0 : Nat) (x1 : Int32) (x2 : Option Nat) (Q : KHp → Prop) (X : String → Nat → KHp → Prop) : Prop :=
  (wR σ x0 19 ∧
 wC bc bs (fun c3 c4 =>
 W_J7_inflateIfNeededFor G c3 c4 σ x0 (x2) (fun σ2 =>
 wGO σ2 x0 [19] 0 (fun v5 =>
 wGI σ2 x0 [19] 1 (fun v6 =>
 wU x2 (fun a7 =>
 (wR σ2 a7 20 ∧
 W_J9_getBytes G σ2 a7 (v5) (x1) (v6) (fun σ9 =>
 Q σ9) X))))) X))
def W_J9_init (G : KG) (bc bs : Nat) (σ : KHp) (x0 : Nat) (x1 : Option Nat) (Q : KHp → Prop) (X : String → Nat → KHp → Prop) : Prop :=
  wC bc bs (fun c3 c4 =>
 W_J9_init_2 G c3 c4 σ x0 (x1) none (fun σ2 =>
 Q σ2) X)
def WB_X2_init_155 (G : KG) (Q : KHp → Prop) (X : String → Nat → KHp → Prop) (kI117 : KHp → Nat → Nat → Int32 → Prop) (y0 : Nat) (kI155 : KHp → Nat → Nat → Int32 → Prop) (σ : KHp) (bc155 bs155 : Nat) (l2 : Int32) : Prop :=
  wIf ((12 : Int32) ≤ l2)
 (Q σ)
 (wGO σ y0 [1] 5 (fun v156001 =>
 wU v156001 (fun a156002 =>
 wSB σ a156002 l2 ((1 : Int32)) (fun σ156003 =>
 kI155 σ156003 bc155 bs155 (l2 + (1 : Int32))))))
def WB_X2_init_117 (G : KG) (Q : KHp → Prop) (X : String → Nat → KHp → Prop)  (y0 : Nat)  (y1 : Nat) (kI117 : KHp → Nat → Nat → Int32 → Prop) (σ : KHp) (bc117 bs117 : Nat) (l2 : Int32) : Prop :=
  wGO σ y1 [2] 4 (fun v118001 =>
 wU v118001 (fun a118002 =>
 (wR σ a118002 16 ∧
 W_J2_size G σ a118002  (fun v118003 σ118004 =>
 wIf (v118003 ≤ l2)
 (loopW3 (WB_X2_init_155 G Q X kI117 y0) 9000 σ118004 bc117 bs117 (0 : Int32))
 (wGO σ118004 y0 [1] 1 (fun v118006 =>
 wN bc117 bs117 σ118004 3 [.null, .null, .int 0, .int 0, .int 0, .int 0, .int 0, .int 0, .long 0, .int 0, .int 0, .float 0] (fun q118007 σ118008 =>
 wGI σ118008 y1 [2] 0 (fun v118009 =>
 wC (bc117 - 1) (bs117 - 12) (fun c118012 c118013 =>
 W_X5_init G c118012 c118013 σ118008 q118007 (v118009) (fun σ118011 =>
 wU v118006 (fun a118014 =>
 (wR σ118011 a118014 16 ∧
 wC (bc117 - 1 - c118012) (bs117 - 12 - c118013) (fun c118017 c118018 =>
 W_J2_add G c118017 c118018 σ118011 a118014 (some q118007) (fun v118015 σ118016 =>
 kI117 σ118016 (bc117 - 1 - c118012 - c118017) (bs117 - 12 - c118013 - c118018) (l2 + (1 : Int32))) X)))) X)))))) X)))
def W_X2_init (G : KG) (bc bs : Nat) (σ : KHp) (x0 : Nat) (x1 : Option Nat) (Q : KHp → Prop) (X : String → Nat → KHp → Prop) : Prop :=
  wN bc bs σ 16 [.int 0, .null, .int 0] (fun q1 σ2 =>
 wC (bc - 1) (bs - 3) (fun c5 c6 =>
 W_J2_init G c5 c6 σ2 q1 ((2 : Int32)) (fun σ4 =>
 wP σ4 x0 [1] 1 (.ref (q1)) (fun σ7 =>
 wN (bc - 1 - c5) (bs - 3 - c6) σ7 16 [.int 0, .null, .int 0] (fun q8 σ9 =>
 wC (bc - 1 - c5 - 1) (bs - 3 - c6 - 3) (fun c12 c13 =>
 W_J2_init G c12 c13 σ9 q8 ((2 : Int32)) (fun σ11 =>
 wP σ11 x0 [1] 2 (.ref (q8)) (fun σ14 =>
 wN (bc - 1 - c5 - 1 - c12) (bs - 3 - c6 - 3 - c13) σ14 21 [.int 0, .int 0, .null, .null] (fun q15 σ16 =>
 W_J18_init G σ16 q15  (fun σ18 =>
 wP σ18 x0 [1] 3 (.ref (q15)) (fun σ19 =>
 wN (bc - 1 - c5 - 1 - c12 - 1) (bs - 3 - c6 - 3 - c13 - 4) σ19 22 [.null, .int 0, .int 0] (fun q20 σ21 =>
 wC (bc - 1 - c5 - 1 - c12 - 1 - 1) (bs - 3 - c6 - 3 - c13 - 4 - 3) (fun c24 c25 =>
 W_J19_init G c24 c25 σ21 q20  (fun σ23 =>
 wP σ23 x0 [1] 4 (.ref (q20)) (fun σ26 =>
 wNA (bc - 1 - c5 - 1 - c12 - 1 - 1 - c24) (bs - 3 - c6 - 3 - c13 - 4 - 3 - c25) σ26 .boolean (.inl (fun _ => 0)) (12 : Int32) (fun n29 q27 σ28 =>
 wP σ28 x0 [1] 5 (.ref (q27)) (fun σ30 =>
 wNA (bc - 1 - c5 - 1 - c12 - 1 - 1 - c24 - 1) (bs - 3 - c6 - 3 - c13 - 4 - 3 - c25 - n29) σ30 .int (.inl (fun _ => 0)) (6 : Int32) (fun n33 q31 σ32 =>
 wP σ32 x0 [1] 6 (.ref (q31)) (fun σ34 =>
 wNA (bc - 1 - c5 - 1 - c12 - 1 - 1 - c24 - 1 - 1) (bs - 3 - c6 - 3 - c13 - 4 - 3 - c25 - n29 - n33) σ34 .int (.inl (fun _ => 0)) (12 : Int32) (fun n37 q35 σ36 =>
 wP σ36 x0 [1] 7 (.ref (q35)) (fun σ38 =>
 wNA (bc - 1 - c5 - 1 - c12 - 1 - 1 - c24 - 1 - 1 - 1) (bs - 3 - c6 - 3 - c13 - 4 - 3 - c25 - n29 - n33 - n37) σ38 .float (.inr (.inr (.inl (fun _ => 0)))) (12 : Int32) (fun n41 q39 σ40 =>
 wP σ40 x0 [1] 8 (.ref (q39)) (fun σ42 =>
 wC (bc - 1 - c5 - 1 - c12 - 1 - 1 - c24 - 1 - 1 - 1 - 1) (bs - 3 - c6 - 3 - c13 - 4 - 3 - c25 - n29 - n33 - n37 - n41) (fun c45 c46 =>
 W_X4_values G c45 c46 σ42   (fun v43 σ44 =>
 wP σ44 x0 [1] 9 (va_rf (v43)) (fun σ47 =>
 wP σ47 x0 [1] 13 (.long ((1 : Int64))) (fun σ48 =>
 wP σ48 x0 [1] 0 (va_rf (x1)) (fun σ49 =>
 wU x1 (fun a50 =>
 wGI σ49 a50 [2] 1 (fun v51 =>
 wP σ49 x0 [1] 10 (.int (v51)) (fun σ52 =>
 wGI σ52 a50 [2] 2 (fun v53 =>
 wP σ52 x0 [1] 11 (.int (v53)) (fun σ54 =>
 loopW3 (WB_X2_init_117 G Q X  x0 a50) 9000 σ54 (bc - 1 - c5 - 1 - c12 - 1 - 1 - c24 - 1 - 1 - 1 - 1 - c45) (bs - 3 - c6 - 3 - c13 - 4 - 3 - c25 - n29 - n33 - n37 - n41 - c46) (0 : Int32)))))))))) X))))))))))) X)))) X))) X)))) X))
def WB_X2_init_2_255 (G : KG) (Q : KHp → Prop) (X : String → Nat → KHp → Prop) (kI104 : KHp → Nat → Nat → Int32 → Prop) (kI149 : KHp → Nat → Nat → Int32 → Prop) (kI217 : KHp → Nat → Nat → Prop) (y0 : Nat)  (y1 : Nat)  (y2 : Option Nat) (kI255 : KHp → Nat → Nat → Prop) (σ : KHp) (bc255 bs255 : Nat)  : Prop :=
  wU y2 (fun a256001 =>
 jn (κ := Int32 → KHp → Nat → Nat → Prop) (fun v256002 σ256003 bcv256002 bsv256002 =>
 wIf (v256002 = 0)
 (wGO σ256003 y1 [1] 5 (fun v256005 =>
 wGO σ256003 y0 [1] 5 (fun v256006 =>
 wU v256005 (fun a256007 =>
 wU v256006 (fun a256008 =>
 wCp σ256003 a256007 (0 : Int32) a256008 (0 : Int32) (12 : Int32) (fun σ256009 =>
 wGO σ256009 y1 [1] 6 (fun v256010 =>
 wGO σ256009 y0 [1] 6 (fun v256011 =>
 wU v256010 (fun a256012 =>
 wU v256011 (fun a256013 =>
 wCp σ256009 a256012 (0 : Int32) a256013 (0 : Int32) (6 : Int32) (fun σ256014 =>
 wGI σ256014 y1 [1] 10 (fun v256015 =>
 wP σ256014 y0 [1] 10 (.int (v256015)) (fun σ256016 =>
 wGI σ256016 y1 [1] 11 (fun v256017 =>
 wP σ256016 y0 [1] 11 (.int (v256017)) (fun σ256018 =>
 wGI σ256018 y1 [1] 12 (fun v256019 =>
 wP σ256018 y0 [1] 12 (.int (v256019)) (fun σ256020 =>
 wGJ σ256020 y1 [1] 13 (fun v256021 =>
 wP σ256020 y0 [1] 13 (.long (v256021)) (fun σ256022 =>
 Q σ256022)))))))))))))))))))
 (jn (κ := Option Nat → KHp → Nat → Nat → Prop) (fun v256023 σ256024 bcv256023 bsv256023 =>
 wU v256023 (fun a256026 =>
 (wR σ256024 a256026 15 ∧
 wGO σ256024 y0 [1] 4 (fun v256027 =>
 wU v256027 (fun a256028 =>
 (wR σ256024 a256028 22 ∧
 wC bcv256023 bsv256023 (fun c256031 c256032 =>
 W_J19_addLast G c256031 c256032 σ256024 a256028 (some a256026) (fun σ256030 =>
 kI255 σ256030 (bcv256023 - c256031) (bsv256023 - c256032)) X))))))) (fun k256025 =>
 (wR σ256003 a256001 28 ∧ W_J30_next G σ256003 a256001  (fun r_ σ_ => k256025 r_ σ_ bcv256002 bsv256002) X) ∨
 (wR σ256003 a256001 29 ∧ W_J31_next G σ256003 a256001  (fun r_ σ_ => k256025 r_ σ_ bcv256002 bsv256002) X)))) (fun k256004 =>
 (wR σ a256001 28 ∧ W_J30_hasNext G σ a256001  (fun r_ σ_ => k256004 r_ σ_ bc255 bs255) X) ∨
 (wR σ a256001 29 ∧ W_J31_hasNext G σ a256001  (fun r_ σ_ => k256004 r_ σ_ bc255 bs255) X)))
def WB_X2_init_2_217 (G : KG) (Q : KHp → Prop) (X : String → Nat → KHp → Prop) (kI104 : KHp → Nat → Nat → Int32 → Prop) (kI149 : KHp → Nat → Nat → Int32 → Prop) (y0 : Nat)  (y1 : Nat)  (y2 : Option Nat) (kI217 : KHp → Nat → Nat → Prop) (σ : KHp) (bc217 bs217 : Nat)  : Prop :=
  wU y2 (fun a218001 =>
 jn (κ := Int32 → KHp → Nat → Nat → Prop) (fun v218002 σ218003 bcv218002 bsv218002 =>
 wIf (v218002 = 0)
 (wGO σ218003 y1 [1] 4 (fun v218005 =>
 wU v218005 (fun a218006 =>
 (wR σ218003 a218006 22 ∧
 wC bcv218002 bsv218002 (fun c218009 c218010 =>
 W_J19_iterator G c218009 c218010 σ218003 a218006  (fun v218007 σ218008 =>
 loopW2 (WB_X2_init_2_255 G Q X kI104 kI149 kI217 y0 y1 v218007) 9000 σ218008 (bcv218002 - c218009) (bsv218002 - c218010)) X)))))
 (jn (κ := Option Nat → KHp → Nat → Nat → Prop) (fun v218012 σ218013 bcv218012 bsv218012 =>
 wU v218012 (fun a218015 =>
 (wR σ218013 a218015 14 ∧
 wGO σ218013 y0 [1] 3 (fun v218016 =>
 wU v218016 (fun a218017 =>
 (wR σ218013 a218017 21 ∧
 wC bcv218012 bsv218012 (fun c218020 c218021 =>
 W_J18_addLast G c218020 c218021 σ218013 a218017 (some a218015) (fun σ218019 =>
 kI217 σ218019 (bcv218012 - c218020) (bsv218012 - c218021)) X))))))) (fun k218014 =>
 (wR σ218003 a218001 28 ∧ W_J30_next G σ218003 a218001  (fun r_ σ_ => k218014 r_ σ_ bcv218002 bsv218002) X) ∨
 (wR σ218003 a218001 29 ∧ W_J31_next G σ218003 a218001  (fun r_ σ_ => k218014 r_ σ_ bcv218002 bsv218002) X)))) (fun k218004 =>
 (wR σ a218001 28 ∧ W_J30_hasNext G σ a218001  (fun r_ σ_ => k218004 r_ σ_ bc217 bs217) X) ∨
 (wR σ a218001 29 ∧ W_J31_hasNext G σ a218001  (fun r_ σ_ => k218004 r_ σ_ bc217 bs217) X)))
def WB_X2_init_2_149 (G : KG) (Q : KHp → Prop) (X : String → Nat → KHp → Prop) (kI104 : KHp → Nat → Nat → Int32 → Prop) (y0 : Nat)  (y1 : Nat) (kI149 : KHp → Nat → Nat → Int32 → Prop) (σ : KHp) (bc149 bs149 : Nat) (l2 : Int32) : Prop :=
  wGO σ y1 [1] 2 (fun v150001 =>
 wU v150001 (fun a150002 =>
 (wR σ a150002 16 ∧
 W_J2_size G σ a150002  (fun v150003 σ150004 =>
 wIf (v150003 ≤ l2)
 (wGO σ150004 y1 [1] 3 (fun v150005 =>
 wU v150005 (fun a150006 =>
 (wR σ150004 a150006 21 ∧
 wC bc149 bs149 (fun c150009 c150010 =>
 W_J17_iterator G c150009 c150010 σ150004 a150006  (fun v150007 σ150008 =>
 loopW2 (WB_X2_init_2_217 G Q X kI104 kI149 y0 y1 v150007) 9000 σ150008 (bc149 - c150009) (bs149 - c150010)) X)))))
 (wGO σ150004 y0 [1] 2 (fun v150012 =>
 wN bc149 bs149 σ150004 13 [.null, .int 0] (fun q150013 σ150014 =>
 wGO σ150014 y1 [1] 2 (fun v150015 =>
 wU v150015 (fun a150016 =>
 (wR σ150014 a150016 16 ∧
 W_J2_get G σ150014 a150016 (l2) (fun v150017 σ150018 =>
 wU v150017 (fun a150019 =>
 (wR σ150018 a150019 13 ∧
 wGO σ150018 a150019 [13] 0 (fun v150020 =>
 wGO σ150018 y1 [1] 2 (fun v150021 =>
 wU v150021 (fun a150022 =>
 (wR σ150018 a150022 16 ∧
 W_J2_get G σ150018 a150022 (l2) (fun v150023 σ150024 =>
 wU v150023 (fun a150025 =>
 (wR σ150024 a150025 13 ∧
 wGI σ150024 a150025 [13] 1 (fun v150026 =>
 W_X16_init G σ150024 q150013 (v150020) (v150026) (fun σ150028 =>
 wU v150012 (fun a150029 =>
 (wR σ150028 a150029 16 ∧
 wC (bc149 - 1) (bs149 - 2) (fun c150032 c150033 =>
 W_J2_add G c150032 c150033 σ150028 a150029 (some q150013) (fun v150030 σ150031 =>
 kI149 σ150031 (bc149 - 1 - c150032) (bs149 - 2 - c150033) (l2 + (1 : Int32))) X)))) X)))) X))))))) X))))))) X)))
def WB_X2_init_2_104 (G : KG) (Q : KHp → Prop) (X : String → Nat → KHp → Prop)  (y0 : Nat)  (y1 : Nat) (kI104 : KHp → Nat → Nat → Int32 → Prop) (σ : KHp) (bc104 bs104 : Nat) (l2 : Int32) : Prop :=
  wGO σ y1 [1] 1 (fun v105001 =>
 wU v105001 (fun a105002 =>
 (wR σ a105002 16 ∧
 W_J2_size G σ a105002  (fun v105003 σ105004 =>
 wIf (v105003 ≤ l2)
 (loopW3 (WB_X2_init_2_149 G Q X kI104 y0 y1) 9000 σ105004 bc104 bs104 (0 : Int32))
 (wGO σ105004 y0 [1] 1 (fun v105006 =>
 wN bc104 bs104 σ105004 3 [.null, .null, .int 0, .int 0, .int 0, .int 0, .int 0, .int 0, .long 0, .int 0, .int 0, .float 0] (fun q105007 σ105008 =>
 wGO σ105008 y1 [1] 1 (fun v105009 =>
 wU v105009 (fun a105010 =>
 (wR σ105008 a105010 16 ∧
 W_J2_get G σ105008 a105010 (l2) (fun v105011 σ105012 =>
 wU v105011 (fun a105013 =>
 (wR σ105012 a105013 3 ∧
 wC (bc104 - 1) (bs104 - 12) (fun c105016 c105017 =>
 W_X5_init_2 G c105016 c105017 σ105012 q105007 (some a105013) (fun σ105015 =>
 wU v105006 (fun a105018 =>
 (wR σ105015 a105018 16 ∧
 wC (bc104 - 1 - c105016) (bs104 - 12 - c105017) (fun c105021 c105022 =>
 W_J2_add G c105021 c105022 σ105015 a105018 (some q105007) (fun v105019 σ105020 =>
 kI104 σ105020 (bc104 - 1 - c105016 - c105021) (bs104 - 12 - c105017 - c105022) (l2 + (1 : Int32))) X)))) X)))) X))))))) X)))
def W_X2_init_2 (G : KG) (bc bs : Nat) (σ : KHp) (x0 : Nat) (x1 : Option Nat) (Q : KHp → Prop) (X : String → Nat → KHp → Prop) : Prop :=
  wN bc bs σ 16 [.int 0, .null, .int 0] (fun q1 σ2 =>
 wC (bc - 1) (bs - 3) (fun c5 c6 =>
 W_J2_init G c5 c6 σ2 q1 ((2 : Int32)) (fun σ4 =>
 wP σ4 x0 [1] 1 (.ref (q1)) (fun σ7 =>
 wN (bc - 1 - c5) (bs - 3 - c6) σ7 16 [.int 0, .null, .int 0] (fun q8 σ9 =>
 wC (bc - 1 - c5 - 1) (bs - 3 - c6 - 3) (fun c12 c13 =>
 W_J2_init G c12 c13 σ9 q8 ((2 : Int32)) (fun σ11 =>
 wP σ11 x0 [1] 2 (.ref (q8)) (fun σ14 =>
 wN (bc - 1 - c5 - 1 - c12) (bs - 3 - c6 - 3 - c13) σ14 21 [.int 0, .int 0, .null, .null] (fun q15 σ16 =>
 W_J18_init G σ16 q15  (fun σ18 =>
 wP σ18 x0 [1] 3 (.ref (q15)) (fun σ19 =>
 wN (bc - 1 - c5 - 1 - c12 - 1) (bs - 3 - c6 - 3 - c13 - 4) σ19 22 [.null, .int 0, .int 0] (fun q20 σ21 =>
 wC (bc - 1 - c5 - 1 - c12 - 1 - 1) (bs - 3 - c6 - 3 - c13 - 4 - 3) (fun c24 c25 =>
 W_J19_init G c24 c25 σ21 q20  (fun σ23 =>
 wP σ23 x0 [1] 4 (.ref (q20)) (fun σ26 =>
 wNA (bc - 1 - c5 - 1 - c12 - 1 - 1 - c24) (bs - 3 - c6 - 3 - c13 - 4 - 3 - c25) σ26 .boolean (.inl (fun _ => 0)) (12 : Int32) (fun n29 q27 σ28 =>
 wP σ28 x0 [1] 5 (.ref (q27)) (fun σ30 =>
 wNA (bc - 1 - c5 - 1 - c12 - 1 - 1 - c24 - 1) (bs - 3 - c6 - 3 - c13 - 4 - 3 - c25 - n29) σ30 .int (.inl (fun _ => 0)) (6 : Int32) (fun n33 q31 σ32 =>
 wP σ32 x0 [1] 6 (.ref (q31)) (fun σ34 =>
 wNA (bc - 1 - c5 - 1 - c12 - 1 - 1 - c24 - 1 - 1) (bs - 3 - c6 - 3 - c13 - 4 - 3 - c25 - n29 - n33) σ34 .int (.inl (fun _ => 0)) (12 : Int32) (fun n37 q35 σ36 =>
 wP σ36 x0 [1] 7 (.ref (q35)) (fun σ38 =>
 wNA (bc - 1 - c5 - 1 - c12 - 1 - 1 - c24 - 1 - 1 - 1) (bs - 3 - c6 - 3 - c13 - 4 - 3 - c25 - n29 - n33 - n37) σ38 .float (.inr (.inr (.inl (fun _ => 0)))) (12 : Int32) (fun n41 q39 σ40 =>
 wP σ40 x0 [1] 8 (.ref (q39)) (fun σ42 =>
 wC (bc - 1 - c5 - 1 - c12 - 1 - 1 - c24 - 1 - 1 - 1 - 1) (bs - 3 - c6 - 3 - c13 - 4 - 3 - c25 - n29 - n33 - n37 - n41) (fun c45 c46 =>
 W_X4_values G c45 c46 σ42   (fun v43 σ44 =>
 wP σ44 x0 [1] 9 (va_rf (v43)) (fun σ47 =>
 wP σ47 x0 [1] 13 (.long ((1 : Int64))) (fun σ48 =>
 wU x1 (fun a49 =>
 wGO σ48 a49 [1] 0 (fun v50 =>
 wP σ48 x0 [1] 0 (va_rf (v50)) (fun σ51 =>
 loopW3 (WB_X2_init_2_104 G Q X  x0 a49) 9000 σ51 (bc - 1 - c5 - 1 - c12 - 1 - 1 - c24 - 1 - 1 - 1 - 1 - c45) (bs - 3 - c6 - 3 - c13 - 4 - 3 - c25 - n29 - n33 - n37 - n41 - c46) (0 : Int32))))))) X))))))))))) X)))) X))) X)))) X))
def W_J7_append (G : KG) (bc bs : Nat) (σ : KHp) (x0 : Nat) (x1 : Option Nat) (Q : Option Nat → KHp → Prop) (X : String → Nat → KHp → Prop) : Prop :=
  wIf (x1 = none)
 ((wR σ x0 19 ∧
 wC bc bs (fun c3 c4 =>
 W_J7_appendNull G c3 c4 σ x0  (fun v1 σ2 =>
 Q (v1) σ2) X)))
 (wU x1 (fun a5 =>
 (wR σ a5 20 ∧
 W_J9_length G σ a5  (fun v6 σ7 =>
 wGI σ7 x0 [19] 3 (fun v8 =>
 (wR σ7 x0 19 ∧
 wC bc bs (fun c11 c12 =>
 W_J7_ensureCapacityInternal G c11 c12 σ7 x0 ((v8 + v6)) (fun σ10 =>
 wGI σ10 x0 [19] 3 (fun v13 =>
 (wR σ10 x0 19 ∧
 wC (bc - c11) (bs - c12) (fun c16 c17 =>
 W_J7_putStringAt G c16 c17 σ10 x0 (v13) (some a5) (fun σ15 =>
 wGI σ15 x0 [19] 3 (fun v18 =>
 wP σ15 x0 [19] 3 (.int ((v18 + v6))) (fun σ19 =>
 Q (some x0) σ19))) X)))) X)))) X)))
def W_J8_append (G : KG) (bc bs : Nat) (σ : KHp) (x0 : Nat) (x1 : Option Nat) (Q : Option Nat → KHp → Prop) (X : String → Nat → KHp → Prop) : Prop :=
  (wR σ x0 19 ∧
 wC bc bs (fun c3 c4 =>
 W_J7_append G c3 c4 σ x0 (x1) (fun v1 σ2 =>
 Q (some x0) σ2) X))
def W_J8_toString (G : KG) (bc bs : Nat) (σ : KHp) (x0 : Nat) (Q : Option Nat → KHp → Prop) (X : String → Nat → KHp → Prop) : Prop :=
  wN bc bs σ 20 [.null, .int 0, .int 0, .int 0] (fun q1 σ2 =>
 wC (bc - 1) (bs - 4) (fun c5 c6 =>
 W_J9_init G c5 c6 σ2 q1 (some x0) (fun σ4 =>
 Q (some q1) σ4) X))
def W_X1_init (G : KG) (bc bs : Nat) (σ : KHp) (x0 : Nat) (Q : KHp → Prop) (X : String → Nat → KHp → Prop) : Prop :=
  wN bc bs σ 1 [.null, .null, .null, .null, .null, .null, .null, .null, .null, .null, .int 0, .int 0, .int 0, .long 0] (fun q1 σ2 =>
 wN (bc - 1) (bs - 14) σ2 2 [.int 0, .int 0, .int 0, .null, .null, .null, .null, .null] (fun q3 σ4 =>
 wC (bc - 1 - 1) (bs - 14 - 8) (fun c7 c8 =>
 W_X3_init G c7 c8 σ4 q3  (fun σ6 =>
 wC (bc - 1 - 1 - c7) (bs - 14 - 8 - c8) (fun c11 c12 =>
 W_X2_init G c11 c12 σ6 q1 (some q3) (fun σ10 =>
 wP σ10 x0 [0] 0 (.ref (q1)) (fun σ13 =>
 wN (bc - 1 - 1 - c7 - c11) (bs - 14 - 8 - c8 - c12) σ13 22 [.null, .int 0, .int 0] (fun q14 σ15 =>
 wC (bc - 1 - 1 - c7 - c11 - 1) (bs - 14 - 8 - c8 - c12 - 3) (fun c18 c19 =>
 W_J19_init G c18 c19 σ15 q14  (fun σ17 =>
 wP σ17 x0 [0] 1 (.ref (q14)) (fun σ20 =>
 wNA (bc - 1 - 1 - c7 - c11 - 1 - c18) (bs - 14 - 8 - c8 - c12 - 3 - c19) σ20 .byte (.inl (fun _ => 0)) (1000 : Int32) (fun n23 q21 σ22 =>
 wP σ22 x0 [0] 2 (.ref (q21)) (fun σ24 =>
 wP σ24 x0 [0] 5 (.int ((-1 : Int32))) (fun σ25 =>
 wN (bc - 1 - 1 - c7 - c11 - 1 - c18 - 1) (bs - 14 - 8 - c8 - c12 - 3 - c19 - n23) σ25 19 [.null, .int 0, .int 0, .int 0] (fun q26 σ27 =>
 wC (bc - 1 - 1 - c7 - c11 - 1 - c18 - 1 - 1) (bs - 14 - 8 - c8 - c12 - 3 - c19 - n23 - 4) (fun c30 c31 =>
 W_J8_init G c30 c31 σ27 q26  (fun σ29 =>
 wP σ29 x0 [0] 6 (.ref (q26)) (fun σ32 =>
 Q σ32)) X))))))) X)))) X)) X)))
def WB_X1_text_10 (G : KG) (Q : Option Nat → KHp → Prop) (X : String → Nat → KHp → Prop)  (y0 : Nat)  (y1 : Nat) (kI10 : KHp → Nat → Nat → Int32 → Prop) (σ : KHp) (bc10 bs10 : Nat) (l2 : Int32) : Prop :=
  wGI σ y0 [0] 3 (fun v11001 =>
 wIf (v11001 ≤ l2)
 ((wR σ y1 19 ∧
 wC bc10 bs10 (fun c11004 c11005 =>
 W_J8_toString G c11004 c11005 σ y1  (fun v11002 σ11003 =>
 Q (v11002) σ11003) X)))
 (wGO σ y0 [0] 2 (fun v11006 =>
 wU v11006 (fun a11007 =>
 wLB σ a11007 l2 (fun v11008 =>
 (wR σ y1 19 ∧
 wC bc10 bs10 (fun c11011 c11012 =>
 W_J8_append_3 G c11011 c11012 σ y1 (((((v11008 &&& (255 : Int32))).toUInt32 % 65536).toInt32)) (fun v11009 σ11010 =>
 kI10 σ11010 (bc10 - c11011) (bs10 - c11012) (l2 + (1 : Int32))) X)))))))
def W_X1_text (G : KG) (bc bs : Nat) (σ : KHp) (x0 : Nat) (Q : Option Nat → KHp → Prop) (X : String → Nat → KHp → Prop) : Prop :=
  wN bc bs σ 19 [.null, .int 0, .int 0, .int 0] (fun q1 σ2 =>
 wC (bc - 1) (bs - 4) (fun c5 c6 =>
 W_J8_init G c5 c6 σ2 q1  (fun σ4 =>
 loopW3 (WB_X1_text_10 G Q X  x0 q1) 9000 σ4 (bc - 1 - c5) (bs - 4 - c6) (0 : Int32)) X))
def W_X1_remember (G : KG) (bc bs : Nat) (σ : KHp) (x0 : Nat) (Q : Option Nat → KHp → Prop) (X : String → Nat → KHp → Prop) : Prop :=
  wN bc bs σ 1 [.null, .null, .null, .null, .null, .null, .null, .null, .null, .null, .int 0, .int 0, .int 0, .long 0] (fun q1 σ2 =>
 wGO σ2 x0 [0] 0 (fun v3 =>
 wC (bc - 1) (bs - 14) (fun c6 c7 =>
 W_X2_init_2 G c6 c7 σ2 q1 (v3) (fun σ5 =>
 (wR σ5 x0 0 ∧
 wC (bc - 1 - c6) (bs - 14 - c7) (fun c10 c11 =>
 W_X1_keep G c10 c11 σ5 x0 (some q1) (fun σ9 =>
 wGO σ9 x0 [0] 0 (fun v12 =>
 Q (v12) σ9)) X))) X)))
def W_X1_clearMemory (G : KG) (bc bs : Nat) (σ : KHp) (x0 : Nat) (Q : Int32 → KHp → Prop) (X : String → Nat → KHp → Prop) : Prop :=
  (wR σ x0 0 ∧
 wC bc bs (fun c3 c4 =>
 W_X1_remember G c3 c4 σ x0  (fun v1 σ2 =>
 wU v1 (fun a5 =>
 wGO σ2 a5 [1] 4 (fun v6 =>
 wU v6 (fun a7 =>
 (wR σ2 a7 22 ∧
 W_J19_size G σ2 a7  (fun v8 σ9 =>
 wGO σ9 x0 [0] 0 (fun v10 =>
 wU v10 (fun a11 =>
 wGO σ9 a11 [1] 4 (fun v12 =>
 wU v12 (fun a13 =>
 (wR σ9 a13 22 ∧
 W_J19_clear G σ9 a13  (fun σ15 =>
 Q (v8) σ15) X)))))) X))))) X))
def W_X1_setOn (G : KG) (bc bs : Nat) (σ : KHp) (x0 : Nat) (x1 : Int32) (x2 : Int32) (Q : Int32 → KHp → Prop) (X : String → Nat → KHp → Prop) : Prop :=
  (wR σ x0 0 ∧
 wC bc bs (fun c3 c4 =>
 W_X1_loadAt G c3 c4 σ x0 (x1) (fun v1 σ2 =>
 (wR σ2 x0 0 ∧
 wC (bc - c3) (bs - c4) (fun c7 c8 =>
 W_X1_remember G c7 c8 σ2 x0  (fun v5 σ6 =>
 wU v5 (fun a9 =>
 wGO σ6 a9 [1] 5 (fun v10 =>
 wU v10 (fun a11 =>
 wLB σ6 a11 x1 (fun v12 =>
 wGO σ6 x0 [0] 0 (fun v13 =>
 wU v13 (fun a14 =>
 wGO σ6 a14 [1] 5 (fun v15 =>
 wU v15 (fun a16 =>
 wSB σ6 a16 x1 (x2) (fun σ17 =>
 (narrow .boolean (.int v12) = .int v12 ∧ Q (v12) σ17))))))))))) X))) X))
def W_X1_plan (G : KG) (bc bs : Nat) (σ : KHp) (x0 : Nat) (x1 : Int32) (x2 : Int32) (x3 : Int32) (Q : Int32 → KHp → Prop) (X : String → Nat → KHp → Prop) : Prop :=
  (wR σ x0 0 ∧
 wC bc bs (fun c3 c4 =>
 W_X1_loadAt G c3 c4 σ x0 (x1) (fun v1 σ2 =>
 wGO σ2 x0 [0] 0 (fun v5 =>
 wU v5 (fun a6 =>
 wGI σ2 a6 [1] 12 (fun v7 =>
 W_X1_inRange G σ2  (((x2).toInt64)) ((((v7 + (1 : Int32))).toInt64)) ((100000 : Int64)) (fun v8 σ9 =>
 wC (bc - c3) (bs - c4) (fun c12 c13 =>
 W_X1_requireArgument G c12 c13 σ9  (v8) (fun σ11 =>
 wGO σ11 x0 [0] 0 (fun v14 =>
 wU v14 (fun a15 =>
 wGO σ11 a15 [1] 3 (fun v16 =>
 wU v16 (fun a17 =>
 (wR σ11 a17 21 ∧
 W_J18_size G σ11 a17  (fun v18 σ19 =>
 jn (κ := Int32 → KHp → Nat → Nat → Prop) (fun v21 σ22 bcv21 bsv21 =>
 wC bcv21 bsv21 (fun c25 c26 =>
 W_X1_requireState G c25 c26 σ22  (v21) (fun σ24 =>
 (wR σ24 x0 0 ∧
 wC (bcv21 - c25) (bsv21 - c26) (fun c29 c30 =>
 W_X1_remember G c29 c30 σ24 x0  (fun v27 σ28 =>
 wU v27 (fun a31 =>
 wGO σ28 a31 [1] 3 (fun v32 =>
 wN (bcv21 - c25 - c29) (bsv21 - c26 - c30) σ28 14 [.int 0, .int 0, .int 0] (fun q33 σ34 =>
 W_X17_init G σ34 q33 (x2) (x1) (x3) (fun σ36 =>
 wU v32 (fun a37 =>
 (wR σ36 a37 21 ∧
 wC (bcv21 - c25 - c29 - 1) (bsv21 - c26 - c30 - 3) (fun c40 c41 =>
 W_J18_addLast G c40 c41 σ36 a37 (some q33) (fun σ39 =>
 wGO σ39 x0 [0] 0 (fun v42 =>
 wU v42 (fun a43 =>
 wGO σ39 a43 [1] 3 (fun v44 =>
 wU v44 (fun a45 =>
 (wR σ39 a45 21 ∧
 W_J18_size G σ39 a45  (fun v46 σ47 =>
 Q (v46) σ47) X)))))) X)))) X)))) X))) X)) (fun k20 =>
 wIf ((20 : Int32) ≤ v18)
 (k20 (0 : Int32) σ19 (bc - c3 - c12) (bs - c4 - c13))
 (k20 (1 : Int32) σ19 (bc - c3 - c12) (bs - c4 - c13)))) X)))))) X)) X)))) X))
def WB_X1_run_44 (G : KG) (Q : Int32 → KHp → Prop) (X : String → Nat → KHp → Prop)  (y0 : Nat)  (y1 : Int32) (kI44 : KHp → Nat → Nat → Int32 → Int32 → Prop) (σ : KHp) (bc44 bs44 : Nat) (l2 : Int32) (l3 : Int32) : Prop :=
  wIf (y1 ≤ l3)
 (Q (l2) σ)
 (wGO σ y0 [0] 0 (fun v45001 =>
 wU v45001 (fun a45002 =>
 (wR σ a45002 1 ∧
 wC bc44 bs44 (fun c45005 c45006 =>
 W_X2_step G c45005 c45006 σ a45002  (fun v45003 σ45004 =>
 W_J16_bitCount G σ45004  (v45003) (fun v45007 σ45008 =>
 kI44 σ45008 (bc44 - c45005) (bs44 - c45006) (l2 + v45007) (l3 + (1 : Int32))) X) X)))))
def W_X1_run (G : KG) (bc bs : Nat) (σ : KHp) (x0 : Nat) (x1 : Int32) (Q : Int32 → KHp → Prop) (X : String → Nat → KHp → Prop) : Prop :=
  W_X1_inRange G σ  (((x1).toInt64)) ((1 : Int64)) ((500 : Int64)) (fun v1 σ2 =>
 wC bc bs (fun c5 c6 =>
 W_X1_requireArgument G c5 c6 σ2  (v1) (fun σ4 =>
 wGO σ4 x0 [0] 0 (fun v7 =>
 wU v7 (fun a8 =>
 wGI σ4 a8 [1] 12 (fun v9 =>
 jn (κ := Int32 → KHp → Nat → Nat → Prop) (fun v11 σ12 bcv11 bsv11 =>
 wC bcv11 bsv11 (fun c15 c16 =>
 W_X1_requireState G c15 c16 σ12  (v11) (fun σ14 =>
 (wR σ14 x0 0 ∧
 wC (bcv11 - c15) (bsv11 - c16) (fun c19 c20 =>
 W_X1_remember G c19 c20 σ14 x0  (fun v17 σ18 =>
 loopW4 (WB_X1_run_44 G Q X  x0 x1) 9000 σ18 (bcv11 - c15 - c19) (bsv11 - c16 - c20) (0 : Int32) (0 : Int32)) X))) X)) (fun k10 =>
 wIf ((100000 : Int32) < (v9 + x1))
 (k10 (0 : Int32) σ4 (bc - c5) (bs - c6))
 (k10 (1 : Int32) σ4 (bc - c5) (bs - c6))))))) X)) X
def W_X1_learn (G : KG) (bc bs : Nat) (σ : KHp) (x0 : Nat) (x1 : Int32) (Q : Int32 → KHp → Prop) (X : String → Nat → KHp → Prop) : Prop :=
  (wR σ x0 0 ∧
 wC bc bs (fun c3 c4 =>
 W_X1_branchAt G c3 c4 σ x0 (x1) (fun v1 σ2 =>
 (wR σ2 x0 0 ∧
 wC (bc - c3) (bs - c4) (fun c7 c8 =>
 W_X1_text G c7 c8 σ2 x0  (fun v5 σ6 =>
 W_X1_isName G σ6  (v5) (fun v9 σ10 =>
 jn (κ := Int32 → KHp → Nat → Nat → Prop) (fun v16 σ17 bcv16 bsv16 =>
 wC bcv16 bsv16 (fun c20 c21 =>
 W_X1_requireArgument G c20 c21 σ17  (v16) (fun σ19 =>
 wGO σ19 x0 [0] 0 (fun v22 =>
 wU v22 (fun a23 =>
 wGO σ19 a23 [1] 2 (fun v24 =>
 wU v24 (fun a25 =>
 (wR σ19 a25 16 ∧
 W_J2_size G σ19 a25  (fun v26 σ27 =>
 jn (κ := Int32 → KHp → Nat → Nat → Prop) (fun v29 σ30 bcv29 bsv29 =>
 wC bcv29 bsv29 (fun c33 c34 =>
 W_X1_requireState G c33 c34 σ30  (v29) (fun σ32 =>
 wU v1 (fun a35 =>
 wGI σ32 a35 [3] 7 (fun v36 =>
 jn (κ := Int32 → KHp → Nat → Nat → Prop) (fun v38 σ39 bcv38 bsv38 =>
 wC bcv38 bsv38 (fun c42 c43 =>
 W_X1_requireElement G c42 c43 σ39  (v38) (fun σ41 =>
 wP σ41 x0 [0] 3 (.int ((0 : Int32))) (fun σ44 =>
 wN (bcv38 - c42) (bsv38 - c43) σ44 11 [.null, .int 0, .null] (fun q45 σ46 =>
 wC (bcv38 - c42 - 1) (bsv38 - c43 - 3) (fun c49 c50 =>
 W_X14_init G c49 c50 σ46 q45 (v5) ((0 : Int32)) (fun σ48 =>
 wGO σ48 q45 [11] 2 (fun v51 =>
 wN (bcv38 - c42 - 1 - c49) (bsv38 - c43 - 3 - c50) σ48 12 [.int 0, .int 0, .int 0] (fun q52 σ53 =>
 wGO σ53 a35 [3] 1 (fun v54 =>
 wU v54 (fun a55 =>
 wLF σ53 a55 (0 : Int32) (fun v56 =>
 W_X15_init G σ53 q52 ((0 : Int32)) ((1 : Int32)) (((FP.f2i v56) + (2 : Int32))) (fun σ58 =>
 wU v51 (fun a59 =>
 (wR σ58 a59 16 ∧
 wC (bcv38 - c42 - 1 - c49 - 1) (bsv38 - c43 - 3 - c50 - 3) (fun c62 c63 =>
 W_J2_add G c62 c63 σ58 a59 (some q52) (fun v60 σ61 =>
 wGO σ61 q45 [11] 2 (fun v64 =>
 wN (bcv38 - c42 - 1 - c49 - 1 - c62) (bsv38 - c43 - 3 - c50 - 3 - c63) σ61 12 [.int 0, .int 0, .int 0] (fun q65 σ66 =>
 wGO σ66 a35 [3] 1 (fun v67 =>
 wU v67 (fun a68 =>
 wLF σ66 a68 (2 : Int32) (fun v69 =>
 W_X15_init G σ66 q65 ((2 : Int32)) ((0 : Int32)) (((FP.f2i v69) - (1 : Int32))) (fun σ71 =>
 wU v64 (fun a72 =>
 (wR σ71 a72 16 ∧
 wC (bcv38 - c42 - 1 - c49 - 1 - c62 - 1) (bsv38 - c43 - 3 - c50 - 3 - c63 - 3) (fun c75 c76 =>
 W_J2_add G c75 c76 σ71 a72 (some q65) (fun v73 σ74 =>
 wGO σ74 q45 [11] 2 (fun v77 =>
 wN (bcv38 - c42 - 1 - c49 - 1 - c62 - 1 - c75) (bsv38 - c43 - 3 - c50 - 3 - c63 - 3 - c76) σ74 12 [.int 0, .int 0, .int 0] (fun q78 σ79 =>
 wGO σ79 a35 [3] 1 (fun v80 =>
 wU v80 (fun a81 =>
 wLF σ79 a81 (2 : Int32) (fun v82 =>
 W_X15_init G σ79 q78 ((2 : Int32)) ((1 : Int32)) (((FP.f2i v82) + (1 : Int32))) (fun σ84 =>
 wU v77 (fun a85 =>
 (wR σ84 a85 16 ∧
 wC (bcv38 - c42 - 1 - c49 - 1 - c62 - 1 - c75 - 1) (bsv38 - c43 - 3 - c50 - 3 - c63 - 3 - c76 - 3) (fun c88 c89 =>
 W_J2_add G c88 c89 σ84 a85 (some q78) (fun v86 σ87 =>
 wGO σ87 q45 [11] 2 (fun v90 =>
 wN (bcv38 - c42 - 1 - c49 - 1 - c62 - 1 - c75 - 1 - c88) (bsv38 - c43 - 3 - c50 - 3 - c63 - 3 - c76 - 3 - c89) σ87 12 [.int 0, .int 0, .int 0] (fun q91 σ92 =>
 wGO σ92 a35 [3] 1 (fun v93 =>
 wU v93 (fun a94 =>
 wLF σ92 a94 (3 : Int32) (fun v95 =>
 W_X15_init G σ92 q91 ((3 : Int32)) ((1 : Int32)) (((FP.f2i v95) + (2 : Int32))) (fun σ97 =>
 wU v90 (fun a98 =>
 (wR σ97 a98 16 ∧
 wC (bcv38 - c42 - 1 - c49 - 1 - c62 - 1 - c75 - 1 - c88 - 1) (bsv38 - c43 - 3 - c50 - 3 - c63 - 3 - c76 - 3 - c89 - 3) (fun c101 c102 =>
 W_J2_add G c101 c102 σ97 a98 (some q91) (fun v99 σ100 =>
 (wR σ100 x0 0 ∧
 wC (bcv38 - c42 - 1 - c49 - 1 - c62 - 1 - c75 - 1 - c88 - 1 - c101) (bsv38 - c43 - 3 - c50 - 3 - c63 - 3 - c76 - 3 - c89 - 3 - c102) (fun c105 c106 =>
 W_X1_remember G c105 c106 σ100 x0  (fun v103 σ104 =>
 wU v103 (fun a107 =>
 wGO σ104 a107 [1] 2 (fun v108 =>
 wN (bcv38 - c42 - 1 - c49 - 1 - c62 - 1 - c75 - 1 - c88 - 1 - c101 - c105) (bsv38 - c43 - 3 - c50 - 3 - c63 - 3 - c76 - 3 - c89 - 3 - c102 - c106) σ104 13 [.null, .int 0] (fun q109 σ110 =>
 W_X16_init G σ110 q109 (some q45) ((0 : Int32)) (fun σ112 =>
 wU v108 (fun a113 =>
 (wR σ112 a113 16 ∧
 wC (bcv38 - c42 - 1 - c49 - 1 - c62 - 1 - c75 - 1 - c88 - 1 - c101 - c105 - 1) (bsv38 - c43 - 3 - c50 - 3 - c63 - 3 - c76 - 3 - c89 - 3 - c102 - c106 - 2) (fun c116 c117 =>
 W_J2_add G c116 c117 σ112 a113 (some q109) (fun v114 σ115 =>
 wGO σ115 x0 [0] 0 (fun v118 =>
 wU v118 (fun a119 =>
 wGO σ115 a119 [1] 2 (fun v120 =>
 wU v120 (fun a121 =>
 (wR σ115 a121 16 ∧
 W_J2_size G σ115 a121  (fun v122 σ123 =>
 Q ((v122 - (1 : Int32))) σ123) X)))))) X)))) X)))) X))) X)))) X)))))) X)))) X)))))) X)))) X)))))) X)))) X)))))) X)))) X)) (fun k37 =>
 wIf (v36 ≤ 0)
 (k37 (0 : Int32) σ32 (bcv29 - c33) (bsv29 - c34))
 (k37 (1 : Int32) σ32 (bcv29 - c33) (bsv29 - c34)))))) X)) (fun k28 =>
 wIf ((8 : Int32) ≤ v26)
 (k28 (0 : Int32) σ27 (bcv16 - c20) (bsv16 - c21))
 (k28 (1 : Int32) σ27 (bcv16 - c20) (bsv16 - c21)))) X)))))) X)) (fun k11 =>
 wIf (v9 = 0)
 (k11 (0 : Int32) σ10 (bc - c3 - c7) (bs - c4 - c8))
 (wGO σ10 x0 [0] 0 (fun v12 =>
 wU v12 (fun a13 =>
 (wR σ10 a13 1 ∧
 W_X2_find G σ10 a13 (v5) (fun v14 σ15 =>
 wIf (v14 = (-1 : Int32))
 (k11 (1 : Int32) σ15 (bc - c3 - c7) (bs - c4 - c8))
 (k11 (0 : Int32) σ15 (bc - c3 - c7) (bs - c4 - c8))) X)))))) X) X))) X))
def WB_X1_forget_30 (G : KG) (Q : Int32 → KHp → Prop) (X : String → Nat → KHp → Prop)  (y0 : Nat)  (y2 : Int32)  (y3 : Int32) (kI30 : KHp → Nat → Nat → Int32 → Prop) (σ : KHp) (bc30 bs30 : Nat) (l4 : Int32) : Prop :=
  wGO σ y0 [0] 0 (fun v31001 =>
 wU v31001 (fun a31002 =>
 wGO σ a31002 [1] 1 (fun v31003 =>
 wU v31003 (fun a31004 =>
 (wR σ a31004 16 ∧
 W_J2_size G σ a31004  (fun v31005 σ31006 =>
 wIf (v31005 ≤ l4)
 (Q (y2) σ31006)
 (wGO σ31006 y0 [0] 0 (fun v31007 =>
 wU v31007 (fun a31008 =>
 wGO σ31006 a31008 [1] 1 (fun v31009 =>
 wU v31009 (fun a31010 =>
 (wR σ31006 a31010 16 ∧
 W_J2_get G σ31006 a31010 (l4) (fun v31011 σ31012 =>
 wU v31011 (fun a31013 =>
 (wR σ31012 a31013 3 ∧
 wGI σ31012 a31013 [3] 6 (fun v31014 =>
 wGI σ31012 a31013 [3] 6 (fun v31015 =>
 wP σ31012 a31013 [3] 6 (.int (((v31014 &&& y3) ||| ((v31015 >>> ((1 : Int32) &&& 31)) &&& (y3 ^^^ (-1 : Int32)))))) (fun σ31016 =>
 kI30 σ31016 bc30 bs30 (l4 + (1 : Int32)))))))) X))))))) X)))))
def W_X1_forget (G : KG) (bc bs : Nat) (σ : KHp) (x0 : Nat) (x1 : Int32) (Q : Int32 → KHp → Prop) (X : String → Nat → KHp → Prop) : Prop :=
  (wR σ x0 0 ∧
 wC bc bs (fun c3 c4 =>
 W_X1_nuisanceAt G c3 c4 σ x0 (x1) (fun v1 σ2 =>
 wU v1 (fun a5 =>
 wGI σ2 a5 [13] 1 (fun v6 =>
 (wR σ2 x0 0 ∧
 wC (bc - c3) (bs - c4) (fun c9 c10 =>
 W_X1_remember G c9 c10 σ2 x0  (fun v7 σ8 =>
 wU v7 (fun a11 =>
 wGO σ8 a11 [1] 2 (fun v12 =>
 wU v12 (fun a13 =>
 (wR σ8 a13 16 ∧
 W_J2_remove G σ8 a13 (x1) (fun v14 σ15 =>
 loopW3 (WB_X1_forget_30 G Q X  x0 v6 (((1 : Int32) <<< (x1 &&& 31)) - (1 : Int32))) 9000 σ15 (bc - c3 - c9) (bs - c4 - c10) (0 : Int32)) X))))) X))))) X))
def W_X1_setLimits (G : KG) (bc bs : Nat) (σ : KHp) (x0 : Nat) (x1 : Int32) (x2 : Int32) (Q : Int32 → KHp → Prop) (X : String → Nat → KHp → Prop) : Prop :=
  W_X1_inRange G σ  (((x1).toInt64)) ((1 : Int64)) ((64 : Int64)) (fun v1 σ2 =>
 jn (κ := Int32 → KHp → Nat → Nat → Prop) (fun v6 σ7 bcv6 bsv6 =>
 wC bcv6 bsv6 (fun c10 c11 =>
 W_X1_requireArgument G c10 c11 σ7  (v6) (fun σ9 =>
 (wR σ9 x0 0 ∧
 wC (bcv6 - c10) (bsv6 - c11) (fun c14 c15 =>
 W_X1_remember G c14 c15 σ9 x0  (fun v12 σ13 =>
 wU v12 (fun a16 =>
 wGI σ13 a16 [1] 11 (fun v17 =>
 wGO σ13 x0 [0] 0 (fun v18 =>
 wU v18 (fun a19 =>
 wP σ13 a19 [1] 10 (.int (x1)) (fun σ20 =>
 wGO σ20 x0 [0] 0 (fun v21 =>
 wU v21 (fun a22 =>
 wP σ20 a22 [1] 11 (.int (x2)) (fun σ23 =>
 Q (v17) σ23))))))))) X))) X)) (fun k3 =>
 wIf (v1 = 0)
 (k3 (0 : Int32) σ2 bc bs)
 (W_X1_inRange G σ2  (((x2).toInt64)) ((1 : Int64)) (((x1).toInt64)) (fun v4 σ5 =>
 wIf (v4 = 0)
 (k3 (0 : Int32) σ5 bc bs)
 (k3 (1 : Int32) σ5 bc bs)) X))) X
def W_X1_reset (G : KG) (bc bs : Nat) (σ : KHp) (x0 : Nat) (x1 : Int32) (Q : Int32 → KHp → Prop) (X : String → Nat → KHp → Prop) : Prop :=
  (wR σ x0 0 ∧
 wC bc bs (fun c3 c4 =>
 W_X1_branchAt G c3 c4 σ x0 (x1) (fun v1 σ2 =>
 wU v1 (fun a5 =>
 wGI σ2 a5 [3] 2 (fun v6 =>
 jn (κ := Int32 → KHp → Nat → Nat → Prop) (fun v8 σ9 bcv8 bsv8 =>
 wC bcv8 bsv8 (fun c12 c13 =>
 W_X1_requireState G c12 c13 σ9  (v8) (fun σ11 =>
 (wR σ11 x0 0 ∧
 wC (bcv8 - c12) (bsv8 - c13) (fun c16 c17 =>
 W_X1_remember G c16 c17 σ11 x0  (fun v14 σ15 =>
 wU v14 (fun a18 =>
 wGO σ15 a18 [1] 1 (fun v19 =>
 wU v19 (fun a20 =>
 (wR σ15 a20 16 ∧
 W_J2_get G σ15 a20 (x1) (fun v21 σ22 =>
 wU v21 (fun a23 =>
 (wR σ22 a23 3 ∧
 wP σ22 a23 [3] 2 (.int ((0 : Int32))) (fun σ24 =>
 wGI σ24 a23 [3] 3 (fun v25 =>
 Q (v25) σ24))))) X))))) X))) X)) (fun k7 =>
 wIf (v6 = (1 : Int32))
 (k7 (1 : Int32) σ2 (bc - c3) (bs - c4))
 (k7 (0 : Int32) σ2 (bc - c3) (bs - c4)))))) X))
def W_X1_service (G : KG) (bc bs : Nat) (σ : KHp) (x0 : Nat) (x1 : Int32) (Q : Int32 → KHp → Prop) (X : String → Nat → KHp → Prop) : Prop :=
  (wR σ x0 0 ∧
 wC bc bs (fun c3 c4 =>
 W_X1_branchAt G c3 c4 σ x0 (x1) (fun v1 σ2 =>
 wU v1 (fun a5 =>
 wGI σ2 a5 [3] 3 (fun v6 =>
 (wR σ2 x0 0 ∧
 wC (bc - c3) (bs - c4) (fun c9 c10 =>
 W_X1_remember G c9 c10 σ2 x0  (fun v7 σ8 =>
 wU v7 (fun a11 =>
 wGO σ8 a11 [1] 1 (fun v12 =>
 wU v12 (fun a13 =>
 (wR σ8 a13 16 ∧
 W_J2_get G σ8 a13 (x1) (fun v14 σ15 =>
 wU v14 (fun a16 =>
 (wR σ15 a16 3 ∧
 wP σ15 a16 [3] 3 (.int ((0 : Int32))) (fun σ17 =>
 wGI σ17 a16 [3] 2 (fun v18 =>
 jn (κ := Int32 → KHp → Nat → Nat → Prop) (fun v21 σ22 bcv21 bsv21 =>
 wP σ22 a16 [3] 2 (.int (v21)) (fun σ23 =>
 Q (v6) σ23)) (fun k19 =>
 wIf (v18 = (2 : Int32))
 (k19 (1 : Int32) σ17 (bc - c3 - c9) (bs - c4 - c10))
 (wGI σ17 a16 [3] 2 (fun v20 =>
 k19 v20 σ17 (bc - c3 - c9) (bs - c4 - c10))))))))) X))))) X))))) X))
def W_X1_test (G : KG) (bc bs : Nat) (σ : KHp) (x0 : Nat) (x1 : Int32) (Q : Int32 → KHp → Prop) (X : String → Nat → KHp → Prop) : Prop :=
  (wR σ x0 0 ∧
 wC bc bs (fun c3 c4 =>
 W_X1_branchAt G c3 c4 σ x0 (x1) (fun v1 σ2 =>
 wU v1 (fun a5 =>
 wGI σ2 a5 [3] 2 (fun v6 =>
 jn (κ := Int32 → KHp → Nat → Nat → Prop) (fun v14 σ15 bcv14 bsv14 =>
 wC bcv14 bsv14 (fun c18 c19 =>
 W_X1_requireState G c18 c19 σ15  (v14) (fun σ17 =>
 (wR σ17 x0 0 ∧
 wC (bcv14 - c18) (bsv14 - c19) (fun c22 c23 =>
 W_X1_remember G c22 c23 σ17 x0  (fun v20 σ21 =>
 wU v20 (fun a24 =>
 wGO σ21 a24 [1] 1 (fun v25 =>
 wU v25 (fun a26 =>
 (wR σ21 a26 16 ∧
 W_J2_get G σ21 a26 (x1) (fun v27 σ28 =>
 wU v27 (fun a29 =>
 (wR σ28 a29 3 ∧
 wPZ σ28 a29 [3] 9 (1 : Int32) (fun σ30 =>
 (wR σ30 x0 0 ∧
 wC (bcv14 - c18 - c22) (bsv14 - c19 - c23) (fun c33 c34 =>
 W_X1_margin G c33 c34 σ30 x0 (x1) (fun v31 σ32 =>
 Q (v31) σ32) X)))))) X))))) X))) X)) (fun k7 =>
 wIf (v6 = 0)
 ((wR σ2 x0 0 ∧
 wC (bc - c3) (bs - c4) (fun c10 c11 =>
 W_X1_branchAt G c10 c11 σ2 x0 (x1) (fun v8 σ9 =>
 wU v8 (fun a12 =>
 wGI σ9 a12 [3] 9 (fun v13 =>
 wIf (v13 = 0)
 (k7 (1 : Int32) σ9 (bc - c3 - c10) (bs - c4 - c11))
 (k7 (0 : Int32) σ9 (bc - c3 - c10) (bs - c4 - c11))))) X)))
 (k7 (0 : Int32) σ2 (bc - c3) (bs - c4)))))) X))
def W_X1_tripIn (G : KG) (bc bs : Nat) (σ : KHp) (x0 : Nat) (x1 : Int32) (Q : Int32 → KHp → Prop) (X : String → Nat → KHp → Prop) : Prop :=
  (wR σ x0 0 ∧
 wC bc bs (fun c3 c4 =>
 W_X1_branchAt G c3 c4 σ x0 (x1) (fun v1 σ2 =>
 wN (bc - c3) (bs - c4) σ2 1 [.null, .null, .null, .null, .null, .null, .null, .null, .null, .null, .int 0, .int 0, .int 0, .long 0] (fun q5 σ6 =>
 wGO σ6 x0 [0] 0 (fun v7 =>
 wC (bc - c3 - 1) (bs - c4 - 14) (fun c10 c11 =>
 W_X2_init_2 G c10 c11 σ6 q5 (v7) (fun σ9 =>
 (wR σ9 q5 1 ∧
 wC (bc - c3 - 1 - c10) (bs - c4 - 14 - c11) (fun c14 c15 =>
 W_X2_tripIn G c14 c15 σ9 q5 (x1) ((500 : Int32)) (fun v12 σ13 =>
 Q (v12) σ13) X))) X)))) X))
def WB_X1_tripping_29 (G : KG) (Q : Int32 → KHp → Prop) (X : String → Nat → KHp → Prop)  (y1 : Int32)  (y2 : Nat) (kI29 : KHp → Nat → Nat → Int32 → Int32 → Prop) (σ : KHp) (bc29 bs29 : Nat) (l3 : Int32) (l4 : Int32) : Prop :=
  wIf (y1 ≤ l4)
 (Q (l3) σ)
 ((wR σ y2 1 ∧
 wC bc29 bs29 (fun c30003 c30004 =>
 W_X2_step G c30003 c30004 σ y2  (fun v30001 σ30002 =>
 kI29 σ30002 (bc29 - c30003) (bs29 - c30004) (l3 ||| v30001) (l4 + (1 : Int32))) X)))
def W_X1_tripping (G : KG) (bc bs : Nat) (σ : KHp) (x0 : Nat) (x1 : Int32) (Q : Int32 → KHp → Prop) (X : String → Nat → KHp → Prop) : Prop :=
  W_X1_inRange G σ  (((x1).toInt64)) ((1 : Int64)) ((500 : Int64)) (fun v1 σ2 =>
 wC bc bs (fun c5 c6 =>
 W_X1_requireArgument G c5 c6 σ2  (v1) (fun σ4 =>
 wN (bc - c5) (bs - c6) σ4 1 [.null, .null, .null, .null, .null, .null, .null, .null, .null, .null, .int 0, .int 0, .int 0, .long 0] (fun q7 σ8 =>
 wGO σ8 x0 [0] 0 (fun v9 =>
 wC (bc - c5 - 1) (bs - c6 - 14) (fun c12 c13 =>
 W_X2_init_2 G c12 c13 σ8 q7 (v9) (fun σ11 =>
 loopW4 (WB_X1_tripping_29 G Q X  x1 q7) 9000 σ11 (bc - c5 - 1 - c12) (bs - c6 - 14 - c13) (0 : Int32) (0 : Int32)) X)))) X)) X
def WB_X1_featureAfter_38 (G : KG) (Q : UInt32 → KHp → Prop) (X : String → Nat → KHp → Prop)  (y1 : Int32)  (y2 : Int32)  (y3 : Int32)  (y4 : Nat) (kI38 : KHp → Nat → Nat → Int32 → Prop) (σ : KHp) (bc38 bs38 : Nat) (l5 : Int32) : Prop :=
  wIf (y3 ≤ l5)
 (wGO σ y4 [1] 1 (fun v39001 =>
 wU v39001 (fun a39002 =>
 (wR σ a39002 16 ∧
 W_J2_get G σ a39002 (y1) (fun v39003 σ39004 =>
 wU v39003 (fun a39005 =>
 (wR σ39004 a39005 3 ∧
 wGI σ39004 a39005 [3] 7 (fun v39006 =>
 jn (κ := Int32 → KHp → Nat → Nat → Prop) (fun v39008 σ39009 bcv39008 bsv39008 =>
 wC bcv39008 bsv39008 (fun c39012 c39013 =>
 W_X1_requireElement G c39012 c39013 σ39009  (v39008) (fun σ39011 =>
 wGO σ39011 y4 [1] 1 (fun v39014 =>
 wU v39014 (fun a39015 =>
 (wR σ39011 a39015 16 ∧
 W_J2_get G σ39011 a39015 (y1) (fun v39016 σ39017 =>
 wU v39016 (fun a39018 =>
 (wR σ39017 a39018 3 ∧
 wGO σ39017 a39018 [3] 1 (fun v39019 =>
 wU v39019 (fun a39020 =>
 wLF σ39017 a39020 y2 (fun v39021 =>
 Q (v39021) σ39017)))))) X)))) X)) (fun k39007 =>
 wIf (v39006 ≤ 0)
 (k39007 (0 : Int32) σ39004 bc38 bs38)
 (k39007 (1 : Int32) σ39004 bc38 bs38)))))) X))))
 ((wR σ y4 1 ∧
 wC bc38 bs38 (fun c39024 c39025 =>
 W_X2_step G c39024 c39025 σ y4  (fun v39022 σ39023 =>
 kI38 σ39023 (bc38 - c39024) (bs38 - c39025) (l5 + (1 : Int32))) X)))
def W_X1_featureAfter (G : KG) (bc bs : Nat) (σ : KHp) (x0 : Nat) (x1 : Int32) (x2 : Int32) (x3 : Int32) (Q : UInt32 → KHp → Prop) (X : String → Nat → KHp → Prop) : Prop :=
  (wR σ x0 0 ∧
 wC bc bs (fun c3 c4 =>
 W_X1_branchAt G c3 c4 σ x0 (x1) (fun v1 σ2 =>
 wC (bc - c3) (bs - c4) (fun c7 c8 =>
 W_X1_requireFeature G c7 c8 σ2  (x2) (fun σ6 =>
 W_X1_inRange G σ6  (((x3).toInt64)) ((1 : Int64)) ((500 : Int64)) (fun v9 σ10 =>
 wC (bc - c3 - c7) (bs - c4 - c8) (fun c13 c14 =>
 W_X1_requireArgument G c13 c14 σ10  (v9) (fun σ12 =>
 wN (bc - c3 - c7 - c13) (bs - c4 - c8 - c14) σ12 1 [.null, .null, .null, .null, .null, .null, .null, .null, .null, .null, .int 0, .int 0, .int 0, .long 0] (fun q15 σ16 =>
 wGO σ16 x0 [0] 0 (fun v17 =>
 wC (bc - c3 - c7 - c13 - 1) (bs - c4 - c8 - c14 - 14) (fun c20 c21 =>
 W_X2_init_2 G c20 c21 σ16 q15 (v17) (fun σ19 =>
 loopW3 (WB_X1_featureAfter_38 G Q X  x1 x2 x3 q15) 9000 σ19 (bc - c3 - c7 - c13 - 1 - c20) (bs - c4 - c8 - c14 - 14 - c21) (0 : Int32)) X)))) X)) X) X)) X))
def WB_X1_culprit_32 (G : KG) (Q : Int32 → KHp → Prop) (X : String → Nat → KHp → Prop)  (y0 : Nat)  (y1 : Int32) (kI32 : KHp → Nat → Nat → Int32 → Prop) (σ : KHp) (bc32 bs32 : Nat) (l2 : Int32) : Prop :=
  (wR σ y0 0 ∧
 W_X1_loadCount G σ y0  (fun v33001 σ33002 =>
 wIf (v33001 ≤ l2)
 (Q ((-1 : Int32)) σ33002)
 (wGO σ33002 y0 [0] 0 (fun v33003 =>
 wU v33003 (fun a33004 =>
 wGO σ33002 a33004 [1] 5 (fun v33005 =>
 wU v33005 (fun a33006 =>
 wLB σ33002 a33006 l2 (fun v33007 =>
 wIf (v33007 = 0)
 (kI32 σ33002 bc32 bs32 (l2 + (1 : Int32)))
 (wGO σ33002 y0 [0] 0 (fun v33008 =>
 wU v33008 (fun a33009 =>
 wGO σ33002 a33009 [1] 0 (fun v33010 =>
 wU v33010 (fun a33011 =>
 wGO σ33002 a33011 [2] 6 (fun v33012 =>
 wU v33012 (fun a33013 =>
 (wR σ33002 a33013 16 ∧
 W_J2_get G σ33002 a33013 (l2) (fun v33014 σ33015 =>
 wU v33014 (fun a33016 =>
 ((wR σ33015 a33016 7 ∨ wR σ33015 a33016 8 ∨ wR σ33015 a33016 9 ∨ wR σ33015 a33016 10) ∧
 wGI σ33015 a33016 [7, 8, 9, 10] 1 (fun v33017 =>
 wIf (v33017 = y1)
 (wN bc32 bs32 σ33015 1 [.null, .null, .null, .null, .null, .null, .null, .null, .null, .null, .int 0, .int 0, .int 0, .long 0] (fun q33018 σ33019 =>
 wGO σ33019 y0 [0] 0 (fun v33020 =>
 wC (bc32 - 1) (bs32 - 14) (fun c33023 c33024 =>
 W_X2_init_2 G c33023 c33024 σ33019 q33018 (v33020) (fun σ33022 =>
 wGO σ33022 q33018 [1] 5 (fun v33025 =>
 wU v33025 (fun a33026 =>
 wSB σ33022 a33026 l2 ((0 : Int32)) (fun σ33027 =>
 (wR σ33027 q33018 1 ∧
 wC (bc32 - 1 - c33023) (bs32 - 14 - c33024) (fun c33030 c33031 =>
 W_X2_tripIn G c33030 c33031 σ33027 q33018 (y1) ((200 : Int32)) (fun v33028 σ33029 =>
 wIf (v33028 = (-1 : Int32))
 (Q (l2) σ33029)
 (kI32 σ33029 (bc32 - 1 - c33023 - c33030) (bs32 - 14 - c33024 - c33031) (l2 + (1 : Int32)))) X)))))) X))))
 (kI32 σ33015 bc32 bs32 (l2 + (1 : Int32))))))) X))))))))))))))) X)
def W_X1_culprit (G : KG) (bc bs : Nat) (σ : KHp) (x0 : Nat) (x1 : Int32) (Q : Int32 → KHp → Prop) (X : String → Nat → KHp → Prop) : Prop :=
  (wR σ x0 0 ∧
 wC bc bs (fun c3 c4 =>
 W_X1_branchAt G c3 c4 σ x0 (x1) (fun v1 σ2 =>
 wN (bc - c3) (bs - c4) σ2 1 [.null, .null, .null, .null, .null, .null, .null, .null, .null, .null, .int 0, .int 0, .int 0, .long 0] (fun q5 σ6 =>
 wGO σ6 x0 [0] 0 (fun v7 =>
 wC (bc - c3 - 1) (bs - c4 - 14) (fun c10 c11 =>
 W_X2_init_2 G c10 c11 σ6 q5 (v7) (fun σ9 =>
 (wR σ9 q5 1 ∧
 wC (bc - c3 - 1 - c10) (bs - c4 - 14 - c11) (fun c14 c15 =>
 W_X2_tripIn G c14 c15 σ9 q5 (x1) ((200 : Int32)) (fun v12 σ13 =>
 wIf (v12 = (-1 : Int32))
 (Q ((-1 : Int32)) σ13)
 (loopW3 (WB_X1_culprit_32 G Q X  x0 x1) 9000 σ13 (bc - c3 - 1 - c10 - c14) (bs - c4 - 14 - c11 - c15) (0 : Int32))) X))) X)))) X))
def WB_X1_hitsAhead_20 (G : KG) (Q : Int32 → KHp → Prop) (X : String → Nat → KHp → Prop)  (y0 : Nat)  (y1 : Int32)  (y2 : Nat) (kI20 : KHp → Nat → Nat → Int32 → Prop) (σ : KHp) (bc20 bs20 : Nat) (l3 : Int32) : Prop :=
  wIf ((100 : Int32) ≤ l3)
 (wGO σ y2 [1] 6 (fun v21001 =>
 wU v21001 (fun a21002 =>
 wLI σ a21002 y1 (fun v21003 =>
 wGO σ y0 [0] 0 (fun v21004 =>
 wU v21004 (fun a21005 =>
 wGO σ a21005 [1] 6 (fun v21006 =>
 wU v21006 (fun a21007 =>
 wLI σ a21007 y1 (fun v21008 =>
 Q ((v21003 - v21008)) σ)))))))))
 ((wR σ y2 1 ∧
 wC bc20 bs20 (fun c21011 c21012 =>
 W_X2_step G c21011 c21012 σ y2  (fun v21009 σ21010 =>
 kI20 σ21010 (bc20 - c21011) (bs20 - c21012) (l3 + (1 : Int32))) X)))
def W_X1_hitsAhead (G : KG) (bc bs : Nat) (σ : KHp) (x0 : Nat) (x1 : Int32) (Q : Int32 → KHp → Prop) (X : String → Nat → KHp → Prop) : Prop :=
  (wR σ x0 0 ∧
 wC bc bs (fun c3 c4 =>
 W_X1_signatureAt G c3 c4 σ x0 (x1) (fun v1 σ2 =>
 wN (bc - c3) (bs - c4) σ2 1 [.null, .null, .null, .null, .null, .null, .null, .null, .null, .null, .int 0, .int 0, .int 0, .long 0] (fun q5 σ6 =>
 wGO σ6 x0 [0] 0 (fun v7 =>
 wC (bc - c3 - 1) (bs - c4 - 14) (fun c10 c11 =>
 W_X2_init_2 G c10 c11 σ6 q5 (v7) (fun σ9 =>
 loopW3 (WB_X1_hitsAhead_20 G Q X  x0 x1 q5) 9000 σ9 (bc - c3 - 1 - c10) (bs - c4 - 14 - c11) (0 : Int32)) X)))) X))
def WB_X1_largestCount_14 (G : KG) (Q : Int32 → KHp → Prop) (X : String → Nat → KHp → Prop)  (y0 : Nat)  (y1 : Int32) (kI14 : KHp → Nat → Nat → Int32 → Prop) (σ : KHp) (bc14 bs14 : Nat) (l2 : Int32) : Prop :=
  wIf (l2 ≤ 0)
 (Q ((-1 : Int32)) σ)
 (wN bc14 bs14 σ 1 [.null, .null, .null, .null, .null, .null, .null, .null, .null, .null, .int 0, .int 0, .int 0, .long 0] (fun q15001 σ15002 =>
 wGO σ15002 y0 [0] 0 (fun v15003 =>
 wC (bc14 - 1) (bs14 - 14) (fun c15006 c15007 =>
 W_X2_init_2 G c15006 c15007 σ15002 q15001 (v15003) (fun σ15005 =>
 wP σ15005 q15001 [1] 11 (.int (l2)) (fun σ15008 =>
 (wR σ15008 q15001 1 ∧
 wC (bc14 - 1 - c15006) (bs14 - 14 - c15007) (fun c15011 c15012 =>
 W_X2_tripIn G c15011 c15012 σ15008 q15001 (y1) ((200 : Int32)) (fun v15009 σ15010 =>
 wIf (v15009 = (-1 : Int32))
 (kI14 σ15010 (bc14 - 1 - c15006 - c15011) (bs14 - 14 - c15007 - c15012) (l2 + (-1 : Int32)))
 (Q (l2) σ15010)) X)))) X))))
def W_X1_largestCount (G : KG) (bc bs : Nat) (σ : KHp) (x0 : Nat) (x1 : Int32) (Q : Int32 → KHp → Prop) (X : String → Nat → KHp → Prop) : Prop :=
  (wR σ x0 0 ∧
 wC bc bs (fun c3 c4 =>
 W_X1_branchAt G c3 c4 σ x0 (x1) (fun v1 σ2 =>
 wGO σ2 x0 [0] 0 (fun v5 =>
 wU v5 (fun a6 =>
 wGI σ2 a6 [1] 10 (fun v7 =>
 loopW3 (WB_X1_largestCount_14 G Q X  x0 x1) 9000 σ2 (bc - c3) (bs - c4) v7)))) X))
def WB_X1_writeTrip_68 (G : KG) (Q : Int32 → KHp → Prop) (X : String → Nat → KHp → Prop)  (y0 : Nat)  (y2 : Nat) (kI68 : KHp → Nat → Nat → Int32 → Prop) (σ : KHp) (bc68 bs68 : Nat) (l3 : Int32) : Prop :=
  wGO σ y2 [15] 5 (fun v69001 =>
 wU v69001 (fun a69002 =>
 wLen σ a69002 (fun v69003 =>
 wIf (v69003 ≤ l3)
 (wGO σ y0 [0] 6 (fun v69004 =>
 wU v69004 (fun a69005 =>
 (wR σ a69005 19 ∧
 wC bc68 bs68 (fun c69008 c69009 =>
 W_J8_append_3 G c69008 c69009 σ a69005 ((10 : Int32)) (fun v69006 σ69007 =>
 wGO σ69007 y0 [0] 6 (fun v69010 =>
 wU v69010 (fun a69011 =>
 (wR σ69007 a69011 19 ∧
 W_J8_length G σ69007 a69011  (fun v69012 σ69013 =>
 Q (v69012) σ69013) X)))) X)))))
 (wGO σ y0 [0] 6 (fun v69014 =>
 wU v69014 (fun a69015 =>
 (wR σ a69015 19 ∧
 wC bc68 bs68 (fun c69018 c69019 =>
 W_J8_append_3 G c69018 c69019 σ a69015 ((32 : Int32)) (fun v69016 σ69017 =>
 wGO σ69017 y2 [15] 5 (fun v69020 =>
 wU v69020 (fun a69021 =>
 wLI σ69017 a69021 l3 (fun v69022 =>
 wU v69016 (fun a69023 =>
 (wR σ69017 a69023 19 ∧
 wC (bc68 - c69018) (bs68 - c69019) (fun c69026 c69027 =>
 W_J8_append_2 G c69026 c69027 σ69017 a69023 (v69022) (fun v69024 σ69025 =>
 kI68 σ69025 (bc68 - c69018 - c69026) (bs68 - c69019 - c69027) (l3 + (1 : Int32))) X))))))) X))))))))
def W_X1_writeTrip (G : KG) (bc bs : Nat) (σ : KHp) (x0 : Nat) (x1 : Int32) (Q : Int32 → KHp → Prop) (X : String → Nat → KHp → Prop) : Prop :=
  (wR σ x0 0 ∧
 wC bc bs (fun c3 c4 =>
 W_X1_tripAt G c3 c4 σ x0 (x1) (fun v1 σ2 =>
 wGO σ2 x0 [0] 6 (fun v5 =>
 wU v5 (fun a6 =>
 (wR σ2 a6 19 ∧
 wC (bc - c3) (bs - c4) (fun c9 c10 =>
 W_J8_setLength G c9 c10 σ2 a6 ((0 : Int32)) (fun σ8 =>
 wGO σ8 x0 [0] 6 (fun v11 =>
 wGO σ8 x0 [0] 0 (fun v12 =>
 wU v12 (fun a13 =>
 wGO σ8 a13 [1] 0 (fun v14 =>
 wU v14 (fun a15 =>
 wGO σ8 a15 [2] 4 (fun v16 =>
 wU v1 (fun a17 =>
 wGI σ8 a17 [15] 1 (fun v18 =>
 wU v16 (fun a19 =>
 (wR σ8 a19 16 ∧
 W_J2_get G σ8 a19 (v18) (fun v20 σ21 =>
 wU v20 (fun a22 =>
 (wR σ21 a22 20 ∧
 wU v11 (fun a23 =>
 (wR σ21 a23 19 ∧
 wC (bc - c3 - c9) (bs - c4 - c10) (fun c26 c27 =>
 W_J8_append G c26 c27 σ21 a23 (some a22) (fun v24 σ25 =>
 wU v24 (fun a28 =>
 (wR σ25 a28 19 ∧
 wC (bc - c3 - c9 - c26) (bs - c4 - c10 - c27) (fun c31 c32 =>
 W_J8_append_3 G c31 c32 σ25 a28 ((32 : Int32)) (fun v29 σ30 =>
 wGI σ30 a17 [15] 0 (fun v33 =>
 wU v29 (fun a34 =>
 (wR σ30 a34 19 ∧
 wC (bc - c3 - c9 - c26 - c31) (bs - c4 - c10 - c27 - c32) (fun c37 c38 =>
 W_J8_append_2 G c37 c38 σ30 a34 (v33) (fun v35 σ36 =>
 wU v35 (fun a39 =>
 (wR σ36 a39 19 ∧
 wC (bc - c3 - c9 - c26 - c31 - c37) (bs - c4 - c10 - c27 - c32 - c38) (fun c42 c43 =>
 W_J8_append_3 G c42 c43 σ36 a39 ((32 : Int32)) (fun v40 σ41 =>
 wGI σ41 a17 [15] 2 (fun v44 =>
 wU v40 (fun a45 =>
 (wR σ41 a45 19 ∧
 wC (bc - c3 - c9 - c26 - c31 - c37 - c42) (bs - c4 - c10 - c27 - c32 - c38 - c43) (fun c48 c49 =>
 W_J8_append_2 G c48 c49 σ41 a45 (v44) (fun v46 σ47 =>
 loopW3 (WB_X1_writeTrip_68 G Q X  x0 a17) 9000 σ47 (bc - c3 - c9 - c26 - c31 - c37 - c42 - c48) (bs - c4 - c10 - c27 - c32 - c38 - c43 - c49) (0 : Int32)) X))))) X)))) X))))) X)))) X)))))) X))))))))))) X))))) X))
def WB_X7_next_175 (G : KG) (Q : KHp → Prop) (X : String → Nat → KHp → Prop) (kI0 : KHp → Nat → Nat → Prop) (y0 : Nat) (kI175 : KHp → Nat → Nat → Prop) (σ : KHp) (bc175 bs175 : Nat)  : Prop :=
  (wR σ y0 5 ∧
 W_X7_isAt G σ y0 ((48 : Int32)) ((57 : Int32)) (fun v176001 σ176002 =>
 wIf (v176001 = 0)
 (Q σ176002)
 (wGI σ176002 y0 [5] 5 (fun v176003 =>
 wGO σ176002 y0 [5] 9 (fun v176004 =>
 wU v176004 (fun a176005 =>
 wGO σ176002 a176005 [0] 2 (fun v176006 =>
 wGI σ176002 y0 [5] 3 (fun v176007 =>
 wU v176006 (fun a176008 =>
 wLB σ176002 a176008 v176007 (fun v176009 =>
 W_J12_min G σ176002  ((10000000 : Int32)) (((((10 : Int32) * v176003) + v176009) - (48 : Int32))) (fun v176010 σ176011 =>
 wP σ176011 y0 [5] 5 (.int (v176010)) (fun σ176012 =>
 wGI σ176012 y0 [5] 3 (fun v176013 =>
 wP σ176012 y0 [5] 3 (.int ((v176013 + (1 : Int32)))) (fun σ176014 =>
 kI175 σ176014 bc175 bs175)))) X))))))))) X)
def WB_X7_next_104 (G : KG) (Q : KHp → Prop) (X : String → Nat → KHp → Prop) (kI0 : KHp → Nat → Nat → Prop) (y0 : Nat)  (y1 : Nat) (kI104 : KHp → Nat → Nat → Prop) (σ : KHp) (bc104 bs104 : Nat)  : Prop :=
  (wR σ y0 5 ∧
 W_X7_isAt G σ y0 ((97 : Int32)) ((122 : Int32)) (fun v105001 σ105002 =>
 wIf (v105001 = 0)
 ((wR σ105002 y1 19 ∧
 wC bc104 bs104 (fun c105005 c105006 =>
 W_J8_toString G c105005 c105006 σ105002 y1  (fun v105003 σ105004 =>
 wP σ105004 y0 [5] 7 (va_rf (v105003)) (fun σ105007 =>
 Q σ105007)) X)))
 (wGO σ105002 y0 [5] 9 (fun v105008 =>
 wU v105008 (fun a105009 =>
 wGO σ105002 a105009 [0] 2 (fun v105010 =>
 wGI σ105002 y0 [5] 3 (fun v105011 =>
 wU v105010 (fun a105012 =>
 wLB σ105002 a105012 v105011 (fun v105013 =>
 (wR σ105002 y1 19 ∧
 wC bc104 bs104 (fun c105016 c105017 =>
 W_J8_append_3 G c105016 c105017 σ105002 y1 ((((v105013).toUInt32 % 65536).toInt32)) (fun v105014 σ105015 =>
 wGI σ105015 y0 [5] 3 (fun v105018 =>
 wP σ105015 y0 [5] 3 (.int ((v105018 + (1 : Int32)))) (fun σ105019 =>
 kI104 σ105019 (bc104 - c105016) (bs104 - c105017)))) X)))))))))) X)
def WB_X7_next_0 (G : KG) (Q : KHp → Prop) (X : String → Nat → KHp → Prop)  (y0 : Nat) (kI0 : KHp → Nat → Nat → Prop) (σ : KHp) (bc0 bs0 : Nat)  : Prop :=
  (wR σ y0 5 ∧
 W_X7_isAt G σ y0 ((32 : Int32)) ((32 : Int32)) (fun v1001 σ1002 =>
 wIf (v1001 = 0)
 ((wR σ1002 y0 5 ∧
 W_X7_isAt G σ1002 y0 ((10 : Int32)) ((10 : Int32)) (fun v1005 σ1006 =>
 wIf (v1005 = 0)
 (wGI σ1006 y0 [5] 3 (fun v1007 =>
 wP σ1006 y0 [5] 4 (.int (v1007)) (fun σ1008 =>
 wP σ1008 y0 [5] 7 (.ref ((kx_K G 22))) (fun σ1009 =>
 wP σ1009 y0 [5] 5 (.int ((0 : Int32))) (fun σ1010 =>
 wGI σ1010 y0 [5] 3 (fun v1011 =>
 wGO σ1010 y0 [5] 9 (fun v1012 =>
 wU v1012 (fun a1013 =>
 wGI σ1010 a1013 [0] 3 (fun v1014 =>
 wIf (v1011 = v1014)
 (wP σ1010 y0 [5] 8 (.ref ((kx_K G 7))) (fun σ1032 =>
 Q σ1032))
 ((wR σ1010 y0 5 ∧
 W_X7_isAt G σ1010 y0 ((97 : Int32)) ((122 : Int32)) (fun v1015 σ1016 =>
 wIf (v1015 = 0)
 ((wR σ1016 y0 5 ∧
 W_X7_isAt G σ1016 y0 ((48 : Int32)) ((57 : Int32)) (fun v1017 σ1018 =>
 wIf (v1017 = 0)
 (wP σ1018 y0 [5] 8 (.ref ((kx_K G 10))) (fun σ1019 =>
 wGI σ1019 y0 [5] 3 (fun v1020 =>
 wP σ1019 y0 [5] 3 (.int ((v1020 + (1 : Int32)))) (fun σ1021 =>
 Q σ1021))))
 (wP σ1018 y0 [5] 8 (.ref ((kx_K G 9))) (fun σ1022 =>
 loopW2 (WB_X7_next_175 G Q X kI0 y0) 9000 σ1022 bc0 bs0))) X))
 (wP σ1016 y0 [5] 8 (.ref ((kx_K G 8))) (fun σ1024 =>
 wN bc0 bs0 σ1024 19 [.null, .int 0, .int 0, .int 0] (fun q1025 σ1026 =>
 wC (bc0 - 1) (bs0 - 4) (fun c1029 c1030 =>
 W_J8_init G c1029 c1030 σ1026 q1025  (fun σ1028 =>
 loopW2 (WB_X7_next_104 G Q X kI0 y0 q1025) 9000 σ1028 (bc0 - 1 - c1029) (bs0 - 4 - c1030)) X))))) X)))))))))))
 (wGI σ1006 y0 [5] 3 (fun v1033 =>
 wP σ1006 y0 [5] 3 (.int ((v1033 + (1 : Int32)))) (fun σ1034 =>
 kI0 σ1034 bc0 bs0)))) X))
 (wGI σ1002 y0 [5] 3 (fun v1003 =>
 wP σ1002 y0 [5] 3 (.int ((v1003 + (1 : Int32)))) (fun σ1004 =>
 kI0 σ1004 bc0 bs0)))) X)
def W_X7_next (G : KG) (bc bs : Nat) (σ : KHp) (x0 : Nat) (Q : KHp → Prop) (X : String → Nat → KHp → Prop) : Prop :=
  loopW2 (WB_X7_next_0 G Q X  x0) 9000 σ bc bs
def W_X7_accept (G : KG) (bc bs : Nat) (σ : KHp) (x0 : Nat) (x1 : Option Nat) (Q : KHp → Prop) (X : String → Nat → KHp → Prop) : Prop :=
  wGO σ x0 [5] 7 (fun v1 =>
 wU v1 (fun a2 =>
 (wR σ a2 20 ∧
 W_J9_equals G σ a2 (x1) (fun v3 σ4 =>
 (wR σ4 x0 5 ∧
 wC bc bs (fun c7 c8 =>
 W_X7_require G c7 c8 σ4 x0 (v3) ((1 : Int32)) (fun σ6 =>
 (wR σ6 x0 5 ∧
 wC (bc - c7) (bs - c8) (fun c11 c12 =>
 W_X7_next G c11 c12 σ6 x0  (fun σ10 =>
 Q σ10) X))) X))) X)))
def W_X7_number_2 (G : KG) (bc bs : Nat) (σ : KHp) (x0 : Nat) (x1 : Int32) (x2 : Int32) (Q : Int32 → KHp → Prop) (X : String → Nat → KHp → Prop) : Prop :=
  wGO σ x0 [5] 8 (fun v1 =>
 wIf ((v1) = (some (kx_K G 9)))
 ((wR σ x0 5 ∧
 wC bc bs (fun c20 c21 =>
 W_X7_require G c20 c21 σ x0 ((1 : Int32)) ((1 : Int32)) (fun σ19 =>
 wGI σ19 x0 [5] 5 (fun v22 =>
 W_X1_inRange G σ19  (((v22).toInt64)) (((x1).toInt64)) (((x2).toInt64)) (fun v23 σ24 =>
 (wR σ24 x0 5 ∧
 wC (bc - c20) (bs - c21) (fun c27 c28 =>
 W_X7_require G c27 c28 σ24 x0 (v23) ((2 : Int32)) (fun σ26 =>
 wGI σ26 x0 [5] 5 (fun v29 =>
 (wR σ26 x0 5 ∧
 wC (bc - c20 - c27) (bs - c21 - c28) (fun c32 c33 =>
 W_X7_next G c32 c33 σ26 x0  (fun σ31 =>
 Q (v29) σ31) X)))) X))) X)) X)))
 ((wR σ x0 5 ∧
 wC bc bs (fun c4 c5 =>
 W_X7_require G c4 c5 σ x0 ((0 : Int32)) ((1 : Int32)) (fun σ3 =>
 wGI σ3 x0 [5] 5 (fun v6 =>
 W_X1_inRange G σ3  (((v6).toInt64)) (((x1).toInt64)) (((x2).toInt64)) (fun v7 σ8 =>
 (wR σ8 x0 5 ∧
 wC (bc - c4) (bs - c5) (fun c11 c12 =>
 W_X7_require G c11 c12 σ8 x0 (v7) ((2 : Int32)) (fun σ10 =>
 wGI σ10 x0 [5] 5 (fun v13 =>
 (wR σ10 x0 5 ∧
 wC (bc - c4 - c11) (bs - c5 - c12) (fun c16 c17 =>
 W_X7_next G c16 c17 σ10 x0  (fun σ15 =>
 Q (v13) σ15) X)))) X))) X)) X))))
def W_X7_parseEnd (G : KG) (bc bs : Nat) (σ : KHp) (x0 : Nat) (Q : KHp → Prop) (X : String → Nat → KHp → Prop) : Prop :=
  (wR σ x0 5 ∧
 W_X7_isSymbol G σ x0 ((59 : Int32)) (fun v1 σ2 =>
 (wR σ2 x0 5 ∧
 wC bc bs (fun c5 c6 =>
 W_X7_require G c5 c6 σ2 x0 (v1) ((1 : Int32)) (fun σ4 =>
 (wR σ4 x0 5 ∧
 wC (bc - c5) (bs - c6) (fun c9 c10 =>
 W_X7_next G c9 c10 σ4 x0  (fun σ8 =>
 Q σ8) X))) X))) X)
def W_X7_newName (G : KG) (bc bs : Nat) (σ : KHp) (x0 : Nat) (Q : Option Nat → KHp → Prop) (X : String → Nat → KHp → Prop) : Prop :=
  (wR σ x0 5 ∧
 wC bc bs (fun c3 c4 =>
 W_X7_requireName G c3 c4 σ x0  (fun σ2 =>
 (wR σ2 x0 5 ∧
 W_X7_isUsed G σ2 x0  (fun v5 σ6 =>
 jn (κ := Int32 → KHp → Nat → Nat → Prop) (fun v8 σ9 bcv8 bsv8 =>
 (wR σ9 x0 5 ∧
 wC bcv8 bsv8 (fun c12 c13 =>
 W_X7_require G c12 c13 σ9 x0 (v8) ((3 : Int32)) (fun σ11 =>
 wGO σ11 x0 [5] 7 (fun v14 =>
 (wR σ11 x0 5 ∧
 wC (bcv8 - c12) (bsv8 - c13) (fun c17 c18 =>
 W_X7_next G c17 c18 σ11 x0  (fun σ16 =>
 Q (v14) σ16) X)))) X))) (fun k7 =>
 wIf (v5 = 0)
 (k7 (1 : Int32) σ6 (bc - c3) (bs - c4))
 (k7 (0 : Int32) σ6 (bc - c3) (bs - c4)))) X)) X))
def W_X7_parseOf (G : KG) (bc bs : Nat) (σ : KHp) (x0 : Nat) (Q : Int32 → KHp → Prop) (X : String → Nat → KHp → Prop) : Prop :=
  (wR σ x0 5 ∧
 wC bc bs (fun c3 c4 =>
 W_X7_accept G c3 c4 σ x0 (some (kx_K G 38)) (fun σ2 =>
 (wR σ2 x0 5 ∧
 wC (bc - c3) (bs - c4) (fun c7 c8 =>
 W_X7_requireName G c7 c8 σ2 x0  (fun σ6 =>
 wGO σ6 x0 [5] 0 (fun v9 =>
 wU v9 (fun a10 =>
 wGO σ6 a10 [2] 4 (fun v11 =>
 wGO σ6 x0 [5] 7 (fun v12 =>
 wU v11 (fun a13 =>
 (wR σ6 a13 16 ∧
 W_J2_indexOf G σ6 a13 (v12) (fun v14 σ15 =>
 jn (κ := Int32 → KHp → Nat → Nat → Prop) (fun v17 σ18 bcv17 bsv17 =>
 (wR σ18 x0 5 ∧
 wC bcv17 bsv17 (fun c21 c22 =>
 W_X7_require G c21 c22 σ18 x0 (v17) ((3 : Int32)) (fun σ20 =>
 (wR σ20 x0 5 ∧
 wC (bcv17 - c21) (bsv17 - c22) (fun c25 c26 =>
 W_X7_next G c25 c26 σ20 x0  (fun σ24 =>
 Q (v14) σ24) X))) X))) (fun k16 =>
 wIf (v14 = (-1 : Int32))
 (k16 (0 : Int32) σ15 (bc - c3 - c7) (bs - c4 - c8))
 (k16 (1 : Int32) σ15 (bc - c3 - c7) (bs - c4 - c8)))) X))))))) X))) X))
def W_X7_parseSeed (G : KG) (bc bs : Nat) (σ : KHp) (x0 : Nat) (Q : KHp → Prop) (X : String → Nat → KHp → Prop) : Prop :=
  wGJ σ x0 [5] 6 (fun v1 =>
 jn (κ := Int32 → KHp → Nat → Nat → Prop) (fun v3 σ4 bcv3 bsv3 =>
 (wR σ4 x0 5 ∧
 wC bcv3 bsv3 (fun c7 c8 =>
 W_X7_require G c7 c8 σ4 x0 (v3) ((3 : Int32)) (fun σ6 =>
 (wR σ6 x0 5 ∧
 wC (bcv3 - c7) (bsv3 - c8) (fun c11 c12 =>
 W_X7_next G c11 c12 σ6 x0  (fun σ10 =>
 (wR σ10 x0 5 ∧
 wC (bcv3 - c7 - c11) (bsv3 - c8 - c12) (fun c15 c16 =>
 W_X7_number_2 G c15 c16 σ10 x0 ((0 : Int32)) ((99999 : Int32)) (fun v13 σ14 =>
 wP σ14 x0 [5] 6 (.long (((v13).toInt64))) (fun σ17 =>
 Q σ17)) X))) X))) X))) (fun k2 =>
 wIf (0 ≤ (lg_cmp v1 (0 : Int64)))
 (k2 (0 : Int32) σ bc bs)
 (k2 (1 : Int32) σ bc bs)))
def W_X7_accepts (G : KG) (bc bs : Nat) (σ : KHp) (x0 : Nat) (x1 : Option Nat) (Q : Int32 → KHp → Prop) (X : String → Nat → KHp → Prop) : Prop :=
  wGO σ x0 [5] 7 (fun v1 =>
 wU v1 (fun a2 =>
 (wR σ a2 20 ∧
 W_J9_equals G σ a2 (x1) (fun v3 σ4 =>
 wIf (v3 = 0)
 ((narrow .boolean (.int v3) = .int v3 ∧ Q (v3) σ4))
 ((wR σ4 x0 5 ∧
 wC bc bs (fun c7 c8 =>
 W_X7_next G c7 c8 σ4 x0  (fun σ6 =>
 (narrow .boolean (.int v3) = .int v3 ∧ Q (v3) σ6)) X)))) X)))
def W_X7_parseTest (G : KG) (bc bs : Nat) (σ : KHp) (x0 : Nat) (Q : Option Nat → KHp → Prop) (X : String → Nat → KHp → Prop) : Prop :=
  wGO σ x0 [5] 7 (fun v1 =>
 W_X1_featureOf G σ  (v1) (fun v2 σ3 =>
 (wR σ3 x0 5 ∧
 wC bc bs (fun c6 c7 =>
 W_X7_next G c6 c7 σ3 x0  (fun σ5 =>
 (wR σ5 x0 5 ∧
 W_X7_isSymbol G σ5 x0 ((60 : Int32)) (fun v8 σ9 =>
 jn (κ := Int32 → KHp → Nat → Nat → Prop) (fun v13 σ14 bcv13 bsv13 =>
 (wR σ14 x0 5 ∧
 wC bcv13 bsv13 (fun c17 c18 =>
 W_X7_require G c17 c18 σ14 x0 (v13) ((1 : Int32)) (fun σ16 =>
 (wR σ16 x0 5 ∧
 wC (bcv13 - c17) (bsv13 - c18) (fun c21 c22 =>
 W_X7_next G c21 c22 σ16 x0  (fun σ20 =>
 wN (bcv13 - c17 - c21) (bsv13 - c18 - c22) σ20 12 [.int 0, .int 0, .int 0] (fun q23 σ24 =>
 (wR σ24 x0 5 ∧
 wC (bcv13 - c17 - c21 - 1) (bsv13 - c18 - c22 - 3) (fun c27 c28 =>
 W_X7_number_2 G c27 c28 σ24 x0 ((0 : Int32)) ((99999 : Int32)) (fun v25 σ26 =>
 W_X15_init G σ26 q23 (v2) (v8) (v25) (fun σ30 =>
 Q (some q23) σ30) X) X)))) X))) X))) (fun k10 =>
 wIf (v8 = 0)
 ((wR σ9 x0 5 ∧
 W_X7_isSymbol G σ9 x0 ((62 : Int32)) (fun v11 σ12 =>
 wIf (v11 = 0)
 (k10 (0 : Int32) σ12 (bc - c6) (bs - c7))
 (k10 (1 : Int32) σ12 (bc - c6) (bs - c7))) X))
 (k10 (1 : Int32) σ9 (bc - c6) (bs - c7)))) X)) X))) X)
def W_X7_parseSwitch (G : KG) (bc bs : Nat) (σ : KHp) (x0 : Nat) (Q : KHp → Prop) (X : String → Nat → KHp → Prop) : Prop :=
  wGO σ x0 [5] 2 (fun v1 =>
 wU v1 (fun a2 =>
 (wR σ a2 16 ∧
 W_J2_size G σ a2  (fun v3 σ4 =>
 jn (κ := Int32 → KHp → Nat → Nat → Prop) (fun v6 σ7 bcv6 bsv6 =>
 (wR σ7 x0 5 ∧
 wC bcv6 bsv6 (fun c10 c11 =>
 W_X7_require G c10 c11 σ7 x0 (v6) ((4 : Int32)) (fun σ9 =>
 (wR σ9 x0 5 ∧
 wC (bcv6 - c10) (bsv6 - c11) (fun c14 c15 =>
 W_X7_next G c14 c15 σ9 x0  (fun σ13 =>
 (wR σ13 x0 5 ∧
 wC (bcv6 - c10 - c14) (bsv6 - c11 - c15) (fun c18 c19 =>
 W_X7_number_2 G c18 c19 σ13 x0 ((1 : Int32)) ((9999 : Int32)) (fun v16 σ17 =>
 wGO σ17 x0 [5] 7 (fun v20 =>
 wU v20 (fun a21 =>
 (wR σ17 a21 20 ∧
 W_J9_equals G σ17 a21 (some (kx_K G 46)) (fun v22 σ23 =>
 jn (κ := Int32 → KHp → Nat → Nat → Prop) (fun v29 σ30 bcv29 bsv29 =>
 (wR σ30 x0 5 ∧
 wC bcv29 bsv29 (fun c33 c34 =>
 W_X7_require G c33 c34 σ30 x0 (v29) ((1 : Int32)) (fun σ32 =>
 (wR σ32 x0 5 ∧
 wC (bcv29 - c33) (bsv29 - c34) (fun c37 c38 =>
 W_X7_next G c37 c38 σ32 x0  (fun σ36 =>
 (wR σ36 x0 5 ∧
 wC (bcv29 - c33 - c37) (bsv29 - c34 - c38) (fun c41 c42 =>
 W_X7_requireName G c41 c42 σ36 x0  (fun σ40 =>
 wGO σ40 x0 [5] 0 (fun v43 =>
 wGO σ40 x0 [5] 7 (fun v44 =>
 wU v43 (fun a45 =>
 (wR σ40 a45 2 ∧
 W_X3_findLoad G σ40 a45 (v44) (fun v46 σ47 =>
 jn (κ := Int32 → KHp → Nat → Nat → Prop) (fun v49 σ50 bcv49 bsv49 =>
 (wR σ50 x0 5 ∧
 wC bcv49 bsv49 (fun c53 c54 =>
 W_X7_require G c53 c54 σ50 x0 (v49) ((3 : Int32)) (fun σ52 =>
 (wR σ52 x0 5 ∧
 wC (bcv49 - c53) (bsv49 - c54) (fun c57 c58 =>
 W_X7_next G c57 c58 σ52 x0  (fun σ56 =>
 wGO σ56 x0 [5] 2 (fun v59 =>
 wN (bcv49 - c53 - c57) (bsv49 - c54 - c58) σ56 14 [.int 0, .int 0, .int 0] (fun q60 σ61 =>
 W_X17_init G σ61 q60 (v16) (v46) (v22) (fun σ63 =>
 wU v59 (fun a64 =>
 (wR σ63 a64 16 ∧
 wC (bcv49 - c53 - c57 - 1) (bsv49 - c54 - c58 - 3) (fun c67 c68 =>
 W_J2_add G c67 c68 σ63 a64 (some q60) (fun v65 σ66 =>
 Q σ66) X)))) X))) X))) X))) (fun k48 =>
 wIf (v46 = (-1 : Int32))
 (k48 (0 : Int32) σ47 (bcv29 - c33 - c37 - c41) (bsv29 - c34 - c38 - c42))
 (k48 (1 : Int32) σ47 (bcv29 - c33 - c37 - c41) (bsv29 - c34 - c38 - c42)))) X))))) X))) X))) X))) (fun k24 =>
 wIf (v22 = 0)
 (wGO σ23 x0 [5] 7 (fun v25 =>
 wU v25 (fun a26 =>
 (wR σ23 a26 20 ∧
 W_J9_equals G σ23 a26 (some (kx_K G 47)) (fun v27 σ28 =>
 wIf (v27 = 0)
 (k24 (0 : Int32) σ28 (bcv6 - c10 - c14 - c18) (bsv6 - c11 - c15 - c19))
 (k24 (1 : Int32) σ28 (bcv6 - c10 - c14 - c18) (bsv6 - c11 - c15 - c19))) X))))
 (k24 (1 : Int32) σ23 (bcv6 - c10 - c14 - c18) (bsv6 - c11 - c15 - c19)))) X)))) X))) X))) X))) (fun k5 =>
 wIf ((20 : Int32) ≤ v3)
 (k5 (0 : Int32) σ4 bc bs)
 (k5 (1 : Int32) σ4 bc bs))) X)))
def W_X1_find (G : KG) (bc bs : Nat) (σ : KHp) (x0 : Nat) (Q : Int32 → KHp → Prop) (X : String → Nat → KHp → Prop) : Prop :=
  (wR σ x0 0 ∧
 wC bc bs (fun c3 c4 =>
 W_X1_text G c3 c4 σ x0  (fun v1 σ2 =>
 wP σ2 x0 [0] 3 (.int ((0 : Int32))) (fun σ5 =>
 wGO σ5 x0 [0] 0 (fun v6 =>
 wU v6 (fun a7 =>
 (wR σ5 a7 1 ∧
 W_X2_find G σ5 a7 (v1) (fun v8 σ9 =>
 Q (v8) σ9) X))))) X))
def WB_X1_losePower_7 (G : KG) (Q : Int32 → KHp → Prop) (X : String → Nat → KHp → Prop)  (y0 : Nat) (kI7 : KHp → Nat → Nat → Int32 → Prop) (σ : KHp) (bc7 bs7 : Nat) (l1 : Int32) : Prop :=
  wGO σ y0 [0] 0 (fun v8001 =>
 wU v8001 (fun a8002 =>
 wGO σ a8002 [1] 1 (fun v8003 =>
 wU v8003 (fun a8004 =>
 (wR σ a8004 16 ∧
 W_J2_size G σ a8004  (fun v8005 σ8006 =>
 wIf (v8005 ≤ l1)
 ((wR σ8006 y0 0 ∧
 W_X1_memoryCount G σ8006 y0  (fun v8007 σ8008 =>
 Q (v8007) σ8008) X))
 (wGO σ8006 y0 [0] 0 (fun v8009 =>
 wU v8009 (fun a8010 =>
 wGO σ8006 a8010 [1] 1 (fun v8011 =>
 wU v8011 (fun a8012 =>
 (wR σ8006 a8012 16 ∧
 W_J2_get G σ8006 a8012 (l1) (fun v8013 σ8014 =>
 wU v8013 (fun a8015 =>
 (wR σ8014 a8015 3 ∧
 (wR σ8014 a8015 3 ∧
 W_X5_forgetWindow G σ8014 a8015  (fun σ8017 =>
 kI7 σ8017 bc7 bs7 (l1 + (1 : Int32))) X)))) X))))))) X)))))
def W_X1_losePower (G : KG) (bc bs : Nat) (σ : KHp) (x0 : Nat) (Q : Int32 → KHp → Prop) (X : String → Nat → KHp → Prop) : Prop :=
  (wR σ x0 0 ∧
 wC bc bs (fun c3 c4 =>
 W_X1_remember G c3 c4 σ x0  (fun v1 σ2 =>
 loopW3 (WB_X1_losePower_7 G Q X  x0) 9000 σ2 (bc - c3) (bs - c4) (0 : Int32)) X))
def W_X7_init (G : KG) (bc bs : Nat) (σ : KHp) (x0 : Nat) (x1 : Option Nat) (Q : KHp → Prop) (X : String → Nat → KHp → Prop) : Prop :=
  wP σ x0 [5] 9 (va_rf (x1)) (fun σ1 =>
 wN bc bs σ1 2 [.int 0, .int 0, .int 0, .null, .null, .null, .null, .null] (fun q2 σ3 =>
 wC (bc - 1) (bs - 8) (fun c6 c7 =>
 W_X3_init G c6 c7 σ3 q2  (fun σ5 =>
 wP σ5 x0 [5] 0 (.ref (q2)) (fun σ8 =>
 wN (bc - 1 - c6) (bs - 8 - c7) σ8 16 [.int 0, .null, .int 0] (fun q9 σ10 =>
 wC (bc - 1 - c6 - 1) (bs - 8 - c7 - 3) (fun c13 c14 =>
 W_J2_init G c13 c14 σ10 q9 ((2 : Int32)) (fun σ12 =>
 wP σ12 x0 [5] 1 (.ref (q9)) (fun σ15 =>
 wN (bc - 1 - c6 - 1 - c13) (bs - 8 - c7 - 3 - c14) σ15 16 [.int 0, .null, .int 0] (fun q16 σ17 =>
 wC (bc - 1 - c6 - 1 - c13 - 1) (bs - 8 - c7 - 3 - c14 - 3) (fun c20 c21 =>
 W_J2_init G c20 c21 σ17 q16 ((2 : Int32)) (fun σ19 =>
 wP σ19 x0 [5] 2 (.ref (q16)) (fun σ22 =>
 wP σ22 x0 [5] 6 (.long ((-1 : Int64))) (fun σ23 =>
 wP σ23 x0 [5] 7 (.ref ((kx_K G 22))) (fun σ24 =>
 (wR σ24 x0 5 ∧
 wC (bc - 1 - c6 - 1 - c13 - 1 - c20) (bs - 8 - c7 - 3 - c14 - 3 - c21) (fun c27 c28 =>
 W_X7_next G c27 c28 σ24 x0  (fun σ26 =>
 Q σ26) X)))))) X)))) X)))) X)))
def W_X7_number (G : KG) (bc bs : Nat) (σ : KHp) (x0 : Nat) (x1 : Option Nat) (x2 : Int32) (x3 : Int32) (Q : Int32 → KHp → Prop) (X : String → Nat → KHp → Prop) : Prop :=
  (wR σ x0 5 ∧
 wC bc bs (fun c3 c4 =>
 W_X7_accept G c3 c4 σ x0 (x1) (fun σ2 =>
 (wR σ2 x0 5 ∧
 wC (bc - c3) (bs - c4) (fun c7 c8 =>
 W_X7_number_2 G c7 c8 σ2 x0 (x2) (x3) (fun v5 σ6 =>
 Q (v5) σ6) X))) X))
def W_X7_parseBranch (G : KG) (bc bs : Nat) (σ : KHp) (x0 : Nat) (Q : KHp → Prop) (X : String → Nat → KHp → Prop) : Prop :=
  wGO σ x0 [5] 0 (fun v1 =>
 wU v1 (fun a2 =>
 wGO σ a2 [2] 4 (fun v3 =>
 wU v3 (fun a4 =>
 (wR σ a4 16 ∧
 W_J2_size G σ a4  (fun v5 σ6 =>
 jn (κ := Int32 → KHp → Nat → Nat → Prop) (fun v8 σ9 bcv8 bsv8 =>
 (wR σ9 x0 5 ∧
 wC bcv8 bsv8 (fun c12 c13 =>
 W_X7_require G c12 c13 σ9 x0 (v8) ((4 : Int32)) (fun σ11 =>
 (wR σ11 x0 5 ∧
 wC (bcv8 - c12) (bsv8 - c13) (fun c16 c17 =>
 W_X7_next G c16 c17 σ11 x0  (fun σ15 =>
 (wR σ15 x0 5 ∧
 wC (bcv8 - c12 - c16) (bsv8 - c13 - c17) (fun c20 c21 =>
 W_X7_newName G c20 c21 σ15 x0  (fun v18 σ19 =>
 wGO σ19 x0 [5] 0 (fun v22 =>
 wU v22 (fun a23 =>
 wGO σ19 a23 [2] 5 (fun v24 =>
 wGO σ19 x0 [5] 0 (fun v25 =>
 wU v25 (fun a26 =>
 wGO σ19 a26 [2] 4 (fun v27 =>
 wU v27 (fun a28 =>
 (wR σ19 a28 16 ∧
 W_J2_size G σ19 a28  (fun v29 σ30 =>
 (wR σ30 x0 5 ∧
 wC (bcv8 - c12 - c16 - c20) (bsv8 - c13 - c17 - c21) (fun c33 c34 =>
 W_X7_number G c33 c34 σ30 x0 (some (kx_K G 37)) ((1 : Int32)) ((100 : Int32)) (fun v31 σ32 =>
 wU v24 (fun a35 =>
 wSI σ32 a35 v29 (v31) (fun σ36 =>
 wGO σ36 x0 [5] 0 (fun v37 =>
 wU v37 (fun a38 =>
 wGO σ36 a38 [2] 4 (fun v39 =>
 wU v39 (fun a40 =>
 (wR σ36 a40 16 ∧
 wC (bcv8 - c12 - c16 - c20 - c33) (bsv8 - c13 - c17 - c21 - c34) (fun c43 c44 =>
 W_J2_add G c43 c44 σ36 a40 (v18) (fun v41 σ42 =>
 Q σ42) X))))))))) X))) X))))))))) X))) X))) X))) (fun k7 =>
 wIf ((4 : Int32) ≤ v5)
 (k7 (0 : Int32) σ6 bc bs)
 (k7 (1 : Int32) σ6 bc bs))) X)))))
def W_X7_parseLoad (G : KG) (bc bs : Nat) (σ : KHp) (x0 : Nat) (x1 : Option Nat) (Q : KHp → Prop) (X : String → Nat → KHp → Prop) : Prop :=
  wGO σ x0 [5] 0 (fun v1 =>
 wU v1 (fun a2 =>
 wGO σ a2 [2] 6 (fun v3 =>
 wU v3 (fun a4 =>
 (wR σ a4 16 ∧
 W_J2_size G σ a4  (fun v5 σ6 =>
 jn (κ := Int32 → KHp → Nat → Nat → Prop) (fun v8 σ9 bcv8 bsv8 =>
 (wR σ9 x0 5 ∧
 wC bcv8 bsv8 (fun c12 c13 =>
 W_X7_require G c12 c13 σ9 x0 (v8) ((4 : Int32)) (fun σ11 =>
 (wR σ11 x0 5 ∧
 wC (bcv8 - c12) (bsv8 - c13) (fun c16 c17 =>
 W_X7_next G c16 c17 σ11 x0  (fun σ15 =>
 (wR σ15 x0 5 ∧
 wC (bcv8 - c12 - c16) (bsv8 - c13 - c17) (fun c20 c21 =>
 W_X7_newName G c20 c21 σ15 x0  (fun v18 σ19 =>
 (wR σ19 x0 5 ∧
 wC (bcv8 - c12 - c16 - c20) (bsv8 - c13 - c17 - c21) (fun c24 c25 =>
 W_X7_parseOf G c24 c25 σ19 x0  (fun v22 σ23 =>
 (wR σ23 x0 5 ∧
 wC (bcv8 - c12 - c16 - c20 - c24) (bsv8 - c13 - c17 - c21 - c25) (fun c28 c29 =>
 W_X7_number G c28 c29 σ23 x0 (some (kx_K G 39)) ((1 : Int32)) ((500 : Int32)) (fun v26 σ27 =>
 wGO σ27 x0 [5] 0 (fun v30 =>
 wU v30 (fun a31 =>
 wGI σ27 a31 [2] 0 (fun v32 =>
 wU x1 (fun a33 =>
 (wR σ27 a33 20 ∧
 W_J9_hashCode G σ27 a33  (fun v34 σ35 =>
 jn (κ := Int32 → KHp → Nat → Nat → Prop) (fun v43 σ44 bcv43 bsv43 =>
 wIf (v43 = (0 : Int32))
 (wGO σ44 x0 [5] 0 (fun v45 =>
 wU v45 (fun a46 =>
 wGO σ44 a46 [2] 6 (fun v47 =>
 wN bcv43 bsv43 σ44 7 [.null, .int 0, .int 0] (fun q48 σ49 =>
 W_X10_init G σ49 q48 (v18) (v22) (v26) (fun σ51 =>
 wU v47 (fun a52 =>
 (wR σ51 a52 16 ∧
 wC (bcv43 - 1) (bsv43 - 3) (fun c55 c56 =>
 W_J2_add G c55 c56 σ51 a52 (some q48) (fun v53 σ54 =>
 Q σ54) X)))) X)))))
 (wIf (v43 = (1 : Int32))
 (wGO σ44 x0 [5] 0 (fun v57 =>
 wU v57 (fun a58 =>
 wGO σ44 a58 [2] 6 (fun v59 =>
 wN bcv43 bsv43 σ44 8 [.null, .int 0, .int 0, .int 0] (fun q60 σ61 =>
 (wR σ61 x0 5 ∧
 wC (bcv43 - 1) (bsv43 - 4) (fun c64 c65 =>
 W_X7_number G c64 c65 σ61 x0 (some (kx_K G 40)) ((0 : Int32)) ((v32 - (1 : Int32))) (fun v62 σ63 =>
 W_X11_init G σ63 q60 (v18) (v22) (v26) (v62) (fun σ67 =>
 wU v59 (fun a68 =>
 (wR σ67 a68 16 ∧
 wC (bcv43 - 1 - c64) (bsv43 - 4 - c65) (fun c71 c72 =>
 W_J2_add G c71 c72 σ67 a68 (some q60) (fun v69 σ70 =>
 Q σ70) X)))) X) X)))))))
 (wIf (v43 = (2 : Int32))
 (wGO σ44 x0 [5] 0 (fun v73 =>
 wU v73 (fun a74 =>
 wGO σ44 a74 [2] 6 (fun v75 =>
 wN bcv43 bsv43 σ44 9 [.null, .int 0, .int 0, .int 0] (fun q76 σ77 =>
 (wR σ77 x0 5 ∧
 wC (bcv43 - 1) (bsv43 - 4) (fun c80 c81 =>
 W_X7_number G c80 c81 σ77 x0 (some (kx_K G 41)) ((0 : Int32)) ((v32 - (1 : Int32))) (fun v78 σ79 =>
 W_X12_init G σ79 q76 (v18) (v22) (v26) (v78) (fun σ83 =>
 wU v75 (fun a84 =>
 (wR σ83 a84 16 ∧
 wC (bcv43 - 1 - c80) (bsv43 - 4 - c81) (fun c87 c88 =>
 W_J2_add G c87 c88 σ83 a84 (some q76) (fun v85 σ86 =>
 Q σ86) X)))) X) X)))))))
 ((wR σ44 x0 5 ∧
 wC bcv43 bsv43 (fun c91 c92 =>
 W_X7_number G c91 c92 σ44 x0 (some (kx_K G 42)) ((0 : Int32)) ((v32 - (1 : Int32))) (fun v89 σ90 =>
 wGO σ90 x0 [5] 0 (fun v93 =>
 wU v93 (fun a94 =>
 wGO σ90 a94 [2] 6 (fun v95 =>
 wN (bcv43 - c91) (bsv43 - c92) σ90 10 [.null, .int 0, .int 0, .int 0, .int 0] (fun q96 σ97 =>
 (wR σ97 x0 5 ∧
 wC (bcv43 - c91 - 1) (bsv43 - c92 - 5) (fun c100 c101 =>
 W_X7_number G c100 c101 σ97 x0 (some (kx_K G 43)) ((0 : Int32)) ((100 : Int32)) (fun v98 σ99 =>
 W_X13_init G σ99 q96 (v18) (v22) (v26) (v89) (v98) (fun σ103 =>
 wU v95 (fun a104 =>
 (wR σ103 a104 16 ∧
 wC (bcv43 - c91 - 1 - c100) (bsv43 - c92 - 5 - c101) (fun c107 c108 =>
 W_J2_add G c107 c108 σ103 a104 (some q96) (fun v105 σ106 =>
 Q σ106) X)))) X) X))))))) X)))))) (fun k36 =>
 wIf (v34 = (-1331727278 : Int32))
 ((wR σ35 a33 20 ∧
 W_J9_equals G σ35 a33 (some (kx_K G 31)) (fun v37 σ38 =>
 wIf (v37 = 0)
 (k36 (-1 : Int32) σ38 (bcv8 - c12 - c16 - c20 - c24 - c28) (bsv8 - c13 - c17 - c21 - c25 - c29))
 (k36 (2 : Int32) σ38 (bcv8 - c12 - c16 - c20 - c24 - c28) (bsv8 - c13 - c17 - c21 - c25 - c29))) X))
 (wIf (v34 = (-1221255523 : Int32))
 ((wR σ35 a33 20 ∧
 W_J9_equals G σ35 a33 (some (kx_K G 29)) (fun v39 σ40 =>
 wIf (v39 = 0)
 (k36 (-1 : Int32) σ40 (bcv8 - c12 - c16 - c20 - c24 - c28) (bsv8 - c13 - c17 - c21 - c25 - c29))
 (k36 (0 : Int32) σ40 (bcv8 - c12 - c16 - c20 - c24 - c28) (bsv8 - c13 - c17 - c21 - c25 - c29))) X))
 (wIf (v34 = (104085621 : Int32))
 ((wR σ35 a33 20 ∧
 W_J9_equals G σ35 a33 (some (kx_K G 30)) (fun v41 σ42 =>
 wIf (v41 = 0)
 (k36 (-1 : Int32) σ42 (bcv8 - c12 - c16 - c20 - c24 - c28) (bsv8 - c13 - c17 - c21 - c25 - c29))
 (k36 (1 : Int32) σ42 (bcv8 - c12 - c16 - c20 - c24 - c28) (bsv8 - c13 - c17 - c21 - c25 - c29))) X))
 (k36 (-1 : Int32) σ35 (bcv8 - c12 - c16 - c20 - c24 - c28) (bsv8 - c13 - c17 - c21 - c25 - c29)))))) X)))))) X))) X))) X))) X))) X))) (fun k7 =>
 wIf ((12 : Int32) ≤ v5)
 (k7 (0 : Int32) σ6 bc bs)
 (k7 (1 : Int32) σ6 bc bs))) X)))))
def WB_X7_parseTests_0 (G : KG) (Q : KHp → Prop) (X : String → Nat → KHp → Prop)  (y0 : Nat)  (y1 : Option Nat) (kI0 : KHp → Nat → Nat → Prop) (σ : KHp) (bc0 bs0 : Nat)  : Prop :=
  wGO σ y0 [5] 7 (fun v1001 =>
 W_X1_featureOf G σ  (v1001) (fun v1002 σ1003 =>
 jn (κ := Int32 → KHp → Nat → Nat → Prop) (fun v1005 σ1006 bcv1005 bsv1005 =>
 (wR σ1006 y0 5 ∧
 wC bcv1005 bsv1005 (fun c1009 c1010 =>
 W_X7_require G c1009 c1010 σ1006 y0 (v1005) ((1 : Int32)) (fun σ1008 =>
 wU y1 (fun a1011 =>
 wGO σ1008 a1011 [11] 2 (fun v1012 =>
 wU v1012 (fun a1013 =>
 (wR σ1008 a1013 16 ∧
 W_J2_size G σ1008 a1013  (fun v1014 σ1015 =>
 jn (κ := Int32 → KHp → Nat → Nat → Prop) (fun v1017 σ1018 bcv1017 bsv1017 =>
 (wR σ1018 y0 5 ∧
 wC bcv1017 bsv1017 (fun c1021 c1022 =>
 W_X7_require G c1021 c1022 σ1018 y0 (v1017) ((4 : Int32)) (fun σ1020 =>
 wGO σ1020 a1011 [11] 2 (fun v1023 =>
 (wR σ1020 y0 5 ∧
 wC (bcv1017 - c1021) (bsv1017 - c1022) (fun c1026 c1027 =>
 W_X7_parseTest G c1026 c1027 σ1020 y0  (fun v1024 σ1025 =>
 wU v1023 (fun a1028 =>
 (wR σ1025 a1028 16 ∧
 wC (bcv1017 - c1021 - c1026) (bsv1017 - c1022 - c1027) (fun c1031 c1032 =>
 W_J2_add G c1031 c1032 σ1025 a1028 (v1024) (fun v1029 σ1030 =>
 (wR σ1030 y0 5 ∧
 wC (bcv1017 - c1021 - c1026 - c1031) (bsv1017 - c1022 - c1027 - c1032) (fun c1035 c1036 =>
 W_X7_accepts G c1035 c1036 σ1030 y0 (some (kx_K G 45)) (fun v1033 σ1034 =>
 wIf (v1033 = 0)
 (Q σ1034)
 (kI0 σ1034 (bcv1017 - c1021 - c1026 - c1031 - c1035) (bsv1017 - c1022 - c1027 - c1032 - c1036))) X))) X)))) X)))) X))) (fun k1016 =>
 wIf ((6 : Int32) ≤ v1014)
 (k1016 (0 : Int32) σ1015 (bcv1005 - c1009) (bsv1005 - c1010))
 (k1016 (1 : Int32) σ1015 (bcv1005 - c1009) (bsv1005 - c1010)))) X))))) X))) (fun k1004 =>
 wIf (v1002 = (-1 : Int32))
 (k1004 (0 : Int32) σ1003 bc0 bs0)
 (k1004 (1 : Int32) σ1003 bc0 bs0))) X)
def W_X7_parseTests (G : KG) (bc bs : Nat) (σ : KHp) (x0 : Nat) (x1 : Option Nat) (Q : KHp → Prop) (X : String → Nat → KHp → Prop) : Prop :=
  loopW2 (WB_X7_parseTests_0 G Q X  x0 x1) 9000 σ bc bs
def W_X7_parseNuisance (G : KG) (bc bs : Nat) (σ : KHp) (x0 : Nat) (Q : KHp → Prop) (X : String → Nat → KHp → Prop) : Prop :=
  wGO σ x0 [5] 1 (fun v1 =>
 wU v1 (fun a2 =>
 (wR σ a2 16 ∧
 W_J2_size G σ a2  (fun v3 σ4 =>
 jn (κ := Int32 → KHp → Nat → Nat → Prop) (fun v6 σ7 bcv6 bsv6 =>
 (wR σ7 x0 5 ∧
 wC bcv6 bsv6 (fun c10 c11 =>
 W_X7_require G c10 c11 σ7 x0 (v6) ((4 : Int32)) (fun σ9 =>
 (wR σ9 x0 5 ∧
 wC (bcv6 - c10) (bsv6 - c11) (fun c14 c15 =>
 W_X7_next G c14 c15 σ9 x0  (fun σ13 =>
 wN (bcv6 - c10 - c14) (bsv6 - c11 - c15) σ13 11 [.null, .int 0, .null] (fun q16 σ17 =>
 (wR σ17 x0 5 ∧
 wC (bcv6 - c10 - c14 - 1) (bsv6 - c11 - c15 - 3) (fun c20 c21 =>
 W_X7_newName G c20 c21 σ17 x0  (fun v18 σ19 =>
 wC (bcv6 - c10 - c14 - 1 - c20) (bsv6 - c11 - c15 - 3 - c21) (fun c24 c25 =>
 W_X14_init G c24 c25 σ19 q16 (v18) ((0 : Int32)) (fun σ23 =>
 (wR σ23 x0 5 ∧
 wC (bcv6 - c10 - c14 - 1 - c20 - c24) (bsv6 - c11 - c15 - 3 - c21 - c25) (fun c28 c29 =>
 W_X7_parseTests G c28 c29 σ23 x0 (some q16) (fun σ27 =>
 wGO σ27 x0 [5] 1 (fun v30 =>
 wN (bcv6 - c10 - c14 - 1 - c20 - c24 - c28) (bsv6 - c11 - c15 - 3 - c21 - c25 - c29) σ27 13 [.null, .int 0] (fun q31 σ32 =>
 W_X16_init G σ32 q31 (some q16) ((0 : Int32)) (fun σ34 =>
 wU v30 (fun a35 =>
 (wR σ34 a35 16 ∧
 wC (bcv6 - c10 - c14 - 1 - c20 - c24 - c28 - 1) (bsv6 - c11 - c15 - 3 - c21 - c25 - c29 - 2) (fun c38 c39 =>
 W_J2_add G c38 c39 σ34 a35 (some q31) (fun v36 σ37 =>
 Q σ37) X)))) X))) X))) X)) X)))) X))) X))) (fun k5 =>
 wIf ((8 : Int32) ≤ v3)
 (k5 (0 : Int32) σ4 bc bs)
 (k5 (1 : Int32) σ4 bc bs))) X)))
def W_X7_parseRecorder (G : KG) (bc bs : Nat) (σ : KHp) (x0 : Nat) (Q : KHp → Prop) (X : String → Nat → KHp → Prop) : Prop :=
  (wR σ x0 5 ∧
 wC bc bs (fun c3 c4 =>
 W_X7_accept G c3 c4 σ x0 (some (kx_K G 23)) (fun σ2 =>
 (wR σ2 x0 5 ∧
 wC (bc - c3) (bs - c4) (fun c7 c8 =>
 W_X7_accept G c7 c8 σ2 x0 (some (kx_K G 24)) (fun σ6 =>
 wGO σ6 x0 [5] 8 (fun v9 =>
 wIf ((v9) = (some (kx_K G 9)))
 ((wR σ6 x0 5 ∧
 wC (bc - c3 - c7) (bs - c4 - c8) (fun c51 c52 =>
 W_X7_require G c51 c52 σ6 x0 ((1 : Int32)) ((1 : Int32)) (fun σ50 =>
 wGI σ50 x0 [5] 5 (fun v53 =>
 jn (κ := Int32 → KHp → Nat → Nat → Prop) (fun v57 σ58 bcv57 bsv57 =>
 (wR σ58 x0 5 ∧
 wC bcv57 bsv57 (fun c61 c62 =>
 W_X7_require G c61 c62 σ58 x0 (v57) ((2 : Int32)) (fun σ60 =>
 wGO σ60 x0 [5] 0 (fun v63 =>
 wGI σ60 x0 [5] 5 (fun v64 =>
 wU v63 (fun a65 =>
 wP σ60 a65 [2] 0 (.int (v64)) (fun σ66 =>
 (wR σ66 x0 5 ∧
 wC (bcv57 - c61) (bsv57 - c62) (fun c69 c70 =>
 W_X7_next G c69 c70 σ66 x0  (fun σ68 =>
 wGO σ68 x0 [5] 0 (fun v71 =>
 (wR σ68 x0 5 ∧
 wC (bcv57 - c61 - c69) (bsv57 - c62 - c70) (fun c74 c75 =>
 W_X7_number G c74 c75 σ68 x0 (some (kx_K G 25)) ((1 : Int32)) ((64 : Int32)) (fun v72 σ73 =>
 wU v71 (fun a76 =>
 wP σ73 a76 [2] 1 (.int (v72)) (fun σ77 =>
 wGO σ77 x0 [5] 0 (fun v78 =>
 wGO σ77 x0 [5] 0 (fun v79 =>
 wU v79 (fun a80 =>
 wGI σ77 a80 [2] 1 (fun v81 =>
 (wR σ77 x0 5 ∧
 wC (bcv57 - c61 - c69 - c74) (bsv57 - c62 - c70 - c75) (fun c84 c85 =>
 W_X7_number G c84 c85 σ77 x0 (some (kx_K G 26)) ((1 : Int32)) (v81) (fun v82 σ83 =>
 wU v78 (fun a86 =>
 wP σ83 a86 [2] 2 (.int (v82)) (fun σ87 =>
 Q σ87))) X))))))))) X)))) X))))))) X))) (fun k54 =>
 wIf (v53 = (8 : Int32))
 (k54 (1 : Int32) σ50 (bc - c3 - c7 - c51) (bs - c4 - c8 - c52))
 (wGI σ50 x0 [5] 5 (fun v55 =>
 wIf (v55 = (16 : Int32))
 (k54 (1 : Int32) σ50 (bc - c3 - c7 - c51) (bs - c4 - c8 - c52))
 (wGI σ50 x0 [5] 5 (fun v56 =>
 wIf (v56 = (32 : Int32))
 (k54 (1 : Int32) σ50 (bc - c3 - c7 - c51) (bs - c4 - c8 - c52))
 (k54 (0 : Int32) σ50 (bc - c3 - c7 - c51) (bs - c4 - c8 - c52))))))))) X)))
 ((wR σ6 x0 5 ∧
 wC (bc - c3 - c7) (bs - c4 - c8) (fun c12 c13 =>
 W_X7_require G c12 c13 σ6 x0 ((0 : Int32)) ((1 : Int32)) (fun σ11 =>
 wGI σ11 x0 [5] 5 (fun v14 =>
 jn (κ := Int32 → KHp → Nat → Nat → Prop) (fun v18 σ19 bcv18 bsv18 =>
 (wR σ19 x0 5 ∧
 wC bcv18 bsv18 (fun c22 c23 =>
 W_X7_require G c22 c23 σ19 x0 (v18) ((2 : Int32)) (fun σ21 =>
 wGO σ21 x0 [5] 0 (fun v24 =>
 wGI σ21 x0 [5] 5 (fun v25 =>
 wU v24 (fun a26 =>
 wP σ21 a26 [2] 0 (.int (v25)) (fun σ27 =>
 (wR σ27 x0 5 ∧
 wC (bcv18 - c22) (bsv18 - c23) (fun c30 c31 =>
 W_X7_next G c30 c31 σ27 x0  (fun σ29 =>
 wGO σ29 x0 [5] 0 (fun v32 =>
 (wR σ29 x0 5 ∧
 wC (bcv18 - c22 - c30) (bsv18 - c23 - c31) (fun c35 c36 =>
 W_X7_number G c35 c36 σ29 x0 (some (kx_K G 25)) ((1 : Int32)) ((64 : Int32)) (fun v33 σ34 =>
 wU v32 (fun a37 =>
 wP σ34 a37 [2] 1 (.int (v33)) (fun σ38 =>
 wGO σ38 x0 [5] 0 (fun v39 =>
 wGO σ38 x0 [5] 0 (fun v40 =>
 wU v40 (fun a41 =>
 wGI σ38 a41 [2] 1 (fun v42 =>
 (wR σ38 x0 5 ∧
 wC (bcv18 - c22 - c30 - c35) (bsv18 - c23 - c31 - c36) (fun c45 c46 =>
 W_X7_number G c45 c46 σ38 x0 (some (kx_K G 26)) ((1 : Int32)) (v42) (fun v43 σ44 =>
 wU v39 (fun a47 =>
 wP σ44 a47 [2] 2 (.int (v43)) (fun σ48 =>
 Q σ48))) X))))))))) X)))) X))))))) X))) (fun k15 =>
 wIf (v14 = (8 : Int32))
 (k15 (1 : Int32) σ11 (bc - c3 - c7 - c12) (bs - c4 - c8 - c13))
 (wGI σ11 x0 [5] 5 (fun v16 =>
 wIf (v16 = (16 : Int32))
 (k15 (1 : Int32) σ11 (bc - c3 - c7 - c12) (bs - c4 - c8 - c13))
 (wGI σ11 x0 [5] 5 (fun v17 =>
 wIf (v17 = (32 : Int32))
 (k15 (1 : Int32) σ11 (bc - c3 - c7 - c12) (bs - c4 - c8 - c13))
 (k15 (0 : Int32) σ11 (bc - c3 - c7 - c12) (bs - c4 - c8 - c13))))))))) X))))) X))) X))
def W_X7_parseSignature (G : KG) (bc bs : Nat) (σ : KHp) (x0 : Nat) (Q : KHp → Prop) (X : String → Nat → KHp → Prop) : Prop :=
  wGO σ x0 [5] 0 (fun v1 =>
 wU v1 (fun a2 =>
 wGO σ a2 [2] 7 (fun v3 =>
 wU v3 (fun a4 =>
 (wR σ a4 16 ∧
 W_J2_size G σ a4  (fun v5 σ6 =>
 jn (κ := Int32 → KHp → Nat → Nat → Prop) (fun v8 σ9 bcv8 bsv8 =>
 (wR σ9 x0 5 ∧
 wC bcv8 bsv8 (fun c12 c13 =>
 W_X7_require G c12 c13 σ9 x0 (v8) ((4 : Int32)) (fun σ11 =>
 (wR σ11 x0 5 ∧
 wC (bcv8 - c12) (bsv8 - c13) (fun c16 c17 =>
 W_X7_next G c16 c17 σ11 x0  (fun σ15 =>
 (wR σ15 x0 5 ∧
 wC (bcv8 - c12 - c16) (bsv8 - c13 - c17) (fun c20 c21 =>
 W_X7_newName G c20 c21 σ15 x0  (fun v18 σ19 =>
 wN (bcv8 - c12 - c16 - c20) (bsv8 - c13 - c17 - c21) σ19 11 [.null, .int 0, .null] (fun q22 σ23 =>
 (wR σ23 x0 5 ∧
 wC (bcv8 - c12 - c16 - c20 - 1) (bsv8 - c13 - c17 - c21 - 3) (fun c26 c27 =>
 W_X7_accepts G c26 c27 σ23 x0 (some (kx_K G 44)) (fun v24 σ25 =>
 wC (bcv8 - c12 - c16 - c20 - 1 - c26) (bsv8 - c13 - c17 - c21 - 3 - c27) (fun c30 c31 =>
 W_X14_init G c30 c31 σ25 q22 (v18) (v24) (fun σ29 =>
 (wR σ29 x0 5 ∧
 wC (bcv8 - c12 - c16 - c20 - 1 - c26 - c30) (bsv8 - c13 - c17 - c21 - 3 - c27 - c31) (fun c34 c35 =>
 W_X7_parseTests G c34 c35 σ29 x0 (some q22) (fun σ33 =>
 wGO σ33 x0 [5] 0 (fun v36 =>
 wU v36 (fun a37 =>
 wGO σ33 a37 [2] 7 (fun v38 =>
 wU v38 (fun a39 =>
 (wR σ33 a39 16 ∧
 wC (bcv8 - c12 - c16 - c20 - 1 - c26 - c30 - c34) (bsv8 - c13 - c17 - c21 - 3 - c27 - c31 - c35) (fun c42 c43 =>
 W_J2_add G c42 c43 σ33 a39 (some q22) (fun v40 σ41 =>
 Q σ41) X))))))) X))) X)) X)))) X))) X))) X))) (fun k7 =>
 wIf ((6 : Int32) ≤ v5)
 (k7 (0 : Int32) σ6 bc bs)
 (k7 (1 : Int32) σ6 bc bs))) X)))))
def W_X7_parseStatement (G : KG) (bc bs : Nat) (σ : KHp) (x0 : Nat) (Q : KHp → Prop) (X : String → Nat → KHp → Prop) : Prop :=
  wGO σ x0 [5] 7 (fun v1 =>
 wU v1 (fun a2 =>
 (wR σ a2 20 ∧
 W_J9_hashCode G σ a2  (fun v3 σ4 =>
 jn (κ := Int32 → KHp → Nat → Nat → Prop) (fun v24 σ25 bcv24 bsv24 =>
 wIf (v24 = (0 : Int32))
 ((wR σ25 x0 5 ∧
 wC bcv24 bsv24 (fun c28 c29 =>
 W_X7_parseBranch G c28 c29 σ25 x0  (fun σ27 =>
 Q σ27) X)))
 (wIf (v24 = (1 : Int32))
 (wGO σ25 x0 [5] 7 (fun v30 =>
 (wR σ25 x0 5 ∧
 wC bcv24 bsv24 (fun c33 c34 =>
 W_X7_parseLoad G c33 c34 σ25 x0 (v30) (fun σ32 =>
 Q σ32) X))))
 (wIf (v24 = (2 : Int32))
 (wGO σ25 x0 [5] 7 (fun v35 =>
 (wR σ25 x0 5 ∧
 wC bcv24 bsv24 (fun c38 c39 =>
 W_X7_parseLoad G c38 c39 σ25 x0 (v35) (fun σ37 =>
 Q σ37) X))))
 (wIf (v24 = (3 : Int32))
 (wGO σ25 x0 [5] 7 (fun v40 =>
 (wR σ25 x0 5 ∧
 wC bcv24 bsv24 (fun c43 c44 =>
 W_X7_parseLoad G c43 c44 σ25 x0 (v40) (fun σ42 =>
 Q σ42) X))))
 (wIf (v24 = (4 : Int32))
 (wGO σ25 x0 [5] 7 (fun v45 =>
 (wR σ25 x0 5 ∧
 wC bcv24 bsv24 (fun c48 c49 =>
 W_X7_parseLoad G c48 c49 σ25 x0 (v45) (fun σ47 =>
 Q σ47) X))))
 (wIf (v24 = (5 : Int32))
 ((wR σ25 x0 5 ∧
 wC bcv24 bsv24 (fun c52 c53 =>
 W_X7_parseSeed G c52 c53 σ25 x0  (fun σ51 =>
 Q σ51) X)))
 (wIf (v24 = (6 : Int32))
 ((wR σ25 x0 5 ∧
 wC bcv24 bsv24 (fun c56 c57 =>
 W_X7_parseSignature G c56 c57 σ25 x0  (fun σ55 =>
 Q σ55) X)))
 (wIf (v24 = (7 : Int32))
 ((wR σ25 x0 5 ∧
 wC bcv24 bsv24 (fun c60 c61 =>
 W_X7_parseNuisance G c60 c61 σ25 x0  (fun σ59 =>
 Q σ59) X)))
 (wIf (v24 = (8 : Int32))
 ((wR σ25 x0 5 ∧
 wC bcv24 bsv24 (fun c64 c65 =>
 W_X7_parseSwitch G c64 c65 σ25 x0  (fun σ63 =>
 Q σ63) X)))
 (wN bcv24 bsv24 σ25 6 [.null, .null, .null, .null, .null, .int 0, .int 0, .int 0] (fun q66 σ67 =>
 wGI σ67 x0 [5] 4 (fun v68 =>
 W_X8_init G σ67 q66 ((1 : Int32)) (v68) (fun σ70 =>
 (wR σ70 q66 6 ∧ X "ArcRecorder$ParseError" q66 σ70)) X)))))))))))) (fun k5 =>
 wIf (v3 = (-1985378816 : Int32))
 ((wR σ4 a2 20 ∧
 W_J9_equals G σ4 a2 (some (kx_K G 35)) (fun v6 σ7 =>
 wIf (v6 = 0)
 (k5 (-1 : Int32) σ7 bc bs)
 (k5 (7 : Int32) σ7 bc bs)) X))
 (wIf (v3 = (-1381030494 : Int32))
 ((wR σ4 a2 20 ∧
 W_J9_equals G σ4 a2 (some (kx_K G 28)) (fun v8 σ9 =>
 wIf (v8 = 0)
 (k5 (-1 : Int32) σ9 bc bs)
 (k5 (0 : Int32) σ9 bc bs)) X))
 (wIf (v3 = (-1331727278 : Int32))
 ((wR σ4 a2 20 ∧
 W_J9_equals G σ4 a2 (some (kx_K G 31)) (fun v10 σ11 =>
 wIf (v10 = 0)
 (k5 (-1 : Int32) σ11 bc bs)
 (k5 (3 : Int32) σ11 bc bs)) X))
 (wIf (v3 = (-1221255523 : Int32))
 ((wR σ4 a2 20 ∧
 W_J9_equals G σ4 a2 (some (kx_K G 29)) (fun v12 σ13 =>
 wIf (v12 = 0)
 (k5 (-1 : Int32) σ13 bc bs)
 (k5 (1 : Int32) σ13 bc bs)) X))
 (wIf (v3 = (3123 : Int32))
 ((wR σ4 a2 20 ∧
 W_J9_equals G σ4 a2 (some (kx_K G 36)) (fun v14 σ15 =>
 wIf (v14 = 0)
 (k5 (-1 : Int32) σ15 bc bs)
 (k5 (8 : Int32) σ15 bc bs)) X))
 (wIf (v3 = (96850 : Int32))
 ((wR σ4 a2 20 ∧
 W_J9_equals G σ4 a2 (some (kx_K G 32)) (fun v16 σ17 =>
 wIf (v16 = 0)
 (k5 (-1 : Int32) σ17 bc bs)
 (k5 (4 : Int32) σ17 bc bs)) X))
 (wIf (v3 = (3526257 : Int32))
 ((wR σ4 a2 20 ∧
 W_J9_equals G σ4 a2 (some (kx_K G 33)) (fun v18 σ19 =>
 wIf (v18 = 0)
 (k5 (-1 : Int32) σ19 bc bs)
 (k5 (5 : Int32) σ19 bc bs)) X))
 (wIf (v3 = (104085621 : Int32))
 ((wR σ4 a2 20 ∧
 W_J9_equals G σ4 a2 (some (kx_K G 30)) (fun v20 σ21 =>
 wIf (v20 = 0)
 (k5 (-1 : Int32) σ21 bc bs)
 (k5 (2 : Int32) σ21 bc bs)) X))
 (wIf (v3 = (1073584312 : Int32))
 ((wR σ4 a2 20 ∧
 W_J9_equals G σ4 a2 (some (kx_K G 34)) (fun v22 σ23 =>
 wIf (v22 = 0)
 (k5 (-1 : Int32) σ23 bc bs)
 (k5 (6 : Int32) σ23 bc bs)) X))
 (k5 (-1 : Int32) σ4 bc bs))))))))))) X)))
def WB_X7_parse_109 (G : KG) (Q : Option Nat → KHp → Prop) (X : String → Nat → KHp → Prop) (kI8 : KHp → Nat → Nat → Prop) (kI71 : KHp → Nat → Nat → Int32 → Prop) (y0 : Nat)  (y1 : Nat) (kI109 : KHp → Nat → Nat → Int32 → Prop) (σ : KHp) (bc109 bs109 : Nat) (l2 : Int32) : Prop :=
  wGO σ y0 [5] 2 (fun v110001 =>
 wU v110001 (fun a110002 =>
 (wR σ a110002 16 ∧
 W_J2_size G σ a110002  (fun v110003 σ110004 =>
 wIf (v110003 ≤ l2)
 (Q (some y1) σ110004)
 (wGO σ110004 y1 [1] 3 (fun v110005 =>
 wGO σ110004 y0 [5] 2 (fun v110006 =>
 wU v110006 (fun a110007 =>
 (wR σ110004 a110007 16 ∧
 W_J2_get G σ110004 a110007 (l2) (fun v110008 σ110009 =>
 wU v110008 (fun a110010 =>
 (wR σ110009 a110010 14 ∧
 wU v110005 (fun a110011 =>
 (wR σ110009 a110011 21 ∧
 wC bc109 bs109 (fun c110014 c110015 =>
 W_J18_addLast G c110014 c110015 σ110009 a110011 (some a110010) (fun σ110013 =>
 kI109 σ110013 (bc109 - c110014) (bs109 - c110015) (l2 + (1 : Int32))) X)))))) X)))))) X)))
def WB_X7_parse_71 (G : KG) (Q : Option Nat → KHp → Prop) (X : String → Nat → KHp → Prop) (kI8 : KHp → Nat → Nat → Prop) (y0 : Nat)  (y1 : Nat) (kI71 : KHp → Nat → Nat → Int32 → Prop) (σ : KHp) (bc71 bs71 : Nat) (l2 : Int32) : Prop :=
  wGO σ y0 [5] 1 (fun v72001 =>
 wU v72001 (fun a72002 =>
 (wR σ a72002 16 ∧
 W_J2_size G σ a72002  (fun v72003 σ72004 =>
 wIf (v72003 ≤ l2)
 (loopW3 (WB_X7_parse_109 G Q X kI8 kI71 y0 y1) 9000 σ72004 bc71 bs71 (0 : Int32))
 (wGO σ72004 y1 [1] 2 (fun v72006 =>
 wGO σ72004 y0 [5] 1 (fun v72007 =>
 wU v72007 (fun a72008 =>
 (wR σ72004 a72008 16 ∧
 W_J2_get G σ72004 a72008 (l2) (fun v72009 σ72010 =>
 wU v72009 (fun a72011 =>
 (wR σ72010 a72011 13 ∧
 wU v72006 (fun a72012 =>
 (wR σ72010 a72012 16 ∧
 wC bc71 bs71 (fun c72015 c72016 =>
 W_J2_add G c72015 c72016 σ72010 a72012 (some a72011) (fun v72013 σ72014 =>
 kI71 σ72014 (bc71 - c72015) (bs71 - c72016) (l2 + (1 : Int32))) X)))))) X)))))) X)))
def WB_X7_parse_8 (G : KG) (Q : Option Nat → KHp → Prop) (X : String → Nat → KHp → Prop)  (y0 : Nat) (kI8 : KHp → Nat → Nat → Prop) (σ : KHp) (bc8 bs8 : Nat)  : Prop :=
  wGO σ y0 [5] 8 (fun v9001 =>
 wIf ((v9001) = (some (kx_K G 7)))
 (wGO σ y0 [5] 0 (fun v9002 =>
 wU v9002 (fun a9003 =>
 (wR σ a9003 2 ∧
 wC bc8 bs8 (fun c9006 c9007 =>
 W_X3_lay G c9006 c9007 σ a9003  (fun σ9005 =>
 wN (bc8 - c9006) (bs8 - c9007) σ9005 1 [.null, .null, .null, .null, .null, .null, .null, .null, .null, .null, .int 0, .int 0, .int 0, .long 0] (fun q9008 σ9009 =>
 wGO σ9009 y0 [5] 0 (fun v9010 =>
 wC (bc8 - c9006 - 1) (bs8 - c9007 - 14) (fun c9013 c9014 =>
 W_X2_init G c9013 c9014 σ9009 q9008 (v9010) (fun σ9012 =>
 wGJ σ9012 y0 [5] 6 (fun v9015 =>
 jn (κ := Int64 → KHp → Nat → Nat → Prop) (fun v9018 σ9019 bcv9018 bsv9018 =>
 wP σ9019 q9008 [1] 13 (.long (v9018)) (fun σ9020 =>
 loopW3 (WB_X7_parse_71 G Q X kI8 y0 q9008) 9000 σ9020 bcv9018 bsv9018 (0 : Int32))) (fun k9016 =>
 wIf (0 ≤ (lg_cmp v9015 (0 : Int64)))
 (wGJ σ9012 y0 [5] 6 (fun v9017 =>
 k9016 v9017 σ9012 (bc8 - c9006 - 1 - c9013) (bs8 - c9007 - 14 - c9014)))
 (k9016 (1 : Int64) σ9012 (bc8 - c9006 - 1 - c9013) (bs8 - c9007 - 14 - c9014))))) X)))) X)))))
 ((wR σ y0 5 ∧
 wC bc8 bs8 (fun c9024 c9025 =>
 W_X7_parseStatement G c9024 c9025 σ y0  (fun σ9023 =>
 (wR σ9023 y0 5 ∧
 wC (bc8 - c9024) (bs8 - c9025) (fun c9028 c9029 =>
 W_X7_parseEnd G c9028 c9029 σ9023 y0  (fun σ9027 =>
 kI8 σ9027 (bc8 - c9024 - c9028) (bs8 - c9025 - c9029)) X))) X))))
def W_X7_parse (G : KG) (bc bs : Nat) (σ : KHp) (x0 : Nat) (Q : Option Nat → KHp → Prop) (X : String → Nat → KHp → Prop) : Prop :=
  (wR σ x0 5 ∧
 wC bc bs (fun c3 c4 =>
 W_X7_parseRecorder G c3 c4 σ x0  (fun σ2 =>
 (wR σ2 x0 5 ∧
 wC (bc - c3) (bs - c4) (fun c7 c8 =>
 W_X7_parseEnd G c7 c8 σ2 x0  (fun σ6 =>
 loopW2 (WB_X7_parse_8 G Q X  x0) 9000 σ6 (bc - c3 - c7) (bs - c4 - c8)) X))) X))
def W_X1_load (G : KG) (bc bs : Nat) (σ : KHp) (x0 : Nat) (Q : Int32 → KHp → Prop) (X : String → Nat → KHp → Prop) : Prop :=
  wP σ x0 [0] 4 (.int ((0 : Int32))) (fun σ1 =>
 wP σ1 x0 [0] 5 (.int ((-1 : Int32))) (fun σ2 =>
 wN bc bs σ2 5 [.null, .null, .null, .int 0, .int 0, .int 0, .long 0, .null, .null, .null] (fun q3 σ4 =>
 wC (bc - 1) (bs - 10) (fun c7 c8 =>
 W_X7_init G c7 c8 σ4 q3 (some x0) (fun σ6 =>
 (wR σ6 q3 5 ∧
 wC (bc - 1 - c7) (bs - 10 - c8) (fun c19 c20 =>
 W_X7_parse G c19 c20 σ6 q3  (fun v17 σ18 =>
 wGO σ18 x0 [0] 0 (fun v29 =>
 (wR σ18 x0 0 ∧
 wC (bc - 1 - c7 - c19) (bs - 10 - c8 - c20) (fun c32 c33 =>
 W_X1_keep G c32 c33 σ18 x0 (v29) (fun σ31 =>
 wP σ31 x0 [0] 0 (va_rf (v17)) (fun σ42 =>
 wGO σ42 x0 [0] 0 (fun v43 =>
 wU v43 (fun a44 =>
 wGO σ42 a44 [1] 1 (fun v45 =>
 wU v45 (fun a46 =>
 (wR σ42 a46 16 ∧
 W_J2_size G σ42 a46  (fun v47 σ48 =>
 wP σ48 x0 [0] 3 (.int ((0 : Int32))) (fun σ57 =>
 Q (v47) σ57)) (fun E49 q50 σ51 => (E49 = "ArcRecorder$ParseError" ∧ wGI σ51 q50 [6] 6 (fun v52 =>
 wP σ51 x0 [0] 4 (.int (v52)) (fun σ53 =>
 wGI σ53 q50 [6] 7 (fun v54 =>
 wP σ53 x0 [0] 5 (.int (v54)) (fun σ55 =>
 wP σ55 x0 [0] 3 (.int ((0 : Int32))) (fun σ56 =>
 Q ((-4 : Int32)) σ56)))))))))))))) (fun E34 q35 σ36 => (E34 = "ArcRecorder$ParseError" ∧ wGI σ36 q35 [6] 6 (fun v37 =>
 wP σ36 x0 [0] 4 (.int (v37)) (fun σ38 =>
 wGI σ38 q35 [6] 7 (fun v39 =>
 wP σ38 x0 [0] 5 (.int (v39)) (fun σ40 =>
 wP σ40 x0 [0] 3 (.int ((0 : Int32))) (fun σ41 =>
 Q ((-4 : Int32)) σ41))))))))))) (fun E21 q22 σ23 => (E21 = "ArcRecorder$ParseError" ∧ wGI σ23 q22 [6] 6 (fun v24 =>
 wP σ23 x0 [0] 4 (.int (v24)) (fun σ25 =>
 wGI σ25 q22 [6] 7 (fun v26 =>
 wP σ25 x0 [0] 5 (.int (v26)) (fun σ27 =>
 wP σ27 x0 [0] 3 (.int ((0 : Int32))) (fun σ28 =>
 Q ((-4 : Int32)) σ28)))))))))) (fun E9 q10 σ11 => (E9 = "ArcRecorder$ParseError" ∧ wGI σ11 q10 [6] 6 (fun v12 =>
 wP σ11 x0 [0] 4 (.int (v12)) (fun σ13 =>
 wGI σ13 q10 [6] 7 (fun v14 =>
 wP σ13 x0 [0] 5 (.int (v14)) (fun σ15 =>
 wP σ15 x0 [0] 3 (.int ((0 : Int32))) (fun σ16 =>
 Q ((-4 : Int32)) σ16)))))))))))
