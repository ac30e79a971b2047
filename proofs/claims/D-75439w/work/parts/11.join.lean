set_option maxRecDepth 100000
/-! joins, and contracts with named ends -/
section KXJ
variable {G : KG} {F : KF} {B : KB} {bc bs : Nat} {σ : KHp} {pc : Nat} {ls : Nat → Option Value} {st : List Value}
theorem kx_joinE {pcE : Nat} {v : Value} (k : kx G F B bc bs σ pcE ls (v :: st)) (h : (∀ w : Value, w = v → kx G F B bc bs σ pcE ls (w :: st)) → kx G F B bc bs σ pc ls st) : kx G F B bc bs σ pc ls st := h (fun w hw => by rw [hw]; exact k)
theorem kx_mk3 {y : MethodName} {cc : ByteArray} {nL : Nat} {ret : Option FieldType} {ini : Bool} {d mc ms : Nat} {As : List Value} {Q0 : KQ} {X0 : KX} (hy : plainName y.cls = true) (hn : (lg_sl As).length ≤ nL) (hi : ini = true → y.name = "<init>")
    (body : ∀ (Q : KQ) (X : KX), (∀ v σ', Q0 v σ' → Q v σ') → (∀ E q σ', X0 E q σ' → X E q σ') → kx G (y.cls, cc, nL, ret, ini, []) (d, mc, ms, Q, X) mc ms σ 0 (kx_a As) []) : kx_c G y (ws_ y cc nL ret) d mc ms As σ Q0 X0 :=
  kx_mk2 hy hn hi (body Q0 X0 (fun _ _ h => h) (fun _ _ _ h => h))
theorem kx_mk3W {y : MethodName} {cc : ByteArray} {nL : Nat} {ret : Option FieldType} {ini : Bool} {hh : List (Nat × Nat × Nat × Nat)} {d mc ms : Nat} {As : List Value} {Q0 : KQ} {X0 : KX} (hy : plainName y.cls = true) (hn : (lg_sl As).length ≤ nL) (hi : ini = true → y.name = "<init>")
    (body : ∀ (Q : KQ) (X : KX), (∀ v σ', Q0 v σ' → Q v σ') → (∀ E q σ', X0 E q σ' → X E q σ') → kx G (y.cls, cc, nL, ret, ini, hh) (d, mc, ms, Q, X) mc ms σ 0 (kx_a As) []) : kx_c G y (wsW_ y cc nL ret hh) d mc ms As σ Q0 X0 :=
  kx_mk2W hy hn hi (body Q0 X0 (fun _ _ h => h) (fun _ _ _ h => h))
end KXJ
