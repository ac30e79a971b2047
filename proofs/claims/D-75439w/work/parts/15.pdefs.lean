set_option maxRecDepth 100000
def P_thrown (s : TS)  : Option (TS × Int32) :=
  some (s, (s.1 0))
def P_passes4 (s : TS) (x1 : Int32) (x2 : Int32) (x3 : Int32) (x4 : Int32) : Option (TS × Int32) :=
  (((if x1 = 0 then
some (s, (1 : Int32)) else
(if x2 = 0 then
some (s, (2 : Int32)) else
(if x3 = 0 then
some (s, (3 : Int32)) else
(if x4 = 0 then
some (s, (4 : Int32)) else
some (s, (0 : Int32))))))).bind fun r1 =>
((pI r1.1 0 r1.2).bind fun s2 =>
(((if (s2.1 0) = 0 then
some (s2, (1 : Int32)) else
some (s2, (0 : Int32)))).bind fun r3 =>
((oZ r3.2).bind fun v4 => some (r3.1, v4)))))
def B_appendFour_3 (y1 : Int32) (a : TS) (a2 : Int32) : Option ((TS × Int32) ⊕ (TS)) :=
  (if a2 < 0 then
some (.inr (a)) else
((pB a 5 (a.1 6) ((y1 >>> (a2 &&& 31))).toInt8.toInt32).bind fun s3001 =>
((pI s3001 6 ((s3001.1 6) + (1 : Int32))).bind fun s3002 =>
some (.inl (s3002, (a2 + (-8 : Int32)))))))
def P_appendFour (s : TS) (x1 : Int32) : Option (TS) :=
  ((loopN (fun w : TS × Int32 => B_appendFour_3 (x1) w.1 w.2) 9000 (s, (24 : Int32))).bind fun b1 =>
some b1)
def P_in (s : TS) (x0 : Int64) (x2 : Int64) (x4 : Int64) : Option (TS × Int32) :=
  (((if (lg_cmp x0 x2) < 0 then
some (s, (0 : Int32)) else
(if 0 < (lg_cmp x0 x4) then
some (s, (0 : Int32)) else
some (s, (1 : Int32))))).bind fun r1 =>
((oZ r1.2).bind fun v2 => some (r1.1, v2)))
def P_byteAt (s : TS) (x1 : Int32) : Option (TS × Int32) :=
  (((if (s.1 7) ≤ x1 then
some (s, (-1 : Int32)) else
((gB s 5 x1).bind fun v2 =>
some (s, (v2 &&& (255 : Int32)))))).bind fun r1 =>
some (r1.1, r1.2))
def P_good (s : TS)  : Option (TS × Int32) :=
  (((if (s.1 12) = 0 then
some (s, (1 : Int32)) else
some (s, (0 : Int32)))).bind fun r1 =>
((oZ r1.2).bind fun v2 => some (r1.1, v2)))
def B_isWord_24 (y1 : Nat) (a : TS) (a2 : Int32) (a3 : Int32) : Option ((TS × Int32 × Int32) ⊕ (TS × Int32)) :=
  ((slen y1).bind fun v24001 =>
(if v24001 ≤ a3 then
some (.inr (a, a2)) else
(if a2 = 0 then
some (.inr (a, a2)) else
((gB a 5 ((a.1 9) + a3)).bind fun v24002 =>
((sat y1 a3).bind fun v24003 =>
(((if v24002 = v24003 then
some (a, (1 : Int32)) else
some (a, (0 : Int32)))).bind fun r24004 =>
some (.inl (r24004.1, r24004.2, (a3 + (1 : Int32))))))))))
def P_isWord (s : TS) (x1 : Nat) : Option (TS × Int32) :=
  ((slen x1).bind fun v1 =>
(((if ((s.1 8) - (s.1 9)) = v1 then
some (s, (1 : Int32)) else
some (s, (0 : Int32)))).bind fun r2 =>
((loopN (fun w : TS × Int32 × Int32 => B_isWord_24 (x1) w.1 w.2.1 w.2.2) 9000 (r2.1, r2.2, (0 : Int32))).bind fun b3 =>
((oZ b3.2).bind fun v4 => some (b3.1, v4)))))
def P_errs (s : TS) (x1 : Int32) : Option (TS) :=
  ((P_good s ).bind fun r1 =>
(if r1.2 = 0 then
some r1.1 else
((pI r1.1 12 x1).bind fun s2 =>
((pI s2 13 (s2.1 9)).bind fun s3 =>
some s3))))
def P_isSymbol (s : TS) (x1 : Int32) : Option (TS × Int32) :=
  ((P_good s ).bind fun r1 =>
(((if r1.2 = 0 then
some (r1.1, (0 : Int32)) else
(if (r1.1.1 10) = (3 : Int32) then
(if (r1.1.1 11) = x1 then
some (r1.1, (1 : Int32)) else
some (r1.1, (0 : Int32))) else
some (r1.1, (0 : Int32))))).bind fun r2 =>
((oZ r2.2).bind fun v3 => some (r2.1, v3))))
def P_kindHere (s : TS)  : Option (TS × Int32) :=
  ((P_isWord s (29)).bind fun r1 =>
(((if r1.2 = 0 then
((P_isWord r1.1 (30)).bind fun r3 =>
(if r3.2 = 0 then
((P_isWord r3.1 (31)).bind fun r4 =>
(if r4.2 = 0 then
((P_isWord r4.1 (32)).bind fun r5 =>
(if r5.2 = 0 then
some (r5.1, (-1 : Int32)) else
some (r5.1, (3 : Int32)))) else
some (r4.1, (2 : Int32)))) else
some (r3.1, (1 : Int32)))) else
some (r1.1, (0 : Int32)))).bind fun r2 =>
some (r2.1, r2.2)))
def P_featureHere (s : TS)  : Option (TS × Int32) :=
  ((P_isWord s (48)).bind fun r1 =>
(((if r1.2 = 0 then
((P_isWord r1.1 (49)).bind fun r3 =>
(if r3.2 = 0 then
((P_isWord r3.1 (50)).bind fun r4 =>
(if r4.2 = 0 then
((P_isWord r4.1 (51)).bind fun r5 =>
(if r5.2 = 0 then
((P_isWord r5.1 (52)).bind fun r6 =>
(if r6.2 = 0 then
((P_isWord r6.1 (53)).bind fun r7 =>
(if r7.2 = 0 then
some (r7.1, (-1 : Int32)) else
some (r7.1, (5 : Int32)))) else
some (r6.1, (4 : Int32)))) else
some (r5.1, (3 : Int32)))) else
some (r4.1, (2 : Int32)))) else
some (r3.1, (1 : Int32)))) else
some (r1.1, (0 : Int32)))).bind fun r2 =>
some (r2.1, r2.2)))
def P_letter (s : TS) (x1 : Int32) : Option (TS × Int32) :=
  (((if ((s.1 8) - (s.1 9)) ≤ x1 then
some (s, (0 : Int32)) else
((gB s 5 ((s.1 9) + x1)).bind fun v2 =>
some (s, v2)))).bind fun r1 =>
some (r1.1, r1.2))
def B_keepName_2 (y1 : Int32) (a : TS) (a2 : Int32) : Option ((TS × Int32) ⊕ (TS)) :=
  (if (6 : Int32) ≤ a2 then
some (.inr (a)) else
((P_letter a (a2)).bind fun r2001 =>
((pA r2001.1 a.2.2.2 (y1 + a2) r2001.2).bind fun s2002 =>
some (.inl (s2002, (a2 + (1 : Int32)))))))
def P_keepName (s : TS) (x1 : Int32) : Option (TS) :=
  ((loopN (fun w : TS × Int32 => B_keepName_2 (x1) w.1 w.2) 9000 (s, (0 : Int32))).bind fun b1 =>
some b1)
def P_setLoad (s : TS) (x1 : Int32) (x2 : Int32) (x3 : Int32) : Option (TS) :=
  ((pA s s.2.2.2 (((331 : Int32) + ((12 : Int32) * x1)) + x2) x3).bind fun s1 =>
some s1)
def P_setBranch (s : TS) (x1 : Int32) (x2 : Int32) (x3 : Int32) : Option (TS) :=
  ((pA s s.2.2.2 (((11 : Int32) + ((80 : Int32) * x1)) + x2) x3).bind fun s1 =>
some s1)
def P_layPlan (s : TS) (x1 : Int32) (x2 : Int32) (x3 : Int32) : Option (TS) :=
  ((gA s s.2.2.2 (7 : Int32)).bind fun v1 =>
((pA s s.2.2.2 ((853 : Int32) + ((3 : Int32) * v1)) x1).bind fun s2 =>
((pA s2 s2.2.2.2 (((853 : Int32) + ((3 : Int32) * v1)) + (1 : Int32)) x2).bind fun s3 =>
((pA s3 s3.2.2.2 (((853 : Int32) + ((3 : Int32) * v1)) + (2 : Int32)) x3).bind fun s4 =>
((gA s4 s4.2.2.2 (7 : Int32)).bind fun v5 =>
((pA s4 s4.2.2.2 (7 : Int32) (v5 + (1 : Int32))).bind fun s6 =>
some s6))))))
def B_remember_87  (a : TS) (a1 : Int32) : Option ((TS × Int32) ⊕ (TS)) :=
  (if (1465 : Int32) ≤ a1 then
some (.inr (a)) else
((gA a 1 a1).bind fun v87001 =>
((pA a 21 (((1465 : Int32) * (a.1 23)) + a1) v87001).bind fun s87002 =>
some (.inl (s87002, (a1 + (1 : Int32)))))))
def B_remember_123  (a : TS) (a1 : Int32) : Option ((TS × Int32) ⊕ (TS)) :=
  (if (160 : Int32) ≤ a1 then
some (.inr (a)) else
((gR a 4 a1).bind fun v123001 =>
((pR a 22 (((160 : Int32) * (a.1 23)) + a1) v123001).bind fun s123002 =>
some (.inl (s123002, (a1 + (1 : Int32)))))))
def B_remember_13  (a : TS) (a1 : Int32) : Option ((TS × Int32) ⊕ (TS)) :=
  (if (8790 : Int32) ≤ a1 then
some (.inr (a)) else
((gA a 21 a1).bind fun v13001 =>
((pA a 21 (a1 - (1465 : Int32)) v13001).bind fun s13002 =>
some (.inl (s13002, (a1 + (1 : Int32)))))))
def B_remember_46  (a : TS) (a1 : Int32) : Option ((TS × Int32) ⊕ (TS)) :=
  (if (960 : Int32) ≤ a1 then
some (.inr (a)) else
((gR a 22 a1).bind fun v46001 =>
((pR a 22 (a1 - (160 : Int32)) v46001).bind fun s46002 =>
some (.inl (s46002, (a1 + (1 : Int32)))))))
def P_remember (s : TS)  : Option (TS) :=
  (if (s.1 23) = (6 : Int32) then
((loopN (fun w : TS × Int32 => B_remember_13  w.1 w.2) 9000 (s, (1465 : Int32))).bind fun b4 =>
((loopN (fun w : TS × Int32 => B_remember_46  w.1 w.2) 9000 (b4, (160 : Int32))).bind fun b5 =>
((pI b5 23 ((b5.1 23) - (1 : Int32))).bind fun s6 =>
((loopN (fun w : TS × Int32 => B_remember_87  w.1 w.2) 9000 (s6, (0 : Int32))).bind fun b7 =>
((loopN (fun w : TS × Int32 => B_remember_123  w.1 w.2) 9000 (b7, (0 : Int32))).bind fun b8 =>
((pI b8 23 ((b8.1 23) + (1 : Int32))).bind fun s9 =>
some s9)))))) else
((loopN (fun w : TS × Int32 => B_remember_87  w.1 w.2) 9000 (s, (0 : Int32))).bind fun b1 =>
((loopN (fun w : TS × Int32 => B_remember_123  w.1 w.2) 9000 (b1, (0 : Int32))).bind fun b2 =>
((pI b2 23 ((b2.1 23) + (1 : Int32))).bind fun s3 =>
some s3))))
def P_errorCode (s : TS)  : Option (TS × Int32) :=
  ((pI s 0 (0 : Int32)).bind fun s1 =>
some (s1, (s1.1 12)))
def P_errorPosition (s : TS)  : Option (TS × Int32) :=
  ((pI s 0 (0 : Int32)).bind fun s1 =>
some (s1, (s1.1 13)))
def B_looksAtWord_28  (a : TS) (a1 : Int32) (a2 : Int32) : Option ((TS × Int32 × Int32) ⊕ (TS × Int32)) :=
  (if (a.1 8) ≤ a2 then
some (.inr (a, a1)) else
(if a1 = 0 then
some (.inr (a, a1)) else
((gB a 5 a2).bind fun v28001 =>
((P_in a ((v28001).toInt64) ((97 : Int64)) ((122 : Int64))).bind fun r28002 =>
some (.inl (r28002.1, r28002.2, (a2 + (1 : Int32))))))))
def P_looksAtWord (s : TS)  : Option (TS × Int32) :=
  ((pI s 9 (0 : Int32)).bind fun s1 =>
((pI s1 8 (s1.1 6)).bind fun s2 =>
(((if (s2.1 8) ≤ 0 then
some (s2, (0 : Int32)) else
some (s2, (1 : Int32)))).bind fun r3 =>
((loopN (fun w : TS × Int32 × Int32 => B_looksAtWord_28  w.1 w.2.1 w.2.2) 9000 (r3.1, r3.2, (0 : Int32))).bind fun b4 =>
((oZ b4.2).bind fun v5 => some (b4.1, v5))))))
def P_now (s : TS)  : Option (TS × Int32) :=
  ((pI s 0 (0 : Int32)).bind fun s1 =>
((gA s1 1 (8 : Int32)).bind fun v2 =>
some (s1, v2)))
def P_isBranch (s : TS) (x1 : Int32) : Option (TS × Int32) :=
  ((gA s s.2.2.2 (3 : Int32)).bind fun v1 =>
((P_in s ((x1).toInt64) ((0 : Int64)) (((v1 - (1 : Int32))).toInt64)).bind fun r2 =>
((oZ r2.2).bind fun v3 => some (r2.1, v3))))
def P_ofBranch (s : TS) (x1 : Int32) (x2 : Int32) : Option (TS × Int32) :=
  ((gA s s.2.2.2 (((11 : Int32) + ((80 : Int32) * x1)) + x2)).bind fun v1 =>
some (s, v1))
def P_isLoad (s : TS) (x1 : Int32) : Option (TS × Int32) :=
  ((gA s s.2.2.2 (4 : Int32)).bind fun v1 =>
((P_in s ((x1).toInt64) ((0 : Int64)) (((v1 - (1 : Int32))).toInt64)).bind fun r2 =>
((oZ r2.2).bind fun v3 => some (r2.1, v3))))
def P_passes2 (s : TS) (x1 : Int32) (x2 : Int32) : Option (TS × Int32) :=
  ((P_passes4 s (x1) (x2) ((1 : Int32)) ((1 : Int32))).bind fun r1 =>
((oZ r1.2).bind fun v2 => some (r1.1, v2)))
def P_ofLoad (s : TS) (x1 : Int32) (x2 : Int32) : Option (TS × Int32) :=
  ((gA s s.2.2.2 (((331 : Int32) + ((12 : Int32) * x1)) + x2)).bind fun v1 =>
some (s, v1))
def P_passes3 (s : TS) (x1 : Int32) (x2 : Int32) (x3 : Int32) : Option (TS × Int32) :=
  ((P_passes4 s (x1) (x2) (x3) ((1 : Int32))).bind fun r1 =>
((oZ r1.2).bind fun v2 => some (r1.1, v2)))
def B_doSwitches_66 (y1 : Int32) (y2 : Int32) (y3 : Int32) (a : TS) (a4 : Int32) : Option ((TS × Int32) ⊕ (TS)) :=
  (if (3 : Int32) ≤ a4 then
some (.inr (a)) else
((gA a 1 (y3 + a4)).bind fun v66001 =>
((pA a 1 (((853 : Int32) + ((3 : Int32) * y1)) + a4) v66001).bind fun s66002 =>
some (.inl (s66002, (a4 + (1 : Int32)))))))
def B_doSwitches_4  (a : TS) (a1 : Int32) (a2 : Int32) : Option ((TS × Int32 × Int32) ⊕ (TS × Int32)) :=
  ((gA a 1 (7 : Int32)).bind fun v4001 =>
(if v4001 ≤ a2 then
some (.inr (a, a1)) else
((gA a 1 ((853 : Int32) + ((3 : Int32) * a2))).bind fun v4002 =>
((gA a 1 (8 : Int32)).bind fun v4003 =>
(if v4002 = v4003 then
((gA a 1 (((853 : Int32) + ((3 : Int32) * a2)) + (1 : Int32))).bind fun v4005 =>
((gA a 1 (((853 : Int32) + ((3 : Int32) * a2)) + (2 : Int32))).bind fun v4006 =>
((P_setLoad a (v4005) ((5 : Int32)) (v4006)).bind fun r4007 =>
some (.inl (r4007, a1, (a2 + (1 : Int32))))))) else
((loopN (fun w : TS × Int32 => B_doSwitches_66 (a1) (a2) (((853 : Int32) + ((3 : Int32) * a2))) w.1 w.2) 9000 (a, (0 : Int32))).bind fun b4004 =>
some (.inl (b4004, (a1 + (1 : Int32)), (a2 + (1 : Int32))))))))))
def P_doSwitches (s : TS)  : Option (TS) :=
  ((loopN (fun w : TS × Int32 × Int32 => B_doSwitches_4  w.1 w.2.1 w.2.2) 9000 (s, (0 : Int32), (0 : Int32))).bind fun b1 =>
((pA b1.1 1 (7 : Int32) b1.2).bind fun s2 =>
some s2))
def P_isClosed (s : TS) (x1 : Int32) : Option (TS × Int32) :=
  ((P_ofBranch s (x1) ((1 : Int32))).bind fun r1 =>
(((if r1.2 = 0 then
some (r1.1, (1 : Int32)) else
some (r1.1, (0 : Int32)))).bind fun r2 =>
((oZ r2.2).bind fun v3 => some (r2.1, v3))))
def P_draw (s : TS)  : Option (TS × Int32) :=
  ((gA s 1 (9 : Int32)).bind fun v1 =>
((oML (((v1).toInt64 * (1103515245 : Int64)) + (12345 : Int64)) (2147483648 : Int64)).bind fun v2 =>
((pA s 1 (9 : Int32) (v2).toInt32).bind fun s3 =>
((gA s3 1 (9 : Int32)).bind fun v4 =>
((oD v4 (65536 : Int32)).bind fun v5 =>
((oM v5 (100 : Int32)).bind fun v6 =>
some (s3, v6)))))))
def P_shape (s : TS) (x1 : Int32) : Option (TS × UInt32) :=
  ((gA s 1 (0 : Int32)).bind fun v1 =>
((oF (FP.fdiv (FP.i2f (((2 : Int32) * x1) + (1 : Int32))) (FP.i2f ((2 : Int32) * v1)))).bind fun v2 =>
((oF (FP.fmul (1082130432 : UInt32) v2)).bind fun v3 =>
((oF (FP.fsub FP.fconst1 v2)).bind fun v4 =>
((oF (FP.fmul v3 v4)).bind fun v5 =>
some (s, v5))))))
def P_arcAt (s : TS) (x1 : Int32) (x2 : Int32) (x3 : Int32) (x4 : UInt32) : Option (TS × UInt32) :=
  (((if x3 ≤ x2 then
((P_ofLoad s (x1) ((2 : Int32))).bind fun r2 =>
((P_shape r2.1 (x2)).bind fun r3 =>
((oF (FP.fmul (FP.i2f r2.2) r3.2)).bind fun v4 =>
((oF (FP.fmul v4 x4)).bind fun v5 =>
some (r3.1, v5))))) else
some (s, FP.fconst0))).bind fun r1 =>
some (r1.1, r1.2))
def P_size (s : TS) (x0 : UInt32) : Option (TS × UInt32) :=
  (((if 0 ≤ (Op.cmpValue (FP.fcmp x0 FP.fconst0) .g) then
some (s, x0) else
((oF (FP.fsub FP.fconst0 x0)).bind fun v2 =>
some (s, v2)))).bind fun r1 =>
some (r1.1, r1.2))
def P_featureOf (s : TS) (x1 : Int32) (x2 : Int32) : Option (TS × UInt32) :=
  ((gR s 4 ((((38 : Int32) * x1) + (32 : Int32)) + x2)).bind fun v1 =>
some (s, v1))
def B_holds_4 (y1 : Int32) (a : TS) (a2 : Int32) (a3 : Int32) : Option ((TS × Int32 × Int32) ⊕ (TS × Int32)) :=
  ((gA a a.2.2.2 (y1 + (1 : Int32))).bind fun v4001 =>
(if v4001 ≤ a3 then
some (.inr (a, a2)) else
((gA a a.2.2.2 ((y1 + (9 : Int32)) + ((3 : Int32) * a3))).bind fun v4002 =>
((gR a 18 v4002).bind fun v4003 =>
((gA a a.2.2.2 (((y1 + (9 : Int32)) + ((3 : Int32) * a3)) + (2 : Int32))).bind fun v4004 =>
(((if a2 = 0 then
some (a, (0 : Int32)) else
((gA a a.2.2.2 (((y1 + (9 : Int32)) + ((3 : Int32) * a3)) + (1 : Int32))).bind fun v4006 =>
(if v4006 = (60 : Int32) then
(if 0 ≤ (Op.cmpValue (FP.fcmp v4003 (FP.i2f v4004)) .g) then
some (a, (0 : Int32)) else
some (a, (1 : Int32))) else
(if (Op.cmpValue (FP.fcmp v4003 (FP.i2f v4004)) .l) ≤ 0 then
some (a, (0 : Int32)) else
some (a, (1 : Int32))))))).bind fun r4005 =>
some (.inl (r4005.1, r4005.2, (a3 + (1 : Int32))))))))))
def P_holds (s : TS) (x1 : Int32) : Option (TS × Int32) :=
  ((loopN (fun w : TS × Int32 × Int32 => B_holds_4 (x1) w.1 w.2.1 w.2.2) 9000 (s, (1 : Int32), (0 : Int32))).bind fun b1 =>
((oZ b1.2).bind fun v2 => some (b1.1, v2)))
def P_isAlwaysOne (s : TS) (x1 : Int32) : Option (TS × Int32) :=
  ((gA s s.2.2.2 (((475 : Int32) + ((27 : Int32) * x1)) + (0 : Int32))).bind fun v1 =>
(((if v1 = (1 : Int32) then
some (s, (1 : Int32)) else
some (s, (0 : Int32)))).bind fun r2 =>
((oZ r2.2).bind fun v3 => some (r2.1, v3))))
def B_pushFlag_3 (y1 : Int32) (y2 : Int32) (a : TS) (a3 : Int32) : Option ((TS × Int32) ⊕ (TS)) :=
  (if a3 ≤ 0 then
some (.inr (a)) else
((P_ofBranch a (y1) ((((16 : Int32) + a3) - (1 : Int32)))).bind fun r3001 =>
((P_setBranch r3001.1 (y1) (((16 : Int32) + a3)) (r3001.2)).bind fun r3002 =>
some (.inl (r3002, (a3 + (-1 : Int32)))))))
def P_pushFlag (s : TS) (x1 : Int32) (x2 : Int32) : Option (TS) :=
  ((loopN (fun w : TS × Int32 => B_pushFlag_3 (x1) (x2) w.1 w.2) 9000 (s, (63 : Int32))).bind fun b1 =>
(((if x2 = 0 then
some (b1, (0 : Int32)) else
some (b1, (1 : Int32)))).bind fun r2 =>
((P_setBranch r2.1 (x1) ((16 : Int32)) (r2.2)).bind fun r3 =>
((P_ofBranch r3 (x1) ((5 : Int32))).bind fun r4 =>
((P_setBranch r4.1 (x1) ((5 : Int32)) ((pmin (64 : Int32) (r4.2 + (1 : Int32))))).bind fun r5 =>
(((if x2 = 0 then
some (r5, (0 : Int32)) else
some (r5, (1 : Int32)))).bind fun r6 =>
((P_setBranch r6.1 (x1) ((8 : Int32)) (r6.2)).bind fun r7 =>
some r7)))))))
def P_windowOf (s : TS) (x1 : Int32) : Option (TS × Int32) :=
  ((gA s 1 (1 : Int32)).bind fun v1 =>
((P_ofBranch s (x1) ((5 : Int32))).bind fun r2 =>
some (r2.1, (pmin v1 r2.2))))
def B_suspectsOf_5 (y1 : Int32) (y2 : Int32) (a : TS) (a3 : Int32) (a4 : Int32) : Option ((TS × Int32 × Int32) ⊕ (TS × Int32)) :=
  (if y2 ≤ a4 then
some (.inr (a, a3)) else
((P_ofBranch a (y1) (((16 : Int32) + a4))).bind fun r5001 =>
some (.inl (r5001.1, (a3 + r5001.2), (a4 + (1 : Int32))))))
def P_suspectsOf (s : TS) (x1 : Int32) (x2 : Int32) : Option (TS × Int32) :=
  ((loopN (fun w : TS × Int32 × Int32 => B_suspectsOf_5 (x1) (x2) w.1 w.2.1 w.2.2) 9000 (s, (0 : Int32), (0 : Int32))).bind fun b1 =>
some (b1.1, b1.2))
def B_bitCount_4 (y0 : Int32) (a : TS) (a1 : Int32) (a2 : Int32) : Option ((TS × Int32 × Int32) ⊕ (TS × Int32)) :=
  (if (4 : Int32) ≤ a2 then
some (.inr (a, a1)) else
some (.inl (a, (a1 + ((y0 >>> (a2 &&& 31)) &&& (1 : Int32))), (a2 + (1 : Int32)))))
def P_bitCount (s : TS) (x0 : Int32) : Option (TS × Int32) :=
  ((loopN (fun w : TS × Int32 × Int32 => B_bitCount_4 (x0) w.1 w.2.1 w.2.2) 9000 (s, (0 : Int32), (0 : Int32))).bind fun b1 =>
some (b1.1, b1.2))
def P_hasHad (s : TS) (x1 : Int32) : Option (TS × Int32) :=
  ((P_ofBranch s (x1) ((4 : Int32))).bind fun r1 =>
(((if r1.2 = (1 : Int32) then
some (r1.1, (1 : Int32)) else
some (r1.1, (0 : Int32)))).bind fun r2 =>
((oZ r2.2).bind fun v3 => some (r2.1, v3))))
def P_isFeature (s : TS) (x0 : Int32) : Option (TS × Int32) :=
  ((P_in s ((x0).toInt64) ((0 : Int64)) ((5 : Int64))).bind fun r1 =>
((oZ r1.2).bind fun v2 => some (r1.1, v2)))
def P_wasSuspect (s : TS) (x1 : Int32) (x2 : Int32) : Option (TS × Int32) :=
  ((P_isBranch s (x1)).bind fun r1 =>
((P_in r1.1 ((x2).toInt64) ((0 : Int64)) ((63 : Int64))).bind fun r2 =>
((P_passes2 r2.1 (r1.2) (r2.2)).bind fun r3 =>
(((if r3.2 = 0 then
some (r3.1, (0 : Int32)) else
((P_windowOf r3.1 (x1)).bind fun r5 =>
(if r5.2 ≤ x2 then
some (r5.1, (0 : Int32)) else
((P_ofBranch r5.1 (x1) (((16 : Int32) + x2))).bind fun r6 =>
(if r6.2 = (1 : Int32) then
some (r6.1, (1 : Int32)) else
some (r6.1, (0 : Int32)))))))).bind fun r4 =>
((oZ r4.2).bind fun v7 => some (r4.1, v7))))))
def B_marginOf_12 (y1 : Int32) (a : TS) (a2 : Int32) : Option ((TS × Int32) ⊕ (TS × Int32)) :=
  ((gA a 1 (1 : Int32)).bind fun v12001 =>
((P_ofBranch a (y1) ((5 : Int32))).bind fun r12002 =>
((P_suspectsOf r12002.1 (y1) ((pmin (v12001 - a2) r12002.2))).bind fun r12003 =>
((gA r12003.1 1 (2 : Int32)).bind fun v12004 =>
(if v12004 ≤ (a2 + r12003.2) then
some (.inr (r12003.1, a2)) else
some (.inl (r12003.1, (a2 + (1 : Int32)))))))))
def P_marginOf (s : TS) (x1 : Int32) : Option (TS × Int32) :=
  ((P_isClosed s (x1)).bind fun r1 =>
(if r1.2 = 0 then
some (r1.1, (-1 : Int32)) else
((loopN (fun w : TS × Int32 => B_marginOf_12 (x1) w.1 w.2) 9000 (r1.1, (1 : Int32))).bind fun b2 =>
some (b2.1, b2.2))))
def P_isSignature (s : TS) (x1 : Int32) : Option (TS × Int32) :=
  ((gA s s.2.2.2 (5 : Int32)).bind fun v1 =>
((P_in s ((x1).toInt64) ((0 : Int64)) (((v1 - (1 : Int32))).toInt64)).bind fun r2 =>
((oZ r2.2).bind fun v3 => some (r2.1, v3))))
def P_isNuisance (s : TS) (x1 : Int32) : Option (TS × Int32) :=
  ((gA s s.2.2.2 (6 : Int32)).bind fun v1 =>
((P_in s ((x1).toInt64) ((0 : Int64)) (((v1 - (1 : Int32))).toInt64)).bind fun r2 =>
((oZ r2.2).bind fun v3 => some (r2.1, v3))))
def P_layTest (s : TS) (x1 : Int32) (x2 : Int32) (x3 : Int32) (x4 : Int32) (x5 : Int32) : Option (TS) :=
  ((pA s 1 ((x1 + (9 : Int32)) + ((3 : Int32) * x2)) x3).bind fun s1 =>
((pA s1 1 (((x1 + (9 : Int32)) + ((3 : Int32) * x2)) + (1 : Int32)) x4).bind fun s2 =>
((pA s2 1 (((x1 + (9 : Int32)) + ((3 : Int32) * x2)) + (2 : Int32)) x5).bind fun s3 =>
some s3)))
def P_reset (s : TS) (x1 : Int32) : Option (TS × Int32) :=
  ((P_isBranch s (x1)).bind fun r1 =>
((P_isBranch r1.1 (x1)).bind fun r2 =>
(((if r2.2 = 0 then
some (r2.1, (1 : Int32)) else
((P_ofBranch r2.1 (x1) ((1 : Int32))).bind fun r4 =>
(if r4.2 = (1 : Int32) then
some (r4.1, (1 : Int32)) else
some (r4.1, (0 : Int32)))))).bind fun r3 =>
((P_passes2 r3.1 (r1.2) (r3.2)).bind fun r5 =>
(if r5.2 = 0 then
some (r5.1, (0 : Int32)) else
((P_remember r5.1 ).bind fun r6 =>
((P_setBranch r6 (x1) ((1 : Int32)) ((0 : Int32))).bind fun r7 =>
((P_setBranch r7 (x1) ((5 : Int32)) ((0 : Int32))).bind fun r8 =>
((P_ofBranch r8 (x1) ((2 : Int32))).bind fun r9 =>
some (r9.1, r9.2))))))))))
def P_test (s : TS) (x1 : Int32) : Option (TS × Int32) :=
  ((P_isBranch s (x1)).bind fun r1 =>
((P_isBranch r1.1 (x1)).bind fun r2 =>
(((if r2.2 = 0 then
some (r2.1, (1 : Int32)) else
((P_isClosed r2.1 (x1)).bind fun r4 =>
(if r4.2 = 0 then
some (r4.1, (0 : Int32)) else
((P_ofBranch r4.1 (x1) ((3 : Int32))).bind fun r5 =>
(if r5.2 = 0 then
some (r5.1, (1 : Int32)) else
some (r5.1, (0 : Int32)))))))).bind fun r3 =>
((P_passes2 r3.1 (r1.2) (r3.2)).bind fun r6 =>
(if r6.2 = 0 then
some (r6.1, (0 : Int32)) else
((P_remember r6.1 ).bind fun r7 =>
((P_setBranch r7 (x1) ((3 : Int32)) ((1 : Int32))).bind fun r8 =>
((P_marginOf r8 (x1)).bind fun r9 =>
some (r9.1, r9.2)))))))))
def B_losePower_11  (a : TS) (a1 : Int32) : Option ((TS × Int32) ⊕ (TS)) :=
  ((gA a 1 (3 : Int32)).bind fun v11001 =>
(if v11001 ≤ a1 then
some (.inr (a)) else
((P_setBranch a (a1) ((5 : Int32)) ((0 : Int32))).bind fun r11002 =>
((P_setBranch r11002 (a1) ((3 : Int32)) ((0 : Int32))).bind fun r11003 =>
some (.inl (r11003, (a1 + (1 : Int32))))))))
def P_losePower (s : TS)  : Option (TS × Int32) :=
  ((pI s 0 (0 : Int32)).bind fun s1 =>
((P_remember s1 ).bind fun r2 =>
((loopN (fun w : TS × Int32 => B_losePower_11  w.1 w.2) 9000 (r2, (0 : Int32))).bind fun b3 =>
((gA b3 1 (10 : Int32)).bind fun v4 =>
some (b3, v4)))))
def P_memoryCount (s : TS)  : Option (TS × Int32) :=
  ((pI s 0 (0 : Int32)).bind fun s1 =>
((gA s1 1 (10 : Int32)).bind fun v2 =>
some (s1, v2)))
def P_isTrip (s : TS) (x1 : Int32) : Option (TS × Int32) :=
  ((gA s s.2.2.2 (10 : Int32)).bind fun v1 =>
((P_in s ((x1).toInt64) ((0 : Int64)) (((v1 - (1 : Int32))).toInt64)).bind fun r2 =>
((oZ r2.2).bind fun v3 => some (r2.1, v3))))
def P_ofTrip (s : TS) (x1 : Int32) (x2 : Int32) : Option (TS × Int32) :=
  ((gA s 1 (((913 : Int32) + ((69 : Int32) * x1)) + x2)).bind fun v1 =>
some (s, v1))
def P_named (s : TS) (x1 : Int32) (x2 : Int32) : Option (TS × Int32) :=
  ((P_isTrip s (x1)).bind fun r1 =>
((P_isTrip r1.1 (x1)).bind fun r2 =>
(((if r2.2 = 0 then
some (r2.1, (1 : Int32)) else
((P_ofTrip r2.1 (x1) ((4 : Int32))).bind fun r4 =>
((P_in r4.1 ((x2).toInt64) ((0 : Int64)) (((r4.2 - (1 : Int32))).toInt64)).bind fun r5 =>
(if r5.2 = 0 then
some (r5.1, (0 : Int32)) else
some (r5.1, (1 : Int32))))))).bind fun r3 =>
((P_passes2 r3.1 (r1.2) (r3.2)).bind fun r6 =>
(((if r6.2 = 0 then
some (r6.1, (0 : Int32)) else
((P_ofTrip r6.1 (x1) (((5 : Int32) + x2))).bind fun r8 =>
some (r8.1, r8.2)))).bind fun r7 =>
some (r7.1, r7.2))))))
def P_clearMemory (s : TS)  : Option (TS × Int32) :=
  ((pI s 0 (0 : Int32)).bind fun s1 =>
((P_remember s1 ).bind fun r2 =>
((gA r2 1 (10 : Int32)).bind fun v3 =>
((pA r2 1 (10 : Int32) (0 : Int32)).bind fun s4 =>
some (s4, v3)))))
def B_beginThought_2  (a : TS) (a1 : Int32) : Option ((TS × Int32) ⊕ (TS)) :=
  (if (1465 : Int32) ≤ a1 then
some (.inr (a)) else
((gA a 1 a1).bind fun v2001 =>
((pA a 19 a1 v2001).bind fun s2002 =>
some (.inl (s2002, (a1 + (1 : Int32)))))))
def B_beginThought_29  (a : TS) (a1 : Int32) : Option ((TS × Int32) ⊕ (TS)) :=
  (if (160 : Int32) ≤ a1 then
some (.inr (a)) else
((gR a 4 a1).bind fun v29001 =>
((pR a 20 a1 v29001).bind fun s29002 =>
some (.inl (s29002, (a1 + (1 : Int32)))))))
def P_beginThought (s : TS)  : Option (TS) :=
  ((loopN (fun w : TS × Int32 => B_beginThought_2  w.1 w.2) 9000 (s, (0 : Int32))).bind fun b1 =>
((loopN (fun w : TS × Int32 => B_beginThought_29  w.1 w.2) 9000 (b1, (0 : Int32))).bind fun b2 =>
some b2))
def B_endThought_2  (a : TS) (a1 : Int32) : Option ((TS × Int32) ⊕ (TS)) :=
  (if (1465 : Int32) ≤ a1 then
some (.inr (a)) else
((gA a 19 a1).bind fun v2001 =>
((pA a 1 a1 v2001).bind fun s2002 =>
some (.inl (s2002, (a1 + (1 : Int32)))))))
def B_endThought_29  (a : TS) (a1 : Int32) : Option ((TS × Int32) ⊕ (TS)) :=
  (if (160 : Int32) ≤ a1 then
some (.inr (a)) else
((gR a 20 a1).bind fun v29001 =>
((pR a 4 a1 v29001).bind fun s29002 =>
some (.inl (s29002, (a1 + (1 : Int32)))))))
def P_endThought (s : TS)  : Option (TS) :=
  ((loopN (fun w : TS × Int32 => B_endThought_2  w.1 w.2) 9000 (s, (0 : Int32))).bind fun b1 =>
((loopN (fun w : TS × Int32 => B_endThought_29  w.1 w.2) 9000 (b1, (0 : Int32))).bind fun b2 =>
some b2))
def B_totalMean_9  (a : TS) (a1 : UInt32) (a2 : Int32) : Option ((TS × UInt32 × Int32) ⊕ (TS × UInt32)) :=
  ((gA a 1 (3 : Int32)).bind fun v9001 =>
(if v9001 ≤ a2 then
some (.inr (a, a1)) else
((P_isClosed a (a2)).bind fun r9002 =>
(if r9002.2 = 0 then
some (.inl (r9002.1, a1, (a2 + (1 : Int32)))) else
((P_hasHad r9002.1 (a2)).bind fun r9003 =>
(if r9003.2 = 0 then
some (.inl (r9003.1, a1, (a2 + (1 : Int32)))) else
((P_featureOf r9003.1 (a2) ((1 : Int32))).bind fun r9004 =>
((oF (FP.fadd a1 r9004.2)).bind fun v9005 =>
some (.inl (r9004.1, v9005, (a2 + (1 : Int32))))))))))))
def P_totalMean (s : TS)  : Option (TS × UInt32) :=
  ((pI s 0 (0 : Int32)).bind fun s1 =>
((loopN (fun w : TS × UInt32 × Int32 => B_totalMean_9  w.1 w.2.1 w.2.2) 9000 (s1, FP.fconst0, (0 : Int32))).bind fun b2 =>
some (b2.1, b2.2)))
def P_undoCount (s : TS)  : Option (TS × Int32) :=
  ((pI s 0 (0 : Int32)).bind fun s1 =>
some (s1, (s1.1 23)))
def P_write (s : TS) (x1 : Int32) : Option (TS) :=
  ((pB s 24 (s.1 25) (x1).toInt8.toInt32).bind fun s1 =>
((pI s1 25 ((s1.1 25) + (1 : Int32))).bind fun s2 =>
some s2))
def B_writeNumber_2 (y1 : Int32) (a : TS) (a2 : Int32) : Option ((TS × Int32) ⊕ (TS × Int32)) :=
  ((oD y1 a2).bind fun v2001 =>
(if v2001 < (10 : Int32) then
some (.inr (a, a2)) else
some (.inl (a, (a2 * (10 : Int32))))))
def B_writeNumber_20 (y1 : Int32) (a : TS) (a3 : Int32) : Option ((TS × Int32) ⊕ (TS)) :=
  (if a3 ≤ 0 then
some (.inr (a)) else
((oD y1 a3).bind fun v20001 =>
((oM v20001 (10 : Int32)).bind fun v20002 =>
((P_write a (((48 : Int32) + v20002))).bind fun r20003 =>
((oD a3 (10 : Int32)).bind fun v20004 =>
some (.inl (r20003, v20004)))))))
def P_writeNumber (s : TS) (x1 : Int32) : Option (TS) :=
  ((loopN (fun w : TS × Int32 => B_writeNumber_2 (x1) w.1 w.2) 9000 (s, (1 : Int32))).bind fun b1 =>
((loopN (fun w : TS × Int32 => B_writeNumber_20 (x1) w.1 w.2) 9000 (b1.1, b1.2)).bind fun b2 =>
some b2))
def P_passes (s : TS) (x1 : Int32) : Option (TS × Int32) :=
  ((P_passes4 s (x1) ((1 : Int32)) ((1 : Int32)) ((1 : Int32))).bind fun r1 =>
((oZ r1.2).bind fun v2 => some (r1.1, v2)))
def P_truncate (s : TS) (x1 : Int32) : Option (TS) :=
  ((P_in s ((x1).toInt64) ((0 : Int64)) (((s.1 6)).toInt64)).bind fun r1 =>
((P_passes r1.1 (r1.2)).bind fun r2 =>
(if r2.2 = 0 then
some r2.1 else
((pI r2.1 6 x1).bind fun s3 =>
some s3))))
def B_scan_0  (a : TS) : Option ((TS) ⊕ (TS)) :=
  ((P_byteAt a ((a.1 8))).bind fun r1 =>
(if r1.2 = (32 : Int32) then
((pI r1.1 8 ((r1.1.1 8) + (1 : Int32))).bind fun s2 =>
some (.inl (s2))) else
((P_byteAt r1.1 ((r1.1.1 8))).bind fun r3 =>
(if r3.2 = (10 : Int32) then
((pI r3.1 8 ((r3.1.1 8) + (1 : Int32))).bind fun s4 =>
some (.inl (s4))) else
some (.inr (r3.1))))))
def B_scan_144  (a : TS) : Option ((TS) ⊕ (TS)) :=
  ((P_byteAt a ((a.1 8))).bind fun r144001 =>
((P_in r144001.1 ((r144001.2).toInt64) ((48 : Int64)) ((57 : Int64))).bind fun r144002 =>
(if r144002.2 = 0 then
some (.inr (r144002.1)) else
((P_byteAt r144002.1 ((r144002.1.1 8))).bind fun r144003 =>
((pI r144003.1 11 (pmin (999999 : Int32) ((((10 : Int32) * (r144002.1.1 11)) + r144003.2) - (48 : Int32)))).bind fun s144004 =>
((pI s144004 8 ((s144004.1 8) + (1 : Int32))).bind fun s144005 =>
some (.inl (s144005))))))))
def B_scan_83  (a : TS) : Option ((TS) ⊕ (TS)) :=
  ((P_byteAt a ((a.1 8))).bind fun r83001 =>
((P_in r83001.1 ((r83001.2).toInt64) ((97 : Int64)) ((122 : Int64))).bind fun r83002 =>
(if r83002.2 = 0 then
some (.inr (r83002.1)) else
((pI r83002.1 8 ((r83002.1.1 8) + (1 : Int32))).bind fun s83003 =>
some (.inl (s83003))))))
def P_scan (s : TS)  : Option (TS) :=
  ((loopN (fun w : TS => B_scan_0  w) 9000 (s)).bind fun b1 =>
((pI b1 9 (b1.1 8)).bind fun s2 =>
((P_byteAt s2 ((s2.1 8))).bind fun r3 =>
(if r3.2 = (-1 : Int32) then
((pI r3.1 10 (0 : Int32)).bind fun s14 =>
some s14) else
((P_in r3.1 ((r3.2).toInt64) ((97 : Int64)) ((122 : Int64))).bind fun r4 =>
(if r4.2 = 0 then
((P_in r4.1 ((r3.2).toInt64) ((48 : Int64)) ((57 : Int64))).bind fun r5 =>
(if r5.2 = 0 then
((pI r5.1 10 (3 : Int32)).bind fun s6 =>
((pI s6 11 r3.2).bind fun s7 =>
((pI s7 8 ((s7.1 8) + (1 : Int32))).bind fun s8 =>
some s8))) else
((pI r5.1 11 (0 : Int32)).bind fun s9 =>
((loopN (fun w : TS => B_scan_144  w) 9000 (s9)).bind fun b10 =>
((pI b10 10 (2 : Int32)).bind fun s11 =>
some s11))))) else
((loopN (fun w : TS => B_scan_83  w) 9000 (r4.1)).bind fun b12 =>
((pI b12 10 (1 : Int32)).bind fun s13 =>
some s13))))))))
def P_isText (s : TS) (x1 : Nat) : Option (TS × Int32) :=
  ((P_good s ).bind fun r1 =>
(((if r1.2 = 0 then
some (r1.1, (0 : Int32)) else
(if (r1.1.1 10) = (1 : Int32) then
((P_isWord r1.1 (x1)).bind fun r3 =>
(if r3.2 = 0 then
some (r3.1, (0 : Int32)) else
some (r3.1, (1 : Int32)))) else
some (r1.1, (0 : Int32))))).bind fun r2 =>
((oZ r2.2).bind fun v4 => some (r2.1, v4))))
def P_goOn (s : TS)  : Option (TS) :=
  ((P_good s ).bind fun r1 =>
(if r1.2 = 0 then
some r1.1 else
((P_scan r1.1 ).bind fun r2 =>
some r2)))
def P_number (s : TS) (x1 : Int32) (x2 : Int32) : Option (TS × Int32) :=
  ((P_good s ).bind fun r1 =>
(((if r1.2 = 0 then
some r1.1 else
(if (r1.1.1 10) = (2 : Int32) then
some r1.1 else
((P_errs r1.1 ((1 : Int32))).bind fun r3 =>
some r3)))).bind fun r2 =>
((P_good r2 ).bind fun r4 =>
(((if r4.2 = 0 then
some r4.1 else
((P_in r4.1 (((r4.1.1 11)).toInt64) ((x1).toInt64) ((x2).toInt64)).bind fun r6 =>
(if r6.2 = 0 then
((P_errs r6.1 ((2 : Int32))).bind fun r7 =>
some r7) else
some r6.1)))).bind fun r5 =>
((P_good r5 ).bind fun r8 =>
(((if r8.2 = 0 then
some (r8.1, x1) else
some (r8.1, (r8.1.1 11)))).bind fun r9 =>
((P_goOn r9.1 ).bind fun r10 =>
some (r10, r9.2))))))))
def P_semicolon (s : TS)  : Option (TS) :=
  ((P_isSymbol s ((59 : Int32))).bind fun r1 =>
(if r1.2 = 0 then
((P_errs r1.1 ((1 : Int32))).bind fun r3 =>
((P_goOn r3 ).bind fun r4 =>
some r4)) else
((P_goOn r1.1 ).bind fun r2 =>
some r2)))
def P_isKeyword (s : TS)  : Option (TS × Int32) :=
  ((P_isWord s (23)).bind fun r1 =>
(((if r1.2 = 0 then
((P_isWord r1.1 (24)).bind fun r3 =>
(if r3.2 = 0 then
((P_isWord r3.1 (25)).bind fun r4 =>
(if r4.2 = 0 then
((P_isWord r4.1 (26)).bind fun r5 =>
(if r5.2 = 0 then
((P_isWord r5.1 (28)).bind fun r6 =>
(if r6.2 = 0 then
((P_isWord r6.1 (37)).bind fun r7 =>
(if r7.2 = 0 then
((P_isWord r7.1 (38)).bind fun r8 =>
(if r8.2 = 0 then
((P_isWord r8.1 (39)).bind fun r9 =>
(if r9.2 = 0 then
some (r9.1, (0 : Int32)) else
some (r9.1, (1 : Int32)))) else
some (r8.1, (1 : Int32)))) else
some (r7.1, (1 : Int32)))) else
some (r6.1, (1 : Int32)))) else
some (r5.1, (1 : Int32)))) else
some (r4.1, (1 : Int32)))) else
some (r3.1, (1 : Int32)))) else
some (r1.1, (1 : Int32)))).bind fun r2 =>
((P_isWord r2.1 (40)).bind fun r10 =>
(((if r10.2 = 0 then
((P_isWord r10.1 (41)).bind fun r12 =>
(if r12.2 = 0 then
((P_isWord r12.1 (42)).bind fun r13 =>
(if r13.2 = 0 then
((P_isWord r13.1 (43)).bind fun r14 =>
(if r14.2 = 0 then
((P_isWord r14.1 (33)).bind fun r15 =>
(if r15.2 = 0 then
((P_isWord r15.1 (34)).bind fun r16 =>
(if r16.2 = 0 then
((P_isWord r16.1 (44)).bind fun r17 =>
(if r17.2 = 0 then
((P_isWord r17.1 (45)).bind fun r18 =>
(if r18.2 = 0 then
some (r18.1, (0 : Int32)) else
some (r18.1, (1 : Int32)))) else
some (r17.1, (1 : Int32)))) else
some (r16.1, (1 : Int32)))) else
some (r15.1, (1 : Int32)))) else
some (r14.1, (1 : Int32)))) else
some (r13.1, (1 : Int32)))) else
some (r12.1, (1 : Int32)))) else
some (r10.1, (1 : Int32)))).bind fun r11 =>
(((if r2.2 = 0 then
(if r11.2 = 0 then
((P_isWord r11.1 (35)).bind fun r20 =>
(if r20.2 = 0 then
((P_isWord r20.1 (36)).bind fun r21 =>
(if r21.2 = 0 then
((P_isWord r21.1 (46)).bind fun r22 =>
(if r22.2 = 0 then
((P_isWord r22.1 (47)).bind fun r23 =>
(if r23.2 = 0 then
((P_featureHere r23.1 ).bind fun r24 =>
(if r24.2 = (-1 : Int32) then
((P_kindHere r24.1 ).bind fun r25 =>
(if r25.2 = (-1 : Int32) then
some (r25.1, (0 : Int32)) else
some (r25.1, (1 : Int32)))) else
some (r24.1, (1 : Int32)))) else
some (r23.1, (1 : Int32)))) else
some (r22.1, (1 : Int32)))) else
some (r21.1, (1 : Int32)))) else
some (r20.1, (1 : Int32)))) else
some (r11.1, (1 : Int32))) else
some (r11.1, (1 : Int32)))).bind fun r19 =>
((oZ r19.2).bind fun v26 => some (r19.1, v26)))))))
def B_thingNamed_33 (y1 : Int32) (y2 : Int32) (y3 : Int32) (y4 : Int32) (a : TS) (a5 : Int32) (a6 : Int32) : Option ((TS × Int32 × Int32) ⊕ (TS × Int32)) :=
  (if (6 : Int32) ≤ a6 then
some (.inr (a, a5)) else
(if a5 = 0 then
some (.inr (a, a5)) else
((gA a a.2.2.2 ((y1 + (y2 * y4)) + a6)).bind fun v33001 =>
((P_letter a (a6)).bind fun r33002 =>
(((if v33001 = r33002.2 then
some (r33002.1, (1 : Int32)) else
some (r33002.1, (0 : Int32)))).bind fun r33003 =>
some (.inl (r33003.1, r33003.2, (a6 + (1 : Int32)))))))))
def B_thingNamed_3 (y1 : Int32) (y2 : Int32) (y3 : Int32) (a : TS) (a4 : Int32) : Option ((TS × Int32) ⊕ (TS × Int32)) :=
  (if y3 ≤ a4 then
some (.inr (a, (-1 : Int32))) else
(((if (6 : Int32) < ((a.1 8) - (a.1 9)) then
some (a, (0 : Int32)) else
some (a, (1 : Int32)))).bind fun r3001 =>
((loopN (fun w : TS × Int32 × Int32 => B_thingNamed_33 (y1) (y2) (y3) (a4) w.1 w.2.1 w.2.2) 9000 (r3001.1, r3001.2, (0 : Int32))).bind fun b3002 =>
(if b3002.2 = 0 then
some (.inl (b3002.1, (a4 + (1 : Int32)))) else
some (.inr (b3002.1, a4))))))
def P_thingNamed (s : TS) (x1 : Int32) (x2 : Int32) (x3 : Int32) : Option (TS × Int32) :=
  (loopN (fun w : TS × Int32 => B_thingNamed_3 (x1) (x2) (x3) w.1 w.2) 9000 (s, (0 : Int32)))
def P_loadNamed (s : TS)  : Option (TS × Int32) :=
  ((gA s s.2.2.2 (4 : Int32)).bind fun v1 =>
((P_thingNamed s ((337 : Int32)) ((12 : Int32)) (v1)).bind fun r2 =>
some (r2.1, r2.2)))
def P_signatureNamed (s : TS)  : Option (TS × Int32) :=
  ((gA s s.2.2.2 (5 : Int32)).bind fun v1 =>
((P_thingNamed s ((478 : Int32)) ((27 : Int32)) (v1)).bind fun r2 =>
some (r2.1, r2.2)))
def P_nuisanceNamed (s : TS)  : Option (TS × Int32) :=
  ((gA s s.2.2.2 (6 : Int32)).bind fun v1 =>
((P_thingNamed s ((640 : Int32)) ((27 : Int32)) (v1)).bind fun r2 =>
some (r2.1, r2.2)))
def P_parseSeed (s : TS)  : Option (TS) :=
  (((if (s.1 14) = 0 then
some s else
((P_errs s ((3 : Int32))).bind fun r2 =>
some r2))).bind fun r1 =>
((pZ r1 14 (1 : Int32)).bind fun s3 =>
((P_goOn s3 ).bind fun r4 =>
((P_number r4 ((0 : Int32)) ((99999 : Int32))).bind fun r5 =>
((pA r5.1 r4.2.2.2 (9 : Int32) r5.2).bind fun s6 =>
((P_semicolon s6 ).bind fun r7 =>
some r7))))))
def P_takes (s : TS) (x1 : Nat) : Option (TS × Int32) :=
  ((P_isText s (x1)).bind fun r1 =>
(if r1.2 = 0 then
((oZ r1.2).bind fun v2 => some (r1.1, v2)) else
((P_goOn r1.1 ).bind fun r3 =>
((oZ r1.2).bind fun v4 => some (r3, v4)))))
def P_parseTest (s : TS) (x1 : Int32) : Option (TS) :=
  ((P_good s ).bind fun r1 =>
(((if r1.2 = 0 then
some (r1.1, (-1 : Int32)) else
(if (r1.1.1 10) = (1 : Int32) then
((P_featureHere r1.1 ).bind fun r3 =>
some (r3.1, r3.2)) else
some (r1.1, (-1 : Int32))))).bind fun r2 =>
(((if r2.2 = (-1 : Int32) then
((P_errs r2.1 ((1 : Int32))).bind fun r5 =>
some r5) else
some r2.1)).bind fun r4 =>
((gA r4 r4.2.2.2 (x1 + (1 : Int32))).bind fun v6 =>
(((if v6 = (6 : Int32) then
((P_errs r4 ((4 : Int32))).bind fun r8 =>
some r8) else
some r4)).bind fun r7 =>
((P_goOn r7 ).bind fun r9 =>
((P_isSymbol r9 ((60 : Int32))).bind fun r10 =>
(((if r10.2 = 0 then
((P_isSymbol r10.1 ((62 : Int32))).bind fun r12 =>
(if r12.2 = 0 then
((P_errs r12.1 ((1 : Int32))).bind fun r13 =>
some r13) else
some r12.1)) else
some r10.1)).bind fun r11 =>
((P_goOn r11 ).bind fun r14 =>
((P_number r14 ((0 : Int32)) ((99999 : Int32))).bind fun r15 =>
((P_good r15.1 ).bind fun r16 =>
(if r16.2 = 0 then
some r16.1 else
((pA r16.1 r16.1.2.2.2 ((x1 + (9 : Int32)) + ((3 : Int32) * v6)) r2.2).bind fun s17 =>
((pA s17 s17.2.2.2 (((x1 + (9 : Int32)) + ((3 : Int32) * v6)) + (1 : Int32)) (r9.1 11)).bind fun s18 =>
((pA s18 s18.2.2.2 (((x1 + (9 : Int32)) + ((3 : Int32) * v6)) + (2 : Int32)) r15.2).bind fun s19 =>
((gA s19 s19.2.2.2 (x1 + (1 : Int32))).bind fun v20 =>
((pA s19 s19.2.2.2 (x1 + (1 : Int32)) (v20 + (1 : Int32))).bind fun s21 =>
some s21)))))))))))))))))
def P_count (s : TS) (x1 : Int32) : Option (TS × Int32) :=
  ((P_in s ((x1).toInt64) ((0 : Int64)) ((7 : Int64))).bind fun r1 =>
((P_passes r1.1 (r1.2)).bind fun r2 =>
(if r2.2 = 0 then
some (r2.1, (0 : Int32)) else
(if x1 = (0 : Int32) then
((gA r2.1 1 (3 : Int32)).bind fun v3 =>
some (r2.1, v3)) else
(if x1 = (1 : Int32) then
((gA r2.1 1 (4 : Int32)).bind fun v4 =>
some (r2.1, v4)) else
(if x1 = (2 : Int32) then
((gA r2.1 1 (5 : Int32)).bind fun v5 =>
some (r2.1, v5)) else
(if x1 = (3 : Int32) then
((gA r2.1 1 (6 : Int32)).bind fun v6 =>
some (r2.1, v6)) else
(if x1 = (4 : Int32) then
((gA r2.1 1 (7 : Int32)).bind fun v7 =>
some (r2.1, v7)) else
(if x1 = (5 : Int32) then
((gA r2.1 1 (0 : Int32)).bind fun v8 =>
some (r2.1, v8)) else
(if x1 = (6 : Int32) then
((gA r2.1 1 (1 : Int32)).bind fun v9 =>
some (r2.1, v9)) else
((gA r2.1 1 (2 : Int32)).bind fun v10 =>
some (r2.1, v10))))))))))))
def P_rated (s : TS) (x1 : Int32) : Option (TS × Int32) :=
  ((P_isBranch s (x1)).bind fun r1 =>
((P_passes r1.1 (r1.2)).bind fun r2 =>
(((if r2.2 = 0 then
some (r2.1, (0 : Int32)) else
((P_ofBranch r2.1 (x1) ((0 : Int32))).bind fun r4 =>
some (r4.1, r4.2)))).bind fun r3 =>
some (r3.1, r3.2))))
def P_loadOf (s : TS) (x1 : Int32) (x2 : Int32) : Option (TS × Int32) :=
  ((P_isLoad s (x1)).bind fun r1 =>
((P_in r1.1 ((x2).toInt64) ((0 : Int64)) ((4 : Int64))).bind fun r2 =>
((P_passes2 r2.1 (r1.2) (r2.2)).bind fun r3 =>
(((if r3.2 = 0 then
some (r3.1, (0 : Int32)) else
((P_ofLoad r3.1 (x1) (x2)).bind fun r5 =>
some (r5.1, r5.2)))).bind fun r4 =>
some (r4.1, r4.2)))))
def P_isOn (s : TS) (x1 : Int32) : Option (TS × Int32) :=
  ((P_isLoad s (x1)).bind fun r1 =>
((P_passes r1.1 (r1.2)).bind fun r2 =>
(((if r2.2 = 0 then
some (r2.1, (0 : Int32)) else
((P_ofLoad r2.1 (x1) ((5 : Int32))).bind fun r4 =>
(if r4.2 = (1 : Int32) then
some (r4.1, (1 : Int32)) else
some (r4.1, (0 : Int32)))))).bind fun r3 =>
((oZ r3.2).bind fun v5 => some (r3.1, v5)))))
def P_setOn (s : TS) (x1 : Int32) (x2 : Int32) : Option (TS × Int32) :=
  ((P_isLoad s (x1)).bind fun r1 =>
((P_passes r1.1 (r1.2)).bind fun r2 =>
(if r2.2 = 0 then
some (r2.1, (0 : Int32)) else
((P_remember r2.1 ).bind fun r3 =>
((P_ofLoad r3 (x1) ((5 : Int32))).bind fun r4 =>
(((if r4.2 = (1 : Int32) then
some (r4.1, (1 : Int32)) else
some (r4.1, (0 : Int32)))).bind fun r5 =>
(((if x2 = 0 then
some (r5.1, (0 : Int32)) else
some (r5.1, (1 : Int32)))).bind fun r6 =>
((P_setLoad r6.1 (x1) ((5 : Int32)) (r6.2)).bind fun r7 =>
((oZ r5.2).bind fun v8 => some (r7, v8))))))))))
def P_plan (s : TS) (x1 : Int32) (x2 : Int32) (x3 : Int32) : Option (TS × Int32) :=
  ((P_isLoad s (x1)).bind fun r1 =>
((gA r1.1 1 (8 : Int32)).bind fun v2 =>
((P_in r1.1 ((x2).toInt64) (((v2 + (1 : Int32))).toInt64) ((100000 : Int64))).bind fun r3 =>
((gA r3.1 1 (7 : Int32)).bind fun v4 =>
(((if (20 : Int32) ≤ v4 then
some (r3.1, (0 : Int32)) else
some (r3.1, (1 : Int32)))).bind fun r5 =>
((P_passes3 r5.1 (r1.2) (r3.2) (r5.2)).bind fun r6 =>
(if r6.2 = 0 then
some (r6.1, (0 : Int32)) else
((P_remember r6.1 ).bind fun r7 =>
(((if x3 = 0 then
some (r7, (0 : Int32)) else
some (r7, (1 : Int32)))).bind fun r8 =>
((P_layPlan r8.1 (x2) (x1) (r8.2)).bind fun r9 =>
((gA r9 1 (7 : Int32)).bind fun v10 =>
some (r9, v10))))))))))))
def B_nextSwitch_18 (y1 : Int32) (a : TS) (a2 : Int32) (a3 : Int32) : Option ((TS × Int32 × Int32) ⊕ (TS × Int32)) :=
  ((gA a 1 (7 : Int32)).bind fun v18001 =>
(if v18001 ≤ a3 then
some (.inr (a, a2)) else
((gA a 1 ((853 : Int32) + ((3 : Int32) * a3))).bind fun v18002 =>
((gA a 1 (((853 : Int32) + ((3 : Int32) * a3)) + (1 : Int32))).bind fun v18003 =>
(if v18003 = y1 then
(if a2 = (-1 : Int32) then
some (.inl (a, v18002, (a3 + (1 : Int32)))) else
(if a2 ≤ v18002 then
some (.inl (a, a2, (a3 + (1 : Int32)))) else
some (.inl (a, v18002, (a3 + (1 : Int32)))))) else
some (.inl (a, a2, (a3 + (1 : Int32)))))))))
def P_nextSwitch (s : TS) (x1 : Int32) : Option (TS × Int32) :=
  ((P_isLoad s (x1)).bind fun r1 =>
((P_passes r1.1 (r1.2)).bind fun r2 =>
(if r2.2 = 0 then
some (r2.1, (0 : Int32)) else
((loopN (fun w : TS × Int32 × Int32 => B_nextSwitch_18 (x1) w.1 w.2.1 w.2.2) 9000 (r2.1, (-1 : Int32), (0 : Int32))).bind fun b3 =>
some (b3.1, b3.2)))))
def P_state (s : TS) (x1 : Int32) : Option (TS × Int32) :=
  ((P_isBranch s (x1)).bind fun r1 =>
((P_passes r1.1 (r1.2)).bind fun r2 =>
(((if r2.2 = 0 then
some (r2.1, (0 : Int32)) else
((P_ofBranch r2.1 (x1) ((1 : Int32))).bind fun r4 =>
some (r4.1, r4.2)))).bind fun r3 =>
some (r3.1, r3.2))))
def B_drawArcs_2  (a : TS) (a1 : Int32) : Option ((TS × Int32) ⊕ (TS)) :=
  ((gA a 1 (4 : Int32)).bind fun v2001 =>
(if v2001 ≤ a1 then
some (.inr (a)) else
((P_ofLoad a (a1) ((0 : Int32))).bind fun r2002 =>
(((if r2002.2 = (3 : Int32) then
((P_ofLoad r2002.1 (a1) ((5 : Int32))).bind fun r2004 =>
(if r2004.2 = 0 then
some r2004.1 else
((P_ofLoad r2004.1 (a1) ((1 : Int32))).bind fun r2005 =>
((P_isClosed r2005.1 (r2005.2)).bind fun r2006 =>
(if r2006.2 = 0 then
some r2006.1 else
((P_draw r2006.1 ).bind fun r2007 =>
((P_ofLoad r2007.1 (a1) ((4 : Int32))).bind fun r2008 =>
(((if r2008.2 ≤ r2007.2 then
some (r2008.1, (0 : Int32)) else
some (r2008.1, (1 : Int32)))).bind fun r2009 =>
((pB r2009.1 15 a1 r2009.2).bind fun s2010 =>
((P_ofLoad s2010 (a1) ((3 : Int32))).bind fun r2011 =>
((P_draw r2011.1 ).bind fun r2012 =>
((oM r2012.2 (3 : Int32)).bind fun v2013 =>
((pA r2012.1 16 a1 (r2011.2 + v2013)).bind fun s2014 =>
((P_draw s2014 ).bind fun r2015 =>
((oM r2015.2 (21 : Int32)).bind fun v2016 =>
((oF (FP.fdiv (FP.i2f ((80 : Int32) + v2016)) (1120403456 : UInt32))).bind fun v2017 =>
((pR r2015.1 17 a1 v2017).bind fun s2018 =>
some s2018))))))))))))))))) else
some r2002.1)).bind fun r2003 =>
some (.inl (r2003, (a1 + (1 : Int32))))))))
def P_drawArcs (s : TS)  : Option (TS) :=
  ((loopN (fun w : TS × Int32 => B_drawArcs_2  w.1 w.2) 9000 (s, (0 : Int32))).bind fun b1 =>
some b1)
def P_plainAt (s : TS) (x1 : Int32) (x2 : Int32) : Option (TS × UInt32) :=
  ((P_ofLoad s (x1) ((2 : Int32))).bind fun r1 =>
((P_ofLoad r1.1 (x1) ((3 : Int32))).bind fun r2 =>
((P_ofLoad r2.1 (x1) ((0 : Int32))).bind fun r3 =>
(if r3.2 = (0 : Int32) then
((P_shape r3.1 (x2)).bind fun r4 =>
((oF (FP.fmul (FP.i2f r1.2) r4.2)).bind fun v5 =>
some (r4.1, v5))) else
(if r3.2 = (1 : Int32) then
(((if x2 < r2.2 then
((gA r3.1 1 (0 : Int32)).bind fun v7 =>
((P_shape r3.1 (((x2 - r2.2) + v7))).bind fun r8 =>
((oF (FP.fmul (FP.i2f r1.2) r8.2)).bind fun v9 =>
((oF (FP.fsub FP.fconst0 v9)).bind fun v10 =>
some (r8.1, v10))))) else
((P_shape r3.1 ((x2 - r2.2))).bind fun r11 =>
((oF (FP.fmul (FP.i2f r1.2) r11.2)).bind fun v12 =>
some (r11.1, v12))))).bind fun r6 =>
some (r6.1, r6.2)) else
(if r3.2 = (2 : Int32) then
(((if r2.2 ≤ x2 then
((P_shape r3.1 (x2)).bind fun r14 =>
((oF (FP.fmul (FP.i2f r1.2) r14.2)).bind fun v15 =>
some (r14.1, v15))) else
some (r3.1, FP.fconst0))).bind fun r13 =>
some (r13.1, r13.2)) else
((P_arcAt r3.1 (x1) (x2) (r2.2) (FP.fconst1)).bind fun r16 =>
some (r16.1, r16.2))))))))
def B_layFeatures_43 (y1 : Int32) (y2 : Int32) (y3 : Int32) (y4 : UInt32) (a : TS) (a5 : UInt32) (a6 : UInt32) (a7 : UInt32) (a8 : UInt32) (a9 : UInt32) (a10 : Int32) : Option ((TS × UInt32 × UInt32 × UInt32 × UInt32 × UInt32 × Int32) ⊕ (TS × UInt32 × UInt32 × UInt32 × UInt32)) :=
  (if y3 ≤ a10 then
some (.inr (a, a5, a6, a7, a8)) else
((gR a 4 (y2 + a10)).bind fun v43001 =>
((P_size a (v43001)).bind fun r43002 =>
(((if (Op.cmpValue (FP.fcmp r43002.2 a5) .l) ≤ 0 then
some (r43002.1, a5) else
((P_size r43002.1 (v43001)).bind fun r43004 =>
some (r43004.1, r43004.2)))).bind fun r43003 =>
((oF (FP.fsub v43001 a9)).bind fun v43005 =>
((P_size r43003.1 (v43005)).bind fun r43006 =>
(((if (Op.cmpValue (FP.fcmp r43006.2 a8) .l) ≤ 0 then
some (r43006.1, a8) else
((oF (FP.fsub v43001 a9)).bind fun v43008 =>
((P_size r43006.1 (v43008)).bind fun r43009 =>
some (r43009.1, r43009.2))))).bind fun r43007 =>
((P_size r43007.1 (v43001)).bind fun r43010 =>
((oF (FP.fadd a6 r43010.2)).bind fun v43011 =>
((oF (FP.fmul v43001 v43001)).bind fun v43012 =>
((oF (FP.fadd a7 v43012)).bind fun v43013 =>
some (.inl (r43010.1, r43003.2, v43011, v43013, r43007.2, v43001, (a10 + (1 : Int32)))))))))))))))
def B_layFeatures_148 (y1 : Int32) (y2 : Int32) (y3 : Int32) (y4 : UInt32) (y5 : UInt32) (y6 : UInt32) (y7 : UInt32) (y8 : UInt32) (a : TS) (a10 : Int32) (a11 : Int32) : Option ((TS × Int32 × Int32) ⊕ (TS × Int32)) :=
  (if y3 ≤ a11 then
some (.inr (a, a10)) else
((gR a 4 (y2 + a11)).bind fun v148001 =>
((P_size a (v148001)).bind fun r148002 =>
((oF (FP.fmul y5 (1028443341 : UInt32))).bind fun v148003 =>
(((if 0 < (Op.cmpValue (FP.fcmp r148002.2 v148003) .g) then
some (r148002.1, (0 : Int32)) else
some (r148002.1, (1 : Int32)))).bind fun r148004 =>
some (.inl (r148004.1, (a10 + r148004.2), (a11 + (1 : Int32)))))))))
def P_layFeatures (s : TS) (x1 : Int32) : Option (TS) :=
  ((gA s 1 (0 : Int32)).bind fun v1 =>
((gR s 4 ((((38 : Int32) * x1) + (32 : Int32)) + (1 : Int32))).bind fun v2 =>
((loopN (fun w : TS × UInt32 × UInt32 × UInt32 × UInt32 × UInt32 × Int32 => B_layFeatures_43 (x1) (((38 : Int32) * x1)) (v1) (v2) w.1 w.2.1 w.2.2.1 w.2.2.2.1 w.2.2.2.2.1 w.2.2.2.2.2.1 w.2.2.2.2.2.2) 9000 (s, FP.fconst0, FP.fconst0, FP.fconst0, FP.fconst0, FP.fconst0, (0 : Int32))).bind fun b3 =>
((loopN (fun w : TS × Int32 × Int32 => B_layFeatures_148 (x1) (((38 : Int32) * x1)) (v1) (v2) (b3.2.1) (b3.2.2.1) (b3.2.2.2.1) (b3.2.2.2.2) w.1 w.2.1 w.2.2) 9000 (b3.1, (0 : Int32), (0 : Int32))).bind fun b4 =>
((oF (FP.fdiv b3.2.2.1 (FP.i2f v1))).bind fun v5 =>
((pR b4.1 4 ((((38 : Int32) * x1) + (32 : Int32)) + (0 : Int32)) b3.2.1).bind fun s6 =>
((pR s6 4 ((((38 : Int32) * x1) + (32 : Int32)) + (1 : Int32)) v5).bind fun s7 =>
((pR s7 4 ((((38 : Int32) * x1) + (32 : Int32)) + (2 : Int32)) (FP.i2f b4.2)).bind fun s8 =>
((pR s8 4 ((((38 : Int32) * x1) + (32 : Int32)) + (3 : Int32)) b3.2.2.2.2).bind fun s9 =>
((P_ofBranch s9 (x1) ((5 : Int32))).bind fun r10 =>
(((if r10.2 = 0 then
some (r10.1, FP.fconst0) else
((oF (FP.fsub v5 v2)).bind fun v12 =>
((P_size r10.1 (v12)).bind fun r13 =>
some (r13.1, r13.2))))).bind fun r11 =>
((pR r11.1 4 ((((38 : Int32) * x1) + (32 : Int32)) + (4 : Int32)) r11.2).bind fun s14 =>
((oF (FP.fdiv b3.2.2.2.1 (FP.i2f v1))).bind fun v15 =>
((pR s14 4 ((((38 : Int32) * x1) + (32 : Int32)) + (5 : Int32)) v15).bind fun s16 =>
some s16))))))))))))))
def B_matchAll_5 (y1 : Int32) (y2 : Int32) (a : TS) (a3 : Int32) (a4 : Int32) : Option ((TS × Int32 × Int32) ⊕ (TS × Int32)) :=
  (if y2 ≤ a4 then
some (.inr (a, a3)) else
((P_holds a ((y1 + ((27 : Int32) * a4)))).bind fun r5001 =>
(if r5001.2 = 0 then
some (.inl (r5001.1, a3, (a4 + (1 : Int32)))) else
((gA r5001.1 r5001.1.2.2.2 ((y1 + ((27 : Int32) * a4)) + (2 : Int32))).bind fun v5002 =>
((pA r5001.1 r5001.1.2.2.2 ((y1 + ((27 : Int32) * a4)) + (2 : Int32)) (v5002 + (1 : Int32))).bind fun s5003 =>
some (.inl (s5003, (a3 ||| ((1 : Int32) <<< (a4 &&& 31))), (a4 + (1 : Int32)))))))))
def P_matchAll (s : TS) (x1 : Int32) (x2 : Int32) : Option (TS × Int32) :=
  ((loopN (fun w : TS × Int32 × Int32 => B_matchAll_5 (x1) (x2) w.1 w.2.1 w.2.2) 9000 (s, (0 : Int32), (0 : Int32))).bind fun b1 =>
some (b1.1, b1.2))
def B_firstOf_2 (y1 : Int32) (y2 : Int32) (a : TS) (a3 : Int32) : Option ((TS × Int32) ⊕ (TS × Int32)) :=
  ((gA a 1 (5 : Int32)).bind fun v2001 =>
(if v2001 ≤ a3 then
some (.inr (a, (-1 : Int32))) else
(if ((y1 >>> (a3 &&& 31)) &&& (1 : Int32)) = (1 : Int32) then
(if y2 = 0 then
some (.inr (a, a3)) else
((P_isAlwaysOne a (a3)).bind fun r2002 =>
(if r2002.2 = 0 then
some (.inl (r2002.1, (a3 + (1 : Int32)))) else
some (.inr (r2002.1, a3))))) else
some (.inl (a, (a3 + (1 : Int32)))))))
def P_firstOf (s : TS) (x1 : Int32) (x2 : Int32) : Option (TS × Int32) :=
  (loopN (fun w : TS × Int32 => B_firstOf_2 (x1) (x2) w.1 w.2) 9000 (s, (0 : Int32)))
def B_trip_169 (y1 : Int32) (y3 : Int32) (a : TS) (a4 : Int32) (a5 : Int32) : Option ((TS × Int32 × Int32) ⊕ (TS × Int32)) :=
  (if a5 < 0 then
some (.inr (a, a4)) else
((P_ofBranch a (y1) (((16 : Int32) + a5))).bind fun r169001 =>
(if r169001.2 = 0 then
some (.inl (r169001.1, a4, (a5 + (-1 : Int32)))) else
((gA r169001.1 1 (8 : Int32)).bind fun v169002 =>
((pA r169001.1 1 ((y3 + (5 : Int32)) + a4) (v169002 - a5)).bind fun s169003 =>
some (.inl (s169003, (a4 + (1 : Int32)), (a5 + (-1 : Int32)))))))))
def B_trip_14 (y1 : Int32) (y2 : Int32) (a : TS) (a3 : Int32) : Option ((TS × Int32) ⊕ (TS)) :=
  (if (483 : Int32) ≤ a3 then
some (.inr (a)) else
((gA a 1 ((982 : Int32) + a3)).bind fun v14001 =>
((pA a 1 ((913 : Int32) + a3) v14001).bind fun s14002 =>
some (.inl (s14002, (a3 + (1 : Int32)))))))
def B_trip_49 (y1 : Int32) (y2 : Int32) (a : TS) (a3 : Int32) : Option ((TS × Int32) ⊕ (TS)) :=
  (if (7 : Int32) ≤ a3 then
some (.inr (a)) else
((gR a 4 (((152 : Int32) + a3) + (1 : Int32))).bind fun v49001 =>
((pR a 4 ((152 : Int32) + a3) v49001).bind fun s49002 =>
some (.inl (s49002, (a3 + (1 : Int32)))))))
def P_trip (s : TS) (x1 : Int32) (x2 : Int32) : Option (TS) :=
  ((gA s 1 (10 : Int32)).bind fun v1 =>
(if v1 = (8 : Int32) then
((loopN (fun w : TS × Int32 => B_trip_14 (x1) (x2) w.1 w.2) 9000 (s, (0 : Int32))).bind fun b23 =>
((loopN (fun w : TS × Int32 => B_trip_49 (x1) (x2) w.1 w.2) 9000 (b23, (0 : Int32))).bind fun b24 =>
((gA b24 1 (10 : Int32)).bind fun v25 =>
((pA b24 1 (10 : Int32) (v25 - (1 : Int32))).bind fun s26 =>
((gA s26 1 (10 : Int32)).bind fun v27 =>
((gA s26 1 (8 : Int32)).bind fun v28 =>
((pA s26 1 (((913 : Int32) + ((69 : Int32) * v27)) + (0 : Int32)) v28).bind fun s29 =>
((pA s29 1 (((913 : Int32) + ((69 : Int32) * v27)) + (1 : Int32)) x1).bind fun s30 =>
((pA s30 1 (((913 : Int32) + ((69 : Int32) * v27)) + (2 : Int32)) x2).bind fun s31 =>
((P_ofBranch s31 (x1) ((9 : Int32))).bind fun r32 =>
((pA r32.1 1 (((913 : Int32) + ((69 : Int32) * v27)) + (3 : Int32)) r32.2).bind fun s33 =>
((P_windowOf s33 (x1)).bind fun r34 =>
((loopN (fun w : TS × Int32 × Int32 => B_trip_169 (x1) (((913 : Int32) + ((69 : Int32) * v27))) w.1 w.2.1 w.2.2) 9000 (r34.1, (0 : Int32), (r34.2 - (1 : Int32)))).bind fun b35 =>
((pA b35.1 1 (((913 : Int32) + ((69 : Int32) * v27)) + (4 : Int32)) b35.2).bind fun s36 =>
((gA s36 1 (10 : Int32)).bind fun v37 =>
((P_featureOf s36 (x1) ((0 : Int32))).bind fun r38 =>
((pR r38.1 4 ((152 : Int32) + v37) r38.2).bind fun s39 =>
((gA s39 1 (10 : Int32)).bind fun v40 =>
((pA s39 1 (10 : Int32) (v40 + (1 : Int32))).bind fun s41 =>
((P_ofBranch s41 (x1) ((2 : Int32))).bind fun r42 =>
((P_setBranch r42.1 (x1) ((2 : Int32)) ((r42.2 + (1 : Int32)))).bind fun r43 =>
(((if (r42.2 + (1 : Int32)) < (3 : Int32) then
some (r43, (1 : Int32)) else
some (r43, (2 : Int32)))).bind fun r44 =>
((P_setBranch r44.1 (x1) ((1 : Int32)) (r44.2)).bind fun r45 =>
((P_setBranch r45 (x1) ((3 : Int32)) ((0 : Int32))).bind fun r46 =>
((P_setBranch r46 (x1) ((5 : Int32)) ((0 : Int32))).bind fun r47 =>
some r47))))))))))))))))))))))))) else
((gA s 1 (10 : Int32)).bind fun v2 =>
((gA s 1 (8 : Int32)).bind fun v3 =>
((pA s 1 (((913 : Int32) + ((69 : Int32) * v2)) + (0 : Int32)) v3).bind fun s4 =>
((pA s4 1 (((913 : Int32) + ((69 : Int32) * v2)) + (1 : Int32)) x1).bind fun s5 =>
((pA s5 1 (((913 : Int32) + ((69 : Int32) * v2)) + (2 : Int32)) x2).bind fun s6 =>
((P_ofBranch s6 (x1) ((9 : Int32))).bind fun r7 =>
((pA r7.1 1 (((913 : Int32) + ((69 : Int32) * v2)) + (3 : Int32)) r7.2).bind fun s8 =>
((P_windowOf s8 (x1)).bind fun r9 =>
((loopN (fun w : TS × Int32 × Int32 => B_trip_169 (x1) (((913 : Int32) + ((69 : Int32) * v2))) w.1 w.2.1 w.2.2) 9000 (r9.1, (0 : Int32), (r9.2 - (1 : Int32)))).bind fun b10 =>
((pA b10.1 1 (((913 : Int32) + ((69 : Int32) * v2)) + (4 : Int32)) b10.2).bind fun s11 =>
((gA s11 1 (10 : Int32)).bind fun v12 =>
((P_featureOf s11 (x1) ((0 : Int32))).bind fun r13 =>
((pR r13.1 4 ((152 : Int32) + v12) r13.2).bind fun s14 =>
((gA s14 1 (10 : Int32)).bind fun v15 =>
((pA s14 1 (10 : Int32) (v15 + (1 : Int32))).bind fun s16 =>
((P_ofBranch s16 (x1) ((2 : Int32))).bind fun r17 =>
((P_setBranch r17.1 (x1) ((2 : Int32)) ((r17.2 + (1 : Int32)))).bind fun r18 =>
(((if (r17.2 + (1 : Int32)) < (3 : Int32) then
some (r18, (1 : Int32)) else
some (r18, (2 : Int32)))).bind fun r19 =>
((P_setBranch r19.1 (x1) ((1 : Int32)) (r19.2)).bind fun r20 =>
((P_setBranch r20 (x1) ((3 : Int32)) ((0 : Int32))).bind fun r21 =>
((P_setBranch r21 (x1) ((5 : Int32)) ((0 : Int32))).bind fun r22 =>
some r22)))))))))))))))))))))))
def P_sample (s : TS) (x1 : Int32) (x2 : Int32) : Option (TS × UInt32) :=
  ((P_isBranch s (x1)).bind fun r1 =>
((gA r1.1 1 (0 : Int32)).bind fun v2 =>
((P_in r1.1 ((x2).toInt64) ((0 : Int64)) (((v2 - (1 : Int32))).toInt64)).bind fun r3 =>
((P_isBranch r3.1 (x1)).bind fun r4 =>
(((if r4.2 = 0 then
some (r4.1, (1 : Int32)) else
((P_hasHad r4.1 (x1)).bind fun r6 =>
(if r6.2 = 0 then
some (r6.1, (0 : Int32)) else
some (r6.1, (1 : Int32)))))).bind fun r5 =>
((P_passes3 r5.1 (r1.2) (r3.2) (r5.2)).bind fun r7 =>
(((if r7.2 = 0 then
some (r7.1, FP.fconst0) else
((gR r7.1 4 (((38 : Int32) * x1) + x2)).bind fun v9 =>
some (r7.1, v9)))).bind fun r8 =>
some (r8.1, r8.2))))))))
def P_feature (s : TS) (x1 : Int32) (x2 : Int32) : Option (TS × UInt32) :=
  ((P_isBranch s (x1)).bind fun r1 =>
((P_isFeature r1.1 (x2)).bind fun r2 =>
((P_isBranch r2.1 (x1)).bind fun r3 =>
(((if r3.2 = 0 then
some (r3.1, (1 : Int32)) else
((P_hasHad r3.1 (x1)).bind fun r5 =>
(if r5.2 = 0 then
some (r5.1, (0 : Int32)) else
some (r5.1, (1 : Int32)))))).bind fun r4 =>
((P_passes3 r4.1 (r1.2) (r2.2) (r4.2)).bind fun r6 =>
(((if r6.2 = 0 then
some (r6.1, FP.fconst0) else
((P_featureOf r6.1 (x1) (x2)).bind fun r8 =>
some (r8.1, r8.2)))).bind fun r7 =>
some (r7.1, r7.2)))))))
def P_matching (s : TS) (x1 : Int32) : Option (TS × Int32) :=
  ((P_isBranch s (x1)).bind fun r1 =>
((P_passes r1.1 (r1.2)).bind fun r2 =>
(((if r2.2 = 0 then
some (r2.1, (0 : Int32)) else
((P_ofBranch r2.1 (x1) ((6 : Int32))).bind fun r4 =>
some (r4.1, r4.2)))).bind fun r3 =>
some (r3.1, r3.2))))
def P_hiding (s : TS) (x1 : Int32) : Option (TS × Int32) :=
  ((P_isBranch s (x1)).bind fun r1 =>
((P_passes r1.1 (r1.2)).bind fun r2 =>
(((if r2.2 = 0 then
some (r2.1, (0 : Int32)) else
((P_ofBranch r2.1 (x1) ((7 : Int32))).bind fun r4 =>
some (r4.1, r4.2)))).bind fun r3 =>
some (r3.1, r3.2))))
def P_isSuspect (s : TS) (x1 : Int32) : Option (TS × Int32) :=
  ((P_isBranch s (x1)).bind fun r1 =>
((P_passes r1.1 (r1.2)).bind fun r2 =>
(((if r2.2 = 0 then
some (r2.1, (0 : Int32)) else
((P_ofBranch r2.1 (x1) ((8 : Int32))).bind fun r4 =>
(if r4.2 = (1 : Int32) then
some (r4.1, (1 : Int32)) else
some (r4.1, (0 : Int32)))))).bind fun r3 =>
((oZ r3.2).bind fun v5 => some (r3.1, v5)))))
def P_suspects (s : TS) (x1 : Int32) : Option (TS × Int32) :=
  ((P_isBranch s (x1)).bind fun r1 =>
((P_passes r1.1 (r1.2)).bind fun r2 =>
(((if r2.2 = 0 then
some (r2.1, (0 : Int32)) else
((P_windowOf r2.1 (x1)).bind fun r4 =>
((P_suspectsOf r4.1 (x1) (r4.2)).bind fun r5 =>
some (r5.1, r5.2))))).bind fun r3 =>
some (r3.1, r3.2))))
def P_margin (s : TS) (x1 : Int32) : Option (TS × Int32) :=
  ((P_isBranch s (x1)).bind fun r1 =>
((P_passes r1.1 (r1.2)).bind fun r2 =>
(((if r2.2 = 0 then
some (r2.1, (0 : Int32)) else
((P_marginOf r2.1 (x1)).bind fun r4 =>
some (r4.1, r4.2)))).bind fun r3 =>
some (r3.1, r3.2))))
def P_hits (s : TS) (x1 : Int32) : Option (TS × Int32) :=
  ((P_isSignature s (x1)).bind fun r1 =>
((P_passes r1.1 (r1.2)).bind fun r2 =>
(((if r2.2 = 0 then
some (r2.1, (0 : Int32)) else
((gA r2.1 1 (((475 : Int32) + ((27 : Int32) * x1)) + (2 : Int32))).bind fun v4 =>
some (r2.1, v4)))).bind fun r3 =>
some (r3.1, r3.2))))
def P_isAlways (s : TS) (x1 : Int32) : Option (TS × Int32) :=
  ((P_isSignature s (x1)).bind fun r1 =>
((P_passes r1.1 (r1.2)).bind fun r2 =>
(((if r2.2 = 0 then
some (r2.1, (0 : Int32)) else
((P_isAlwaysOne r2.1 (x1)).bind fun r4 =>
(if r4.2 = 0 then
some (r4.1, (0 : Int32)) else
some (r4.1, (1 : Int32)))))).bind fun r3 =>
((oZ r3.2).bind fun v5 => some (r3.1, v5)))))
def P_nuisanceHits (s : TS) (x1 : Int32) : Option (TS × Int32) :=
  ((P_isNuisance s (x1)).bind fun r1 =>
((P_passes r1.1 (r1.2)).bind fun r2 =>
(((if r2.2 = 0 then
some (r2.1, (0 : Int32)) else
((gA r2.1 1 (((637 : Int32) + ((27 : Int32) * x1)) + (2 : Int32))).bind fun v4 =>
some (r2.1, v4)))).bind fun r3 =>
some (r3.1, r3.2))))
def P_wouldMatch (s : TS) (x1 : Int32) (x2 : UInt32) (x3 : UInt32) (x4 : UInt32) (x5 : UInt32) (x6 : UInt32) : Option (TS × Int32) :=
  ((P_isSignature s (x1)).bind fun r1 =>
((P_passes r1.1 (r1.2)).bind fun r2 =>
(if r2.2 = 0 then
some (r2.1, (0 : Int32)) else
((pR r2.1 18 (0 : Int32) x2).bind fun s3 =>
((pR s3 18 (1 : Int32) x3).bind fun s4 =>
((pR s4 18 (2 : Int32) x4).bind fun s5 =>
((pR s5 18 (3 : Int32) x5).bind fun s6 =>
((pR s6 18 (4 : Int32) x6).bind fun s7 =>
((oF (FP.fmul x3 x3)).bind fun v8 =>
((pR s7 18 (5 : Int32) v8).bind fun s9 =>
((P_holds s9 (((475 : Int32) + ((27 : Int32) * x1)))).bind fun r10 =>
((oZ r10.2).bind fun v11 => some (r10.1, v11)))))))))))))
def B_forget_43 (y1 : Int32) (y2 : Int32) (a : TS) (a3 : Int32) : Option ((TS × Int32) ⊕ (TS)) :=
  ((gA a 1 (6 : Int32)).bind fun v43001 =>
(if ((637 : Int32) + ((27 : Int32) * (v43001 - (1 : Int32)))) ≤ a3 then
some (.inr (a)) else
((gA a 1 (a3 + (27 : Int32))).bind fun v43002 =>
((pA a 1 a3 v43002).bind fun s43003 =>
some (.inl (s43003, (a3 + (1 : Int32))))))))
def B_forget_97 (y1 : Int32) (y2 : Int32) (a : TS) (a3 : Int32) : Option ((TS × Int32) ⊕ (TS)) :=
  ((gA a 1 (3 : Int32)).bind fun v97001 =>
(if v97001 ≤ a3 then
some (.inr (a)) else
((P_ofBranch a (a3) ((7 : Int32))).bind fun r97002 =>
((P_setBranch r97002.1 (a3) ((7 : Int32)) (((r97002.2 &&& (((1 : Int32) <<< (y1 &&& 31)) - (1 : Int32))) ||| ((r97002.2 >>> ((1 : Int32) &&& 31)) &&& ((((1 : Int32) <<< (y1 &&& 31)) - (1 : Int32)) ^^^ (-1 : Int32)))))).bind fun r97003 =>
some (.inl (r97003, (a3 + (1 : Int32))))))))
def P_forget (s : TS) (x1 : Int32) : Option (TS × Int32) :=
  ((P_isNuisance s (x1)).bind fun r1 =>
((P_passes r1.1 (r1.2)).bind fun r2 =>
(if r2.2 = 0 then
some (r2.1, (0 : Int32)) else
((P_remember r2.1 ).bind fun r3 =>
((gA r3 1 (((637 : Int32) + ((27 : Int32) * x1)) + (2 : Int32))).bind fun v4 =>
((loopN (fun w : TS × Int32 => B_forget_43 (x1) (v4) w.1 w.2) 9000 (r3, ((637 : Int32) + ((27 : Int32) * x1)))).bind fun b5 =>
((gA b5 1 (6 : Int32)).bind fun v6 =>
((pA b5 1 (6 : Int32) (v6 - (1 : Int32))).bind fun s7 =>
((loopN (fun w : TS × Int32 => B_forget_97 (x1) (v4) w.1 w.2) 9000 (s7, (0 : Int32))).bind fun b8 =>
some (b8, v4))))))))))
def P_setLimits (s : TS) (x1 : Int32) (x2 : Int32) : Option (TS × Int32) :=
  ((P_in s ((x1).toInt64) ((1 : Int64)) ((64 : Int64))).bind fun r1 =>
(((if r1.2 = 0 then
some (r1.1, (0 : Int32)) else
((P_in r1.1 ((x2).toInt64) ((1 : Int64)) ((x1).toInt64)).bind fun r3 =>
(if r3.2 = 0 then
some (r3.1, (0 : Int32)) else
some (r3.1, (1 : Int32)))))).bind fun r2 =>
((P_passes r2.1 (r2.2)).bind fun r4 =>
(if r4.2 = 0 then
some (r4.1, (0 : Int32)) else
((P_remember r4.1 ).bind fun r5 =>
((gA r5 1 (2 : Int32)).bind fun v6 =>
((pA r5 1 (1 : Int32) x1).bind fun s7 =>
((pA s7 1 (2 : Int32) x2).bind fun s8 =>
some (s8, v6)))))))))
def P_service (s : TS) (x1 : Int32) : Option (TS × Int32) :=
  ((P_isBranch s (x1)).bind fun r1 =>
((P_passes r1.1 (r1.2)).bind fun r2 =>
(if r2.2 = 0 then
some (r2.1, (0 : Int32)) else
((P_remember r2.1 ).bind fun r3 =>
((P_ofBranch r3 (x1) ((2 : Int32))).bind fun r4 =>
((P_setBranch r4.1 (x1) ((2 : Int32)) ((0 : Int32))).bind fun r5 =>
((P_ofBranch r5 (x1) ((1 : Int32))).bind fun r6 =>
(if r6.2 = (2 : Int32) then
((P_setBranch r6.1 (x1) ((1 : Int32)) ((1 : Int32))).bind fun r7 =>
some (r7, r4.2)) else
some (r6.1, r4.2)))))))))
def P_isTested (s : TS) (x1 : Int32) : Option (TS × Int32) :=
  ((P_isBranch s (x1)).bind fun r1 =>
((P_passes r1.1 (r1.2)).bind fun r2 =>
(((if r2.2 = 0 then
some (r2.1, (0 : Int32)) else
((P_ofBranch r2.1 (x1) ((3 : Int32))).bind fun r4 =>
(if r4.2 = (1 : Int32) then
some (r4.1, (1 : Int32)) else
some (r4.1, (0 : Int32)))))).bind fun r3 =>
((oZ r3.2).bind fun v5 => some (r3.1, v5)))))
def P_trips (s : TS) (x1 : Int32) : Option (TS × Int32) :=
  ((P_isBranch s (x1)).bind fun r1 =>
((P_passes r1.1 (r1.2)).bind fun r2 =>
(((if r2.2 = 0 then
some (r2.1, (0 : Int32)) else
((P_ofBranch r2.1 (x1) ((2 : Int32))).bind fun r4 =>
some (r4.1, r4.2)))).bind fun r3 =>
some (r3.1, r3.2))))
def P_memory (s : TS) (x1 : Int32) (x2 : Int32) : Option (TS × Int32) :=
  ((P_isTrip s (x1)).bind fun r1 =>
((P_in r1.1 ((x2).toInt64) ((0 : Int64)) ((4 : Int64))).bind fun r2 =>
((P_passes2 r2.1 (r1.2) (r2.2)).bind fun r3 =>
(((if r3.2 = 0 then
some (r3.1, (0 : Int32)) else
((P_ofTrip r3.1 (x1) (x2)).bind fun r5 =>
some (r5.1, r5.2)))).bind fun r4 =>
some (r4.1, r4.2)))))
def P_peakOf (s : TS) (x1 : Int32) : Option (TS × UInt32) :=
  ((P_isTrip s (x1)).bind fun r1 =>
((P_passes r1.1 (r1.2)).bind fun r2 =>
(((if r2.2 = 0 then
some (r2.1, FP.fconst0) else
((gR r2.1 4 ((152 : Int32) + x1)).bind fun v4 =>
some (r2.1, v4)))).bind fun r3 =>
some (r3.1, r3.2))))
def P_loadSample (s : TS) (x1 : Int32) (x2 : Int32) : Option (TS × UInt32) :=
  ((P_isLoad s (x1)).bind fun r1 =>
((gA r1.1 1 (0 : Int32)).bind fun v2 =>
((P_in r1.1 ((x2).toInt64) ((0 : Int64)) (((v2 - (1 : Int32))).toInt64)).bind fun r3 =>
((P_passes2 r3.1 (r1.2) (r3.2)).bind fun r4 =>
(((if r4.2 = 0 then
some (r4.1, FP.fconst0) else
((P_plainAt r4.1 (x1) (x2)).bind fun r6 =>
some (r6.1, r6.2)))).bind fun r5 =>
some (r5.1, r5.2))))))
def B_undo_33  (a : TS) (a1 : Int32) : Option ((TS × Int32) ⊕ (TS)) :=
  (if (1465 : Int32) ≤ a1 then
some (.inr (a)) else
((gA a 21 (((1465 : Int32) * (a.1 23)) + a1)).bind fun v33001 =>
((pA a 1 a1 v33001).bind fun s33002 =>
some (.inl (s33002, (a1 + (1 : Int32)))))))
def B_undo_69  (a : TS) (a1 : Int32) : Option ((TS × Int32) ⊕ (TS)) :=
  (if (160 : Int32) ≤ a1 then
some (.inr (a)) else
((gR a 22 (((160 : Int32) * (a.1 23)) + a1)).bind fun v69001 =>
((pR a 4 a1 v69001).bind fun s69002 =>
some (.inl (s69002, (a1 + (1 : Int32)))))))
def P_undo (s : TS)  : Option (TS × Int32) :=
  (((if (s.1 23) ≤ 0 then
some (s, (0 : Int32)) else
some (s, (1 : Int32)))).bind fun r1 =>
((P_passes r1.1 (r1.2)).bind fun r2 =>
(if r2.2 = 0 then
some (r2.1, (0 : Int32)) else
((pI r2.1 23 ((r2.1.1 23) - (1 : Int32))).bind fun s3 =>
((loopN (fun w : TS × Int32 => B_undo_33  w.1 w.2) 9000 (s3, (0 : Int32))).bind fun b4 =>
((loopN (fun w : TS × Int32 => B_undo_69  w.1 w.2) 9000 (b4, (0 : Int32))).bind fun b5 =>
some (b5, (b5.1 23))))))))
def B_writeTrip_28 (y1 : Int32) (y2 : Int32) (a : TS) (a3 : Int32) : Option ((TS × Int32) ⊕ (TS)) :=
  (if (6 : Int32) ≤ a3 then
some (.inr (a)) else
((P_ofBranch a (y2) (((10 : Int32) + a3))).bind fun r28001 =>
(if r28001.2 = 0 then
some (.inr (r28001.1)) else
((P_ofBranch r28001.1 (y2) (((10 : Int32) + a3))).bind fun r28002 =>
((P_write r28002.1 (r28002.2)).bind fun r28003 =>
some (.inl (r28003, (a3 + (1 : Int32)))))))))
def B_writeTrip_99 (y1 : Int32) (a : TS) (a3 : Int32) : Option ((TS × Int32) ⊕ (TS)) :=
  ((P_ofTrip a (y1) ((4 : Int32))).bind fun r99001 =>
(if r99001.2 ≤ a3 then
some (.inr (r99001.1)) else
((P_write r99001.1 ((32 : Int32))).bind fun r99002 =>
((P_ofTrip r99002 (y1) (((5 : Int32) + a3))).bind fun r99003 =>
((P_writeNumber r99003.1 (r99003.2)).bind fun r99004 =>
some (.inl (r99004, (a3 + (1 : Int32)))))))))
def P_writeTrip (s : TS) (x1 : Int32) : Option (TS × Int32) :=
  ((P_isTrip s (x1)).bind fun r1 =>
((P_passes r1.1 (r1.2)).bind fun r2 =>
(if r2.2 = 0 then
some (r2.1, (0 : Int32)) else
((pI r2.1 25 (0 : Int32)).bind fun s3 =>
((P_ofTrip s3 (x1) ((1 : Int32))).bind fun r4 =>
((loopN (fun w : TS × Int32 => B_writeTrip_28 (x1) (r4.2) w.1 w.2) 9000 (r4.1, (0 : Int32))).bind fun b5 =>
((P_write b5 ((32 : Int32))).bind fun r6 =>
((P_ofTrip r6 (x1) ((0 : Int32))).bind fun r7 =>
((P_writeNumber r7.1 (r7.2)).bind fun r8 =>
((P_write r8 ((32 : Int32))).bind fun r9 =>
((P_ofTrip r9 (x1) ((2 : Int32))).bind fun r10 =>
((P_writeNumber r10.1 (r10.2)).bind fun r11 =>
((loopN (fun w : TS × Int32 => B_writeTrip_99 (x1) w.1 w.2) 9000 (r11, (0 : Int32))).bind fun b12 =>
((P_write b12 ((10 : Int32))).bind fun r13 =>
some (r13, (r13.1 25))))))))))))))))
def P_outputByte (s : TS) (x1 : Int32) : Option (TS × Int32) :=
  ((P_in s ((x1).toInt64) ((0 : Int64)) ((((s.1 25) - (1 : Int32))).toInt64)).bind fun r1 =>
((P_passes r1.1 (r1.2)).bind fun r2 =>
(((if r2.2 = 0 then
some (r2.1, (0 : Int32)) else
((gB r2.1 24 x1).bind fun v4 =>
some (r2.1, v4)))).bind fun r3 =>
some (r3.1, r3.2))))
def P_append (s : TS) (x1 : Int32) (x2 : Int32) (x3 : Int32) (x4 : Int32) (x5 : Int32) : Option (TS × Int32) :=
  (((if (1000 : Int32) < ((s.1 6) + (20 : Int32)) then
some (s, (0 : Int32)) else
some (s, (1 : Int32)))).bind fun r1 =>
((P_passes r1.1 (r1.2)).bind fun r2 =>
(if r2.2 = 0 then
some (r2.1, (0 : Int32)) else
((P_appendFour r2.1 (x1)).bind fun r3 =>
((P_appendFour r3 (x2)).bind fun r4 =>
((P_appendFour r4 (x3)).bind fun r5 =>
((P_appendFour r5 (x4)).bind fun r6 =>
((P_appendFour r6 (x5)).bind fun r7 =>
some (r7, (r7.1 6))))))))))
def P_word (s : TS) (x1 : Nat) : Option (TS) :=
  ((P_isText s (x1)).bind fun r1 =>
(if r1.2 = 0 then
((P_errs r1.1 ((1 : Int32))).bind fun r3 =>
((P_goOn r3 ).bind fun r4 =>
some r4)) else
((P_goOn r1.1 ).bind fun r2 =>
some r2)))
def P_numberBehind (s : TS) (x1 : Nat) (x2 : Int32) (x3 : Int32) : Option (TS × Int32) :=
  ((P_word s (x1)).bind fun r1 =>
((P_number r1 (x2) (x3)).bind fun r2 =>
some (r2.1, r2.2)))
def P_checkName (s : TS)  : Option (TS) :=
  ((P_good s ).bind fun r1 =>
(if r1.2 = 0 then
some r1.1 else
(if (r1.1.1 10) = (1 : Int32) then
(if (6 : Int32) < ((r1.1.1 8) - (r1.1.1 9)) then
((P_errs r1.1 ((1 : Int32))).bind fun r3 =>
some r3) else
((P_isKeyword r1.1 ).bind fun r4 =>
(if r4.2 = 0 then
some r4.1 else
((P_errs r4.1 ((1 : Int32))).bind fun r5 =>
some r5)))) else
((P_errs r1.1 ((1 : Int32))).bind fun r2 =>
some r2))))
def P_branchNamed (s : TS)  : Option (TS × Int32) :=
  ((gA s s.2.2.2 (3 : Int32)).bind fun v1 =>
((P_thingNamed s ((21 : Int32)) ((80 : Int32)) (v1)).bind fun r2 =>
some (r2.1, r2.2)))
def P_reference (s : TS) (x1 : Int32) : Option (TS × Int32) :=
  ((P_checkName s ).bind fun r1 =>
((P_good r1 ).bind fun r2 =>
(((if r2.2 = 0 then
some (r2.1, (0 : Int32)) else
(if x1 = 0 then
((P_branchNamed r2.1 ).bind fun r5 =>
some (r5.1, r5.2)) else
((P_loadNamed r2.1 ).bind fun r4 =>
some (r4.1, r4.2))))).bind fun r3 =>
((P_good r3.1 ).bind fun r6 =>
(((if r6.2 = 0 then
some r6.1 else
(if r3.2 = (-1 : Int32) then
((P_errs r6.1 ((3 : Int32))).bind fun r8 =>
some r8) else
some r6.1))).bind fun r7 =>
((P_goOn r7 ).bind fun r9 =>
((P_good r9 ).bind fun r10 =>
(((if r10.2 = 0 then
some (r10.1, (0 : Int32)) else
some (r10.1, r3.2))).bind fun r11 =>
some (r11.1, r11.2)))))))))
def B_parseTests_5 (y1 : Int32) (a : TS) : Option ((TS) ⊕ (TS)) :=
  ((P_takes a (45)).bind fun r5001 =>
(if r5001.2 = 0 then
some (.inr (r5001.1)) else
((P_parseTest r5001.1 (y1)).bind fun r5002 =>
some (.inl (r5002)))))
def P_parseTests (s : TS) (x1 : Int32) : Option (TS) :=
  ((P_parseTest s (x1)).bind fun r1 =>
((loopN (fun w : TS => B_parseTests_5 (x1) w) 9000 (r1)).bind fun b2 =>
((P_semicolon b2 ).bind fun r3 =>
some r3)))
def P_parsePlan (s : TS)  : Option (TS) :=
  ((gA s s.2.2.2 (7 : Int32)).bind fun v1 =>
(((if v1 = (20 : Int32) then
((P_errs s ((4 : Int32))).bind fun r3 =>
some r3) else
some s)).bind fun r2 =>
((P_goOn r2 ).bind fun r4 =>
((P_number r4 ((1 : Int32)) ((9999 : Int32))).bind fun r5 =>
((P_isText r5.1 (46)).bind fun r6 =>
(((if r6.2 = 0 then
((P_isText r6.1 (47)).bind fun r8 =>
(if r8.2 = 0 then
((P_errs r8.1 ((1 : Int32))).bind fun r9 =>
some r9) else
some r8.1)) else
some r6.1)).bind fun r7 =>
((P_goOn r7 ).bind fun r10 =>
((P_reference r10 ((1 : Int32))).bind fun r11 =>
((P_semicolon r11.1 ).bind fun r12 =>
((P_good r12 ).bind fun r13 =>
(if r13.2 = 0 then
some r13.1 else
(((if r6.2 = 0 then
some (r13.1, (0 : Int32)) else
some (r13.1, (1 : Int32)))).bind fun r14 =>
((P_layPlan r14.1 (r5.2) (r11.2) (r14.2)).bind fun r15 =>
some r15)))))))))))))
def P_find (s : TS)  : Option (TS × Int32) :=
  ((pI s 0 (0 : Int32)).bind fun s1 =>
((P_looksAtWord s1 ).bind fun r2 =>
((pI r2.1 6 (0 : Int32)).bind fun s3 =>
(if r2.2 = 0 then
some (s3, (-1 : Int32)) else
((P_branchNamed s3 ).bind fun r4 =>
((P_loadNamed r4.1 ).bind fun r5 =>
((P_signatureNamed r5.1 ).bind fun r6 =>
((P_nuisanceNamed r6.1 ).bind fun r7 =>
(((if r4.2 = (-1 : Int32) then
(if r5.2 = (-1 : Int32) then
(if r6.2 = (-1 : Int32) then
(if r7.2 = (-1 : Int32) then
some (r7.1, (-1 : Int32)) else
some (r7.1, ((300 : Int32) + r7.2))) else
some (r7.1, ((200 : Int32) + r6.2))) else
some (r7.1, ((100 : Int32) + r5.2))) else
some (r7.1, r4.2))).bind fun r8 =>
some (r8.1, r8.2))))))))))
def P_sampleNow (s : TS) (x1 : Int32) (x2 : Int32) : Option (TS × UInt32) :=
  ((P_ofLoad s (x1) ((0 : Int32))).bind fun r1 =>
(if r1.2 = (3 : Int32) then
((gB r1.1 15 x1).bind fun v2 =>
(((if v2 = 0 then
((gA r1.1 16 x1).bind fun v4 =>
((gR r1.1 17 x1).bind fun v5 =>
((P_arcAt r1.1 (x1) (x2) (v4) (v5)).bind fun r6 =>
some (r6.1, r6.2)))) else
some (r1.1, FP.fconst0))).bind fun r3 =>
some (r3.1, r3.2))) else
((P_plainAt r1.1 (x1) (x2)).bind fun r7 =>
some (r7.1, r7.2))))
def B_judge_2 (y1 : Int32) (a : TS) (a2 : Int32) : Option ((TS × Int32) ⊕ (TS)) :=
  (if (6 : Int32) ≤ a2 then
some (.inr (a)) else
((P_featureOf a (y1) (a2)).bind fun r2001 =>
((pR r2001.1 18 a2 r2001.2).bind fun s2002 =>
some (.inl (s2002, (a2 + (1 : Int32)))))))
def P_judge (s : TS) (x1 : Int32) : Option (TS) :=
  ((loopN (fun w : TS × Int32 => B_judge_2 (x1) w.1 w.2) 9000 (s, (0 : Int32))).bind fun b1 =>
((gA b1 1 (5 : Int32)).bind fun v2 =>
((P_matchAll b1 ((475 : Int32)) (v2)).bind fun r3 =>
((gA r3.1 1 (6 : Int32)).bind fun v4 =>
((P_matchAll r3.1 ((637 : Int32)) (v4)).bind fun r5 =>
(((if r5.2 = 0 then
some (r5.1, (0 : Int32)) else
some (r5.1, (1 : Int32)))).bind fun r6 =>
((P_firstOf r6.1 (r3.2) (r6.2)).bind fun r7 =>
((P_setBranch r7.1 (x1) ((6 : Int32)) (r3.2)).bind fun r8 =>
((P_setBranch r8 (x1) ((7 : Int32)) (r5.2)).bind fun r9 =>
((P_setBranch r9 (x1) ((9 : Int32)) (r7.2)).bind fun r10 =>
(((if r7.2 = (-1 : Int32) then
((P_ofBranch r10 (x1) ((3 : Int32))).bind fun r12 =>
(if r12.2 = (1 : Int32) then
some (r12.1, (1 : Int32)) else
some (r12.1, (0 : Int32)))) else
some (r10, (1 : Int32)))).bind fun r11 =>
((P_pushFlag r11.1 (x1) (r11.2)).bind fun r13 =>
some r13))))))))))))
def P_parseRecorder (s : TS)  : Option (TS) :=
  ((P_word s (23)).bind fun r1 =>
((P_word r1 (24)).bind fun r2 =>
((P_good r2 ).bind fun r3 =>
(((if r3.2 = 0 then
some r3.1 else
(if (r3.1.1 10) = (2 : Int32) then
(if (r3.1.1 11) = (8 : Int32) then
some r3.1 else
(if (r3.1.1 11) = (16 : Int32) then
some r3.1 else
(if (r3.1.1 11) = (32 : Int32) then
some r3.1 else
((P_errs r3.1 ((2 : Int32))).bind fun r5 =>
some r5)))) else
some r3.1))).bind fun r4 =>
((P_number r4 ((8 : Int32)) ((32 : Int32))).bind fun r6 =>
((pA r6.1 r4.2.2.2 (0 : Int32) r6.2).bind fun s7 =>
((P_numberBehind s7 (25) ((1 : Int32)) ((64 : Int32))).bind fun r8 =>
((pA r8.1 s7.2.2.2 (1 : Int32) r8.2).bind fun s9 =>
((gA s9 s9.2.2.2 (1 : Int32)).bind fun v10 =>
((P_numberBehind s9 (26) ((1 : Int32)) (v10)).bind fun r11 =>
((pA r11.1 s9.2.2.2 (2 : Int32) r11.2).bind fun s12 =>
((P_semicolon s12 ).bind fun r13 =>
some r13))))))))))))
def P_isTaken (s : TS)  : Option (TS × Int32) :=
  ((P_branchNamed s ).bind fun r1 =>
(((if r1.2 = (-1 : Int32) then
((P_loadNamed r1.1 ).bind fun r3 =>
(if r3.2 = (-1 : Int32) then
((P_signatureNamed r3.1 ).bind fun r4 =>
(if r4.2 = (-1 : Int32) then
((P_nuisanceNamed r4.1 ).bind fun r5 =>
(if r5.2 = (-1 : Int32) then
some (r5.1, (0 : Int32)) else
some (r5.1, (1 : Int32)))) else
some (r4.1, (1 : Int32)))) else
some (r3.1, (1 : Int32)))) else
some (r1.1, (1 : Int32)))).bind fun r2 =>
((oZ r2.2).bind fun v6 => some (r2.1, v6))))
def B_laySamples_17 (y1 : Int32) (y2 : Int32) (a : TS) (a3 : UInt32) (a4 : Int32) : Option ((TS × UInt32 × Int32) ⊕ (TS × UInt32)) :=
  ((gA a 1 (4 : Int32)).bind fun v17001 =>
(if v17001 ≤ a4 then
some (.inr (a, a3)) else
((P_ofLoad a (a4) ((1 : Int32))).bind fun r17002 =>
(if r17002.2 = y1 then
((P_ofLoad r17002.1 (a4) ((5 : Int32))).bind fun r17003 =>
(if r17003.2 = (1 : Int32) then
((P_sampleNow r17003.1 (a4) (y2)).bind fun r17004 =>
((oF (FP.fadd a3 r17004.2)).bind fun v17005 =>
some (.inl (r17004.1, v17005, (a4 + (1 : Int32)))))) else
some (.inl (r17003.1, a3, (a4 + (1 : Int32)))))) else
some (.inl (r17002.1, a3, (a4 + (1 : Int32))))))))
def B_laySamples_2 (y1 : Int32) (a : TS) (a2 : Int32) : Option ((TS × Int32) ⊕ (TS)) :=
  ((gA a 1 (0 : Int32)).bind fun v2001 =>
(if v2001 ≤ a2 then
some (.inr (a)) else
((loopN (fun w : TS × UInt32 × Int32 => B_laySamples_17 (y1) (a2) w.1 w.2.1 w.2.2) 9000 (a, FP.fconst0, (0 : Int32))).bind fun b2002 =>
((pR b2002.1 4 (((38 : Int32) * y1) + a2) b2002.2).bind fun s2003 =>
some (.inl (s2003, (a2 + (1 : Int32))))))))
def P_laySamples (s : TS) (x1 : Int32) : Option (TS) :=
  ((loopN (fun w : TS × Int32 => B_laySamples_2 (x1) w.1 w.2) 9000 (s, (0 : Int32))).bind fun b1 =>
some b1)
def P_learn (s : TS) (x1 : Int32) : Option (TS × Int32) :=
  ((P_looksAtWord s ).bind fun r1 =>
(((if r1.2 = 0 then
some (r1.1, (0 : Int32)) else
(if (6 : Int32) < (r1.1.1 8) then
some (r1.1, (0 : Int32)) else
((P_isKeyword r1.1 ).bind fun r3 =>
(if r3.2 = 0 then
((P_isTaken r3.1 ).bind fun r4 =>
(if r4.2 = 0 then
some (r4.1, (1 : Int32)) else
some (r4.1, (0 : Int32)))) else
some (r3.1, (0 : Int32))))))).bind fun r2 =>
((P_isBranch r2.1 (x1)).bind fun r5 =>
((gA r5.1 1 (6 : Int32)).bind fun v6 =>
(((if (8 : Int32) ≤ v6 then
some (r5.1, (0 : Int32)) else
some (r5.1, (1 : Int32)))).bind fun r7 =>
((P_isBranch r7.1 (x1)).bind fun r8 =>
(((if r8.2 = 0 then
some (r8.1, (1 : Int32)) else
((P_hasHad r8.1 (x1)).bind fun r10 =>
(if r10.2 = 0 then
some (r10.1, (0 : Int32)) else
some (r10.1, (1 : Int32)))))).bind fun r9 =>
((P_passes4 r9.1 (r5.2) (r2.2) (r7.2) (r9.2)).bind fun r11 =>
(if r11.2 = 0 then
some (r11.1, (0 : Int32)) else
((P_remember r11.1 ).bind fun r12 =>
((pI r12 6 (0 : Int32)).bind fun s13 =>
((gA s13 1 (6 : Int32)).bind fun v14 =>
((P_keepName s13 ((((637 : Int32) + ((27 : Int32) * v14)) + (3 : Int32)))).bind fun r15 =>
((P_featureOf r15 (x1) ((2 : Int32))).bind fun r16 =>
((P_featureOf r16.1 (x1) ((0 : Int32))).bind fun r17 =>
((P_layTest r17.1 (((637 : Int32) + ((27 : Int32) * v14))) ((0 : Int32)) ((0 : Int32)) ((60 : Int32)) (((FP.f2i r17.2) + (2 : Int32)))).bind fun r18 =>
((P_layTest r18 (((637 : Int32) + ((27 : Int32) * v14))) ((1 : Int32)) ((2 : Int32)) ((62 : Int32)) (((FP.f2i r16.2) - (1 : Int32)))).bind fun r19 =>
((P_layTest r19 (((637 : Int32) + ((27 : Int32) * v14))) ((2 : Int32)) ((2 : Int32)) ((60 : Int32)) (((FP.f2i r16.2) + (1 : Int32)))).bind fun r20 =>
((P_featureOf r20 (x1) ((3 : Int32))).bind fun r21 =>
((P_layTest r21.1 (((637 : Int32) + ((27 : Int32) * v14))) ((3 : Int32)) ((3 : Int32)) ((60 : Int32)) (((FP.f2i r21.2) + (2 : Int32)))).bind fun r22 =>
((pA r22 1 (((637 : Int32) + ((27 : Int32) * v14)) + (1 : Int32)) (4 : Int32)).bind fun s23 =>
((pA s23 1 (((637 : Int32) + ((27 : Int32) * v14)) + (2 : Int32)) (0 : Int32)).bind fun s24 =>
((gA s24 1 (6 : Int32)).bind fun v25 =>
((pA s24 1 (6 : Int32) (v25 + (1 : Int32))).bind fun s26 =>
some (s26, v14)))))))))))))))))))))))))
def P_begins (s : TS) (x1 : Int32) (x2 : Int32) : Option (TS × Int32) :=
  (((if x1 = 0 then
((P_errs s ((4 : Int32))).bind fun r2 =>
some r2) else
some s)).bind fun r1 =>
((P_goOn r1 ).bind fun r3 =>
((P_checkName r3 ).bind fun r4 =>
((P_good r4 ).bind fun r5 =>
(((if r5.2 = 0 then
some r5.1 else
((P_isTaken r5.1 ).bind fun r7 =>
(if r7.2 = 0 then
some r7.1 else
((P_errs r7.1 ((3 : Int32))).bind fun r8 =>
some r8))))).bind fun r6 =>
((P_good r6 ).bind fun r9 =>
(if r9.2 = 0 then
some (r9.1, (0 : Int32)) else
((P_keepName r9.1 (x2)).bind fun r10 =>
((P_goOn r10 ).bind fun r11 =>
((P_good r11 ).bind fun r12 =>
((oZ r12.2).bind fun v13 => some (r12.1, v13))))))))))))
def P_parseBranch (s : TS)  : Option (TS) :=
  ((gA s s.2.2.2 (3 : Int32)).bind fun v1 =>
(((if (4 : Int32) ≤ v1 then
some (s, (0 : Int32)) else
some (s, (1 : Int32)))).bind fun r2 =>
((P_begins r2.1 (r2.2) ((((11 : Int32) + ((80 : Int32) * (pmin v1 (3 : Int32)))) + (10 : Int32)))).bind fun r3 =>
(if r3.2 = 0 then
some r3.1 else
((P_numberBehind r3.1 (37) ((1 : Int32)) ((100 : Int32))).bind fun r4 =>
((P_setBranch r4.1 (v1) ((0 : Int32)) (r4.2)).bind fun r5 =>
((P_setBranch r5 (v1) ((9 : Int32)) ((-1 : Int32))).bind fun r6 =>
((P_semicolon r6 ).bind fun r7 =>
((P_good r7 ).bind fun r8 =>
(if r8.2 = 0 then
some r8.1 else
((gA r8.1 r8.1.2.2.2 (3 : Int32)).bind fun v9 =>
((pA r8.1 r8.1.2.2.2 (3 : Int32) (v9 + (1 : Int32))).bind fun s10 =>
some s10))))))))))))
def P_parseSignature (s : TS)  : Option (TS) :=
  ((gA s s.2.2.2 (5 : Int32)).bind fun v1 =>
(((if (6 : Int32) ≤ v1 then
some (s, (0 : Int32)) else
some (s, (1 : Int32)))).bind fun r2 =>
((P_begins r2.1 (r2.2) ((((475 : Int32) + ((27 : Int32) * (pmin v1 (5 : Int32)))) + (3 : Int32)))).bind fun r3 =>
(if r3.2 = 0 then
some r3.1 else
((P_takes r3.1 (44)).bind fun r4 =>
(((if r4.2 = 0 then
some (r4.1, (0 : Int32)) else
some (r4.1, (1 : Int32)))).bind fun r5 =>
((pA r5.1 r3.1.2.2.2 (((475 : Int32) + ((27 : Int32) * (pmin v1 (5 : Int32)))) + (0 : Int32)) r5.2).bind fun s6 =>
((P_parseTests s6 (((475 : Int32) + ((27 : Int32) * (pmin v1 (5 : Int32)))))).bind fun r7 =>
((P_good r7 ).bind fun r8 =>
(if r8.2 = 0 then
some r8.1 else
((gA r8.1 r8.1.2.2.2 (5 : Int32)).bind fun v9 =>
((pA r8.1 r8.1.2.2.2 (5 : Int32) (v9 + (1 : Int32))).bind fun s10 =>
some s10))))))))))))
def P_parseNuisance (s : TS)  : Option (TS) :=
  ((gA s s.2.2.2 (6 : Int32)).bind fun v1 =>
(((if (8 : Int32) ≤ v1 then
some (s, (0 : Int32)) else
some (s, (1 : Int32)))).bind fun r2 =>
((P_begins r2.1 (r2.2) ((((637 : Int32) + ((27 : Int32) * (pmin v1 (7 : Int32)))) + (3 : Int32)))).bind fun r3 =>
(if r3.2 = 0 then
some r3.1 else
((P_parseTests r3.1 (((637 : Int32) + ((27 : Int32) * (pmin v1 (7 : Int32)))))).bind fun r4 =>
((P_good r4 ).bind fun r5 =>
(if r5.2 = 0 then
some r5.1 else
((gA r5.1 r5.1.2.2.2 (6 : Int32)).bind fun v6 =>
((pA r5.1 r5.1.2.2.2 (6 : Int32) (v6 + (1 : Int32))).bind fun s7 =>
some s7)))))))))
def P_passBranch (s : TS) (x1 : Int32) : Option (TS × Int32) :=
  ((P_laySamples s (x1)).bind fun r1 =>
((P_layFeatures r1 (x1)).bind fun r2 =>
((P_judge r2 (x1)).bind fun r3 =>
((P_setBranch r3 (x1) ((4 : Int32)) ((1 : Int32))).bind fun r4 =>
((P_featureOf r4 (x1) ((0 : Int32))).bind fun r5 =>
((P_ofBranch r5.1 (x1) ((0 : Int32))).bind fun r6 =>
((oF (FP.fmul (1092616192 : UInt32) (FP.i2f r6.2))).bind fun v7 =>
(if (Op.cmpValue (FP.fcmp r5.2 v7) .l) ≤ 0 then
((P_windowOf r6.1 (x1)).bind fun r8 =>
((P_suspectsOf r8.1 (x1) (r8.2)).bind fun r9 =>
((gA r9.1 1 (2 : Int32)).bind fun v10 =>
(if v10 ≤ r9.2 then
((P_ofBranch r9.1 (x1) ((3 : Int32))).bind fun r11 =>
((P_trip r11.1 (x1) (r11.2)).bind fun r12 =>
some (r12, (1 : Int32)))) else
some (r9.1, (0 : Int32)))))) else
((P_trip r6.1 (x1) ((2 : Int32))).bind fun r13 =>
some (r13, (1 : Int32)))))))))))
def P_parseLoad (s : TS) (x1 : Int32) : Option (TS) :=
  ((gA s s.2.2.2 (4 : Int32)).bind fun v1 =>
(((if (12 : Int32) ≤ v1 then
some (s, (0 : Int32)) else
some (s, (1 : Int32)))).bind fun r2 =>
((P_begins r2.1 (r2.2) ((((331 : Int32) + ((12 : Int32) * (pmin v1 (11 : Int32)))) + (6 : Int32)))).bind fun r3 =>
(if r3.2 = 0 then
some r3.1 else
((P_word r3.1 (38)).bind fun r4 =>
((P_setLoad r4 (v1) ((0 : Int32)) (x1)).bind fun r5 =>
((P_reference r5 ((0 : Int32))).bind fun r6 =>
((P_setLoad r6.1 (v1) ((1 : Int32)) (r6.2)).bind fun r7 =>
((P_numberBehind r7 (39) ((1 : Int32)) ((500 : Int32))).bind fun r8 =>
((P_setLoad r8.1 (v1) ((2 : Int32)) (r8.2)).bind fun r9 =>
((gA r9 r9.2.2.2 (0 : Int32)).bind fun v10 =>
(((if x1 = (1 : Int32) then
((P_numberBehind r9 (40) ((0 : Int32)) ((v10 - (1 : Int32)))).bind fun r12 =>
((P_setLoad r12.1 (v1) ((3 : Int32)) (r12.2)).bind fun r13 =>
some r13)) else
some r9)).bind fun r11 =>
(((if x1 = (2 : Int32) then
((P_numberBehind r11 (41) ((0 : Int32)) ((v10 - (1 : Int32)))).bind fun r15 =>
((P_setLoad r15.1 (v1) ((3 : Int32)) (r15.2)).bind fun r16 =>
some r16)) else
some r11)).bind fun r14 =>
(((if x1 = (3 : Int32) then
((P_numberBehind r14 (42) ((0 : Int32)) ((v10 - (1 : Int32)))).bind fun r18 =>
((P_setLoad r18.1 (v1) ((3 : Int32)) (r18.2)).bind fun r19 =>
some r19)) else
some r14)).bind fun r17 =>
(((if x1 = (3 : Int32) then
((P_numberBehind r17 (43) ((0 : Int32)) ((100 : Int32))).bind fun r21 =>
((P_setLoad r21.1 (v1) ((4 : Int32)) (r21.2)).bind fun r22 =>
some r22)) else
some r17)).bind fun r20 =>
((P_setLoad r20 (v1) ((5 : Int32)) ((1 : Int32))).bind fun r23 =>
((P_semicolon r23 ).bind fun r24 =>
((P_good r24 ).bind fun r25 =>
(if r25.2 = 0 then
some r25.1 else
((gA r25.1 r25.1.2.2.2 (4 : Int32)).bind fun v26 =>
((pA r25.1 r25.1.2.2.2 (4 : Int32) (v26 + (1 : Int32))).bind fun s27 =>
some s27)))))))))))))))))))))
def B_pass_23  (a : TS) (a1 : Int32) (a2 : Int32) : Option ((TS × Int32 × Int32) ⊕ (TS × Int32)) :=
  ((gA a 1 (3 : Int32)).bind fun v23001 =>
(if v23001 ≤ a2 then
some (.inr (a, a1)) else
((P_isClosed a (a2)).bind fun r23002 =>
(if r23002.2 = 0 then
some (.inl (r23002.1, a1, (a2 + (1 : Int32)))) else
((P_passBranch r23002.1 (a2)).bind fun r23003 =>
(if r23003.2 = 0 then
some (.inl (r23003.1, a1, (a2 + (1 : Int32)))) else
some (.inl (r23003.1, (a1 ||| ((1 : Int32) <<< (a2 &&& 31))), (a2 + (1 : Int32))))))))))
def P_pass (s : TS)  : Option (TS × Int32) :=
  ((gA s 1 (8 : Int32)).bind fun v1 =>
((pA s 1 (8 : Int32) (v1 + (1 : Int32))).bind fun s2 =>
((P_doSwitches s2 ).bind fun r3 =>
((P_drawArcs r3 ).bind fun r4 =>
((loopN (fun w : TS × Int32 × Int32 => B_pass_23  w.1 w.2.1 w.2.2) 9000 (r4, (0 : Int32), (0 : Int32))).bind fun b5 =>
some (b5.1, b5.2))))))
def B_tripAfter_2 (y1 : Int32) (y2 : Int32) (a : TS) (a3 : Int32) : Option ((TS × Int32) ⊕ (TS × Int32)) :=
  (if y2 < a3 then
some (.inr (a, (-1 : Int32))) else
((P_pass a ).bind fun r2001 =>
(if ((r2001.2 >>> (y1 &&& 31)) &&& (1 : Int32)) = (1 : Int32) then
some (.inr (r2001.1, a3)) else
some (.inl (r2001.1, (a3 + (1 : Int32)))))))
def P_tripAfter (s : TS) (x1 : Int32) (x2 : Int32) : Option (TS × Int32) :=
  (loopN (fun w : TS × Int32 => B_tripAfter_2 (x1) (x2) w.1 w.2) 9000 (s, (1 : Int32)))
def B_tripping_26 (y1 : Int32) (a : TS) (a2 : Int32) (a3 : Int32) : Option ((TS × Int32 × Int32) ⊕ (TS × Int32)) :=
  (if y1 ≤ a3 then
some (.inr (a, a2)) else
((P_pass a ).bind fun r26001 =>
some (.inl (r26001.1, (a2 ||| r26001.2), (a3 + (1 : Int32))))))
def P_tripping (s : TS) (x1 : Int32) : Option (TS × Int32) :=
  ((P_in s ((x1).toInt64) ((1 : Int64)) ((500 : Int64))).bind fun r1 =>
((P_passes r1.1 (r1.2)).bind fun r2 =>
(if r2.2 = 0 then
some (r2.1, (0 : Int32)) else
((P_beginThought r2.1 ).bind fun r3 =>
((loopN (fun w : TS × Int32 × Int32 => B_tripping_26 (x1) w.1 w.2.1 w.2.2) 9000 (r3, (0 : Int32), (0 : Int32))).bind fun b4 =>
((P_endThought b4.1 ).bind fun r5 =>
some (r5, b4.2)))))))
def B_featureAfter_55 (y1 : Int32) (y2 : Int32) (y3 : Int32) (y4 : Int32) (a : TS) (a7 : Int32) (a8 : Int32) : Option ((TS × Int32 × Int32) ⊕ (TS)) :=
  (if y3 ≤ a8 then
some (.inr (a)) else
((P_pass a ).bind fun r55001 =>
some (.inl (r55001.1, (a7 ||| r55001.2), (a8 + (1 : Int32))))))
def P_featureAfter (s : TS) (x1 : Int32) (x2 : Int32) (x3 : Int32) : Option (TS × UInt32) :=
  ((P_isBranch s (x1)).bind fun r1 =>
(((if r1.2 = 0 then
some (r1.1, (0 : Int32)) else
((P_isFeature r1.1 (x2)).bind fun r3 =>
(if r3.2 = 0 then
some (r3.1, (0 : Int32)) else
((P_in r3.1 ((x3).toInt64) ((1 : Int64)) ((500 : Int64))).bind fun r4 =>
(if r4.2 = 0 then
some (r4.1, (0 : Int32)) else
some (r4.1, (1 : Int32)))))))).bind fun r2 =>
(if r2.2 = 0 then
((P_isBranch r2.1 (x1)).bind fun r5 =>
((P_isFeature r5.1 (x2)).bind fun r6 =>
(((if r6.2 = 0 then
some (r6.1, (0 : Int32)) else
((P_in r6.1 ((x3).toInt64) ((1 : Int64)) ((500 : Int64))).bind fun r8 =>
(if r8.2 = 0 then
some (r8.1, (0 : Int32)) else
some (r8.1, (1 : Int32)))))).bind fun r7 =>
(((if r2.2 = 0 then
some (r7.1, (1 : Int32)) else
(if (0 : Int32) = 0 then
some (r7.1, (0 : Int32)) else
some (r7.1, (1 : Int32))))).bind fun r9 =>
((P_passes3 r9.1 (r5.2) (r7.2) (r9.2)).bind fun r10 =>
(((if r10.2 = 0 then
some (r10.1, FP.fconst0) else
some (r10.1, FP.fconst0))).bind fun r11 =>
some (r11.1, r11.2))))))) else
((P_beginThought r2.1 ).bind fun r12 =>
((loopN (fun w : TS × Int32 × Int32 => B_featureAfter_55 (x1) (x2) (x3) (r2.2) w.1 w.2.1 w.2.2) 9000 (r12, (0 : Int32), (0 : Int32))).bind fun b13 =>
((P_hasHad b13 (x1)).bind fun r14 =>
((P_featureOf r14.1 (x1) (x2)).bind fun r15 =>
((P_endThought r15.1 ).bind fun r16 =>
((P_isBranch r16 (x1)).bind fun r17 =>
((P_isFeature r17.1 (x2)).bind fun r18 =>
(((if r18.2 = 0 then
some (r18.1, (0 : Int32)) else
((P_in r18.1 ((x3).toInt64) ((1 : Int64)) ((500 : Int64))).bind fun r20 =>
(if r20.2 = 0 then
some (r20.1, (0 : Int32)) else
some (r20.1, (1 : Int32)))))).bind fun r19 =>
(((if r2.2 = 0 then
some (r19.1, (1 : Int32)) else
(if r14.2 = 0 then
some (r19.1, (0 : Int32)) else
some (r19.1, (1 : Int32))))).bind fun r21 =>
((P_passes3 r21.1 (r17.2) (r19.2) (r21.2)).bind fun r22 =>
(((if r22.2 = 0 then
some (r22.1, FP.fconst0) else
some (r22.1, r15.2))).bind fun r23 =>
some (r23.1, r23.2)))))))))))))))
def B_culprit_55 (y1 : Int32) (y3 : Int32) (a : TS) (a2 : Int32) (a4 : Int32) : Option ((TS × Int32 × Int32) ⊕ (TS × Int32)) :=
  ((gA a 1 (4 : Int32)).bind fun v55001 =>
(if v55001 ≤ a4 then
some (.inr (a, a2)) else
(if y3 = 0 then
some (.inr (a, a2)) else
(if a2 = (-1 : Int32) then
((P_ofLoad a (a4) ((1 : Int32))).bind fun r55002 =>
(if r55002.2 = y1 then
((P_ofLoad r55002.1 (a4) ((5 : Int32))).bind fun r55003 =>
(if r55003.2 = 0 then
some (.inl (r55003.1, a2, (a4 + (1 : Int32)))) else
((P_setLoad r55003.1 (a4) ((5 : Int32)) ((0 : Int32))).bind fun r55004 =>
((P_tripAfter r55004 (y1) ((200 : Int32))).bind fun r55005 =>
(((if r55005.2 = (-1 : Int32) then
some (r55005.1, a4) else
some (r55005.1, (-1 : Int32)))).bind fun r55006 =>
((P_endThought r55006.1 ).bind fun r55007 =>
some (.inl (r55007, r55006.2, (a4 + (1 : Int32)))))))))) else
some (.inl (r55002.1, a2, (a4 + (1 : Int32)))))) else
some (.inr (a, a2))))))
def P_culprit (s : TS) (x1 : Int32) : Option (TS × Int32) :=
  ((P_isBranch s (x1)).bind fun r1 =>
((P_passes r1.1 (r1.2)).bind fun r2 =>
(if r2.2 = 0 then
some (r2.1, (0 : Int32)) else
((P_isClosed r2.1 (x1)).bind fun r3 =>
(if r3.2 = 0 then
some (r3.1, (-1 : Int32)) else
((P_beginThought r3.1 ).bind fun r4 =>
((P_tripAfter r4 (x1) ((200 : Int32))).bind fun r5 =>
(((if r5.2 = (-1 : Int32) then
some (r5.1, (0 : Int32)) else
some (r5.1, (1 : Int32)))).bind fun r6 =>
((P_endThought r6.1 ).bind fun r7 =>
((loopN (fun w : TS × Int32 × Int32 => B_culprit_55 (x1) (r6.2) w.1 w.2.1 w.2.2) 9000 (r7, (-1 : Int32), (0 : Int32))).bind fun b8 =>
some (b8.1, b8.2)))))))))))
def B_hitsAhead_22 (y1 : Int32) (a : TS) (a2 : Int32) (a3 : Int32) : Option ((TS × Int32 × Int32) ⊕ (TS)) :=
  (if (100 : Int32) ≤ a3 then
some (.inr (a)) else
((P_pass a ).bind fun r22001 =>
some (.inl (r22001.1, (a2 ||| r22001.2), (a3 + (1 : Int32))))))
def P_hitsAhead (s : TS) (x1 : Int32) : Option (TS × Int32) :=
  ((P_isSignature s (x1)).bind fun r1 =>
((P_passes r1.1 (r1.2)).bind fun r2 =>
(if r2.2 = 0 then
some (r2.1, (0 : Int32)) else
((P_beginThought r2.1 ).bind fun r3 =>
((loopN (fun w : TS × Int32 × Int32 => B_hitsAhead_22 (x1) w.1 w.2.1 w.2.2) 9000 (r3, (0 : Int32), (0 : Int32))).bind fun b4 =>
((gA b4 1 (((475 : Int32) + ((27 : Int32) * x1)) + (2 : Int32))).bind fun v5 =>
((gA b4 19 (((475 : Int32) + ((27 : Int32) * x1)) + (2 : Int32))).bind fun v6 =>
((P_endThought b4 ).bind fun r7 =>
some (r7, (v5 - v6))))))))))
def B_largestCount_37 (y1 : Int32) (a : TS) (a2 : Int32) (a3 : Int32) : Option ((TS × Int32 × Int32) ⊕ (TS × Int32)) :=
  (if a3 < (1 : Int32) then
some (.inr (a, a2)) else
(if a2 = (-1 : Int32) then
((pA a 1 (2 : Int32) a3).bind fun s37001 =>
((P_tripAfter s37001 (y1) ((200 : Int32))).bind fun r37002 =>
(((if r37002.2 = (-1 : Int32) then
some (r37002.1, (-1 : Int32)) else
some (r37002.1, a3))).bind fun r37003 =>
((P_endThought r37003.1 ).bind fun r37004 =>
some (.inl (r37004, r37003.2, (a3 + (-1 : Int32)))))))) else
some (.inr (a, a2))))
def P_largestCount (s : TS) (x1 : Int32) : Option (TS × Int32) :=
  ((P_isBranch s (x1)).bind fun r1 =>
((P_passes r1.1 (r1.2)).bind fun r2 =>
(if r2.2 = 0 then
some (r2.1, (0 : Int32)) else
((P_isClosed r2.1 (x1)).bind fun r3 =>
(if r3.2 = 0 then
some (r3.1, (-1 : Int32)) else
((P_beginThought r3.1 ).bind fun r4 =>
((gA r4 1 (1 : Int32)).bind fun v5 =>
((loopN (fun w : TS × Int32 × Int32 => B_largestCount_37 (x1) w.1 w.2.1 w.2.2) 9000 (r4, (-1 : Int32), v5)).bind fun b6 =>
some (b6.1, b6.2)))))))))
def P_parseStatement (s : TS)  : Option (TS) :=
  ((P_good s ).bind fun r1 =>
(((if r1.2 = 0 then
some (r1.1, (-1 : Int32)) else
(if (r1.1.1 10) = (1 : Int32) then
((P_kindHere r1.1 ).bind fun r3 =>
some (r3.1, r3.2)) else
some (r1.1, (-1 : Int32))))).bind fun r2 =>
(if r2.2 = (-1 : Int32) then
((P_isText r2.1 (28)).bind fun r4 =>
(if r4.2 = 0 then
((P_isText r4.1 (33)).bind fun r5 =>
(if r5.2 = 0 then
((P_isText r5.1 (34)).bind fun r6 =>
(if r6.2 = 0 then
((P_isText r6.1 (35)).bind fun r7 =>
(if r7.2 = 0 then
((P_isText r7.1 (36)).bind fun r8 =>
(if r8.2 = 0 then
((P_errs r8.1 ((1 : Int32))).bind fun r9 =>
some r9) else
((P_parsePlan r8.1 ).bind fun r10 =>
some r10))) else
((P_parseNuisance r7.1 ).bind fun r11 =>
some r11))) else
((P_parseSignature r6.1 ).bind fun r12 =>
some r12))) else
((P_parseSeed r5.1 ).bind fun r13 =>
some r13))) else
((P_parseBranch r4.1 ).bind fun r14 =>
some r14))) else
((P_parseLoad r2.1 (r2.2)).bind fun r15 =>
some r15))))
def B_run_53 (y1 : Int32) (a : TS) (a3 : Int32) (a4 : Int32) : Option ((TS × Int32 × Int32) ⊕ (TS × Int32)) :=
  (if y1 ≤ a4 then
some (.inr (a, a3)) else
((P_pass a ).bind fun r53001 =>
((P_bitCount r53001.1 (r53001.2)).bind fun r53002 =>
some (.inl (r53002.1, (a3 + r53002.2), (a4 + (1 : Int32)))))))
def P_run (s : TS) (x1 : Int32) : Option (TS × Int32) :=
  ((P_in s ((x1).toInt64) ((1 : Int64)) ((500 : Int64))).bind fun r1 =>
(((if r1.2 = 0 then
some (r1.1, (1 : Int32)) else
((gA r1.1 1 (8 : Int32)).bind fun v3 =>
(if (100000 : Int32) < (v3 + x1) then
some (r1.1, (0 : Int32)) else
some (r1.1, (1 : Int32)))))).bind fun r2 =>
((P_passes2 r2.1 (r1.2) (r2.2)).bind fun r4 =>
(if r4.2 = 0 then
some (r4.1, (0 : Int32)) else
((P_remember r4.1 ).bind fun r5 =>
((loopN (fun w : TS × Int32 × Int32 => B_run_53 (x1) w.1 w.2.1 w.2.2) 9000 (r5, (0 : Int32), (0 : Int32))).bind fun b6 =>
some (b6.1, b6.2)))))))
def P_tripIn (s : TS) (x1 : Int32) : Option (TS × Int32) :=
  ((P_isBranch s (x1)).bind fun r1 =>
((P_passes r1.1 (r1.2)).bind fun r2 =>
(if r2.2 = 0 then
some (r2.1, (0 : Int32)) else
((P_isClosed r2.1 (x1)).bind fun r3 =>
(if r3.2 = 0 then
some (r3.1, (-1 : Int32)) else
((P_beginThought r3.1 ).bind fun r4 =>
((P_tripAfter r4 (x1) ((500 : Int32))).bind fun r5 =>
((P_endThought r5.1 ).bind fun r6 =>
some (r6, r5.2)))))))))
def B_load_40  (a : TS) (a1 : Int32) : Option ((TS × Int32) ⊕ (TS)) :=
  (if (1465 : Int32) ≤ a1 then
some (.inr (a)) else
((pA a 2 a1 (0 : Int32)).bind fun s40001 =>
some (.inl (s40001, (a1 + (1 : Int32))))))
def B_load_84  (a : TS) : Option ((TS) ⊕ (TS)) :=
  ((P_good a ).bind fun r84001 =>
(if r84001.2 = 0 then
some (.inr (r84001.1)) else
(if (r84001.1.1 10) = 0 then
some (.inr (r84001.1)) else
((P_parseStatement r84001.1 ).bind fun r84002 =>
some (.inl (r84002))))))
def B_load_129  (a : TS) (a1 : Int32) : Option ((TS × Int32) ⊕ (TS)) :=
  (if (1465 : Int32) ≤ a1 then
some (.inr (a)) else
((gA a 2 a1).bind fun v129001 =>
((pA a 1 a1 v129001).bind fun s129002 =>
some (.inl (s129002, (a1 + (1 : Int32)))))))
def B_load_156  (a : TS) (a1 : Int32) : Option ((TS × Int32) ⊕ (TS)) :=
  (if (160 : Int32) ≤ a1 then
some (.inr (a)) else
((pR a 4 a1 FP.fconst0).bind fun s156001 =>
some (.inl (s156001, (a1 + (1 : Int32))))))
def P_load (s : TS)  : Option (TS × Int32) :=
  ((pI s 0 (0 : Int32)).bind fun s1 =>
((pI s1 7 (s1.1 6)).bind fun s2 =>
((pI s2 6 (0 : Int32)).bind fun s3 =>
((pI s3 8 (0 : Int32)).bind fun s4 =>
((pI s4 12 (0 : Int32)).bind fun s5 =>
((pI s5 13 (-1 : Int32)).bind fun s6 =>
((pZ s6 14 (0 : Int32)).bind fun s7 =>
((loopN (fun w : TS × Int32 => B_load_40  w.1 w.2) 9000 (s7, (0 : Int32))).bind fun b8 =>
((pA b8 2 (9 : Int32) (1 : Int32)).bind fun s9 =>
((pW s9 2).bind fun s10 =>
((P_scan s10 ).bind fun r11 =>
((P_parseRecorder r11 ).bind fun r12 =>
((loopN (fun w : TS => B_load_84  w) 9000 (r12)).bind fun b13 =>
((pW b13 1).bind fun s14 =>
((P_good s14 ).bind fun r15 =>
(if r15.2 = 0 then
some (r15.1, (-4 : Int32)) else
((P_remember r15.1 ).bind fun r16 =>
((loopN (fun w : TS × Int32 => B_load_129  w.1 w.2) 9000 (r16, (0 : Int32))).bind fun b17 =>
((loopN (fun w : TS × Int32 => B_load_156  w.1 w.2) 9000 (b17, (0 : Int32))).bind fun b18 =>
((gA b18 1 (3 : Int32)).bind fun v19 =>
some (b18, v19)))))))))))))))))))))
