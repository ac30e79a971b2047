set_option maxRecDepth 100000
/-! X0.ArcRecorderLaw -/
def RX0 : String := "ArcRecorderLaw"
abbrev cX0_append : ByteArray := method_3_code
def yX0_append : MethodName := ⟨RX0, "append", "(LArcRecorder;IIIII[J)I"⟩
abbrev cX0_truncate : ByteArray := method_4_code
def yX0_truncate : MethodName := ⟨RX0, "truncate", "(LArcRecorder;I)I"⟩
abbrev cX0_count : ByteArray := method_5_code
def yX0_count : MethodName := ⟨RX0, "count", "(LArcRecorder;I[J)I"⟩
abbrev cX0_rated : ByteArray := method_6_code
def yX0_rated : MethodName := ⟨RX0, "rated", "(LArcRecorder;I[J)I"⟩
abbrev cX0_loadOf : ByteArray := method_7_code
def yX0_loadOf : MethodName := ⟨RX0, "loadOf", "(LArcRecorder;II[J)I"⟩
abbrev cX0_isOn : ByteArray := method_8_code
def yX0_isOn : MethodName := ⟨RX0, "isOn", "(LArcRecorder;I[J)I"⟩
abbrev cX0_setOn : ByteArray := method_9_code
def yX0_setOn : MethodName := ⟨RX0, "setOn", "(LArcRecorder;IZ[J)I"⟩
abbrev cX0_plan : ByteArray := method_10_code
def yX0_plan : MethodName := ⟨RX0, "plan", "(LArcRecorder;IIZ[J)I"⟩
abbrev cX0_nextSwitch : ByteArray := method_11_code
def yX0_nextSwitch : MethodName := ⟨RX0, "nextSwitch", "(LArcRecorder;I[J)I"⟩
abbrev cX0_state : ByteArray := method_12_code
def yX0_state : MethodName := ⟨RX0, "state", "(LArcRecorder;I[J)I"⟩
abbrev cX0_run : ByteArray := method_13_code
def yX0_run : MethodName := ⟨RX0, "run", "(LArcRecorder;I[J)I"⟩
abbrev cX0_sample : ByteArray := method_14_code
def yX0_sample : MethodName := ⟨RX0, "sample", "(LArcRecorder;II[D)I"⟩
abbrev cX0_feature : ByteArray := method_15_code
def yX0_feature : MethodName := ⟨RX0, "feature", "(LArcRecorder;II[D)I"⟩
abbrev cX0_matching : ByteArray := method_16_code
def yX0_matching : MethodName := ⟨RX0, "matching", "(LArcRecorder;I[J)I"⟩
abbrev cX0_hiding : ByteArray := method_17_code
def yX0_hiding : MethodName := ⟨RX0, "hiding", "(LArcRecorder;I[J)I"⟩
abbrev cX0_isSuspect : ByteArray := method_18_code
def yX0_isSuspect : MethodName := ⟨RX0, "isSuspect", "(LArcRecorder;I[J)I"⟩
abbrev cX0_suspects : ByteArray := method_19_code
def yX0_suspects : MethodName := ⟨RX0, "suspects", "(LArcRecorder;I[J)I"⟩
abbrev cX0_wasSuspect : ByteArray := method_20_code
def yX0_wasSuspect : MethodName := ⟨RX0, "wasSuspect", "(LArcRecorder;II[J)I"⟩
abbrev cX0_margin : ByteArray := method_21_code
def yX0_margin : MethodName := ⟨RX0, "margin", "(LArcRecorder;I[J)I"⟩
abbrev cX0_hits : ByteArray := method_22_code
def yX0_hits : MethodName := ⟨RX0, "hits", "(LArcRecorder;I[J)I"⟩
abbrev cX0_isAlways : ByteArray := method_23_code
def yX0_isAlways : MethodName := ⟨RX0, "isAlways", "(LArcRecorder;I[J)I"⟩
abbrev cX0_nuisanceHits : ByteArray := method_24_code
def yX0_nuisanceHits : MethodName := ⟨RX0, "nuisanceHits", "(LArcRecorder;I[J)I"⟩
abbrev cX0_wouldMatch : ByteArray := method_25_code
def yX0_wouldMatch : MethodName := ⟨RX0, "wouldMatch", "(LArcRecorder;IFFFFF[J)I"⟩
abbrev cX0_learn : ByteArray := method_26_code
def yX0_learn : MethodName := ⟨RX0, "learn", "(LArcRecorder;I[J)I"⟩
abbrev cX0_forget : ByteArray := method_27_code
def yX0_forget : MethodName := ⟨RX0, "forget", "(LArcRecorder;I[J)I"⟩
abbrev cX0_setLimits : ByteArray := method_28_code
def yX0_setLimits : MethodName := ⟨RX0, "setLimits", "(LArcRecorder;II[J)I"⟩
abbrev cX0_reset : ByteArray := method_29_code
def yX0_reset : MethodName := ⟨RX0, "reset", "(LArcRecorder;I[J)I"⟩
abbrev cX0_service : ByteArray := method_30_code
def yX0_service : MethodName := ⟨RX0, "service", "(LArcRecorder;I[J)I"⟩
abbrev cX0_test : ByteArray := method_31_code
def yX0_test : MethodName := ⟨RX0, "test", "(LArcRecorder;I[J)I"⟩
abbrev cX0_isTested : ByteArray := method_32_code
def yX0_isTested : MethodName := ⟨RX0, "isTested", "(LArcRecorder;I[J)I"⟩
abbrev cX0_trips : ByteArray := method_33_code
def yX0_trips : MethodName := ⟨RX0, "trips", "(LArcRecorder;I[J)I"⟩
abbrev cX0_memory : ByteArray := method_34_code
def yX0_memory : MethodName := ⟨RX0, "memory", "(LArcRecorder;II[J)I"⟩
abbrev cX0_named : ByteArray := method_35_code
def yX0_named : MethodName := ⟨RX0, "named", "(LArcRecorder;II[J)I"⟩
abbrev cX0_peakOf : ByteArray := method_36_code
def yX0_peakOf : MethodName := ⟨RX0, "peakOf", "(LArcRecorder;I[D)I"⟩
abbrev cX0_tripIn : ByteArray := method_37_code
def yX0_tripIn : MethodName := ⟨RX0, "tripIn", "(LArcRecorder;I[J)I"⟩
abbrev cX0_tripping : ByteArray := method_38_code
def yX0_tripping : MethodName := ⟨RX0, "tripping", "(LArcRecorder;I[J)I"⟩
abbrev cX0_featureAfter : ByteArray := method_39_code
def yX0_featureAfter : MethodName := ⟨RX0, "featureAfter", "(LArcRecorder;III[D)I"⟩
abbrev cX0_culprit : ByteArray := method_40_code
def yX0_culprit : MethodName := ⟨RX0, "culprit", "(LArcRecorder;I[J)I"⟩
abbrev cX0_hitsAhead : ByteArray := method_41_code
def yX0_hitsAhead : MethodName := ⟨RX0, "hitsAhead", "(LArcRecorder;I[J)I"⟩
abbrev cX0_largestCount : ByteArray := method_42_code
def yX0_largestCount : MethodName := ⟨RX0, "largestCount", "(LArcRecorder;I[J)I"⟩
abbrev cX0_loadSample : ByteArray := method_43_code
def yX0_loadSample : MethodName := ⟨RX0, "loadSample", "(LArcRecorder;II[D)I"⟩
abbrev cX0_undo : ByteArray := method_44_code
def yX0_undo : MethodName := ⟨RX0, "undo", "(LArcRecorder;[J)I"⟩
abbrev cX0_writeTrip : ByteArray := method_45_code
def yX0_writeTrip : MethodName := ⟨RX0, "writeTrip", "(LArcRecorder;I[J)I"⟩
abbrev cX0_outputByte : ByteArray := method_46_code
def yX0_outputByte : MethodName := ⟨RX0, "outputByte", "(LArcRecorder;I[J)I"⟩
theorem q142 : (Jvm.Cond.initialized "ArcRecorderLaw") ∈ lw_all := lw_g (lw_at lw_m1 0 rfl) rfl
theorem q200 : (Jvm.Cond.classLink "ArcRecorderLaw" (8 : Nat) "ArcRecorder") ∈ lw_all := lw_g (lw_at lw_m1 58 rfl) rfl
theorem q202 : (Jvm.Cond.methodLink "ArcRecorderLaw" (162 : Nat) ({ cls := "ArcRecorder", name := "<init>", desc := "()V" } : Jvm.MethodName)) ∈ lw_all := lw_g (lw_at lw_m1 60 rfl) rfl
theorem q901 : (Jvm.Cond.methodLink "ArcRecorderLaw" (179 : Nat) ({ cls := "ArcRecorder", name := "load", desc := "()I" } : Jvm.MethodName)) ∈ lw_all := lw_g (lw_at lw_m4 39 rfl) rfl
theorem q1584 : (Jvm.Cond.methodLink "ArcRecorderLaw" (183 : Nat) ({ cls := "ArcRecorder", name := "errorCode", desc := "()I" } : Jvm.MethodName)) ∈ lw_all := lw_g (lw_at lw_m7 2 rfl) rfl
theorem q1588 : (Jvm.Cond.methodLink "ArcRecorderLaw" (187 : Nat) ({ cls := "ArcRecorder", name := "errorPosition", desc := "()I" } : Jvm.MethodName)) ∈ lw_all := lw_g (lw_at lw_m7 6 rfl) rfl
theorem q1592 : (Jvm.Cond.methodLink "ArcRecorderLaw" (191 : Nat) ({ cls := "ArcRecorder", name := "find", desc := "()I" } : Jvm.MethodName)) ∈ lw_all := lw_g (lw_at lw_m7 10 rfl) rfl
theorem q1616 : (Jvm.Cond.methodLink "ArcRecorderLaw" (199 : Nat) ({ cls := "ArcRecorder", name := "now", desc := "()I" } : Jvm.MethodName)) ∈ lw_all := lw_g (lw_at lw_m7 34 rfl) rfl
theorem q1620 : (Jvm.Cond.methodLink "ArcRecorderLaw" (290 : Nat) ({ cls := "ArcRecorder", name := "losePower", desc := "()I" } : Jvm.MethodName)) ∈ lw_all := lw_g (lw_at lw_m7 38 rfl) rfl
theorem q1952 : (Jvm.Cond.methodLink "ArcRecorderLaw" (297 : Nat) ({ cls := "ArcRecorder", name := "memoryCount", desc := "()I" } : Jvm.MethodName)) ∈ lw_all := lw_g (lw_at lw_m8 130 rfl) rfl
theorem q1953 : (Jvm.Cond.methodLink "ArcRecorderLaw" (311 : Nat) ({ cls := "ArcRecorder", name := "clearMemory", desc := "()I" } : Jvm.MethodName)) ∈ lw_all := lw_g (lw_at lw_m8 131 rfl) rfl
theorem q1964 : (Jvm.Cond.methodLink "ArcRecorderLaw" (334 : Nat) ({ cls := "ArcRecorder", name := "totalMean", desc := "()F" } : Jvm.MethodName)) ∈ lw_all := lw_g (lw_at lw_m8 142 rfl) rfl
theorem q1968 : (Jvm.Cond.methodLink "ArcRecorderLaw" (346 : Nat) ({ cls := "ArcRecorder", name := "undoCount", desc := "()I" } : Jvm.MethodName)) ∈ lw_all := lw_g (lw_at lw_m8 146 rfl) rfl
theorem q1972 : (Jvm.Cond.methodLink "ArcRecorderLaw" (166 : Nat) ({ cls := "ArcRecorderLaw", name := "append", desc := "(LArcRecorder;IIIII[J)I" } : Jvm.MethodName)) ∈ lw_all := lw_g (lw_at lw_m8 150 rfl) rfl
theorem q1973 : (Jvm.Cond.static ({ cls := "ArcRecorderLaw", name := "append", desc := "(LArcRecorder;IIIII[J)I" } : Jvm.MethodName)) ∈ lw_all := lw_g (lw_at lw_m8 151 rfl) rfl
theorem q1974 : (Jvm.Cond.codeWith ({ cls := "ArcRecorderLaw", name := "append", desc := "(LArcRecorder;IIIII[J)I" } : Jvm.MethodName) method_3_code (8 : Nat) (Option.some Jvm.ClassFile.FieldType.int) [((0 : Nat), (16 : Nat), (19 : Nat), (13 : Nat))]) ∈ lw_all := lw_g (lw_at lw_m8 152 rfl) rfl
theorem q1975 : (Jvm.Cond.classLink "ArcRecorderLaw" (13 : Nat) "java/lang/IllegalStateException") ∈ lw_all := lw_g (lw_at lw_m8 153 rfl) rfl
theorem q1976 : (Jvm.Cond.methodLink "ArcRecorderLaw" (7 : Nat) ({ cls := "ArcRecorder", name := "append", desc := "(IIIII)I" } : Jvm.MethodName)) ∈ lw_all := lw_g (lw_at lw_m8 154 rfl) rfl
theorem q1992 : (Jvm.Cond.methodLink "ArcRecorderLaw" (175 : Nat) ({ cls := "ArcRecorderLaw", name := "truncate", desc := "(LArcRecorder;I)I" } : Jvm.MethodName)) ∈ lw_all := lw_g (lw_at lw_m8 170 rfl) rfl
theorem q1993 : (Jvm.Cond.static ({ cls := "ArcRecorderLaw", name := "truncate", desc := "(LArcRecorder;I)I" } : Jvm.MethodName)) ∈ lw_all := lw_g (lw_at lw_m8 171 rfl) rfl
theorem q1994 : (Jvm.Cond.codeWith ({ cls := "ArcRecorderLaw", name := "truncate", desc := "(LArcRecorder;I)I" } : Jvm.MethodName) method_4_code (3 : Nat) (Option.some Jvm.ClassFile.FieldType.int) [((0 : Nat), (5 : Nat), (8 : Nat), (19 : Nat))]) ∈ lw_all := lw_g (lw_at lw_m8 172 rfl) rfl
theorem q1995 : (Jvm.Cond.classLink "ArcRecorderLaw" (19 : Nat) "java/lang/IllegalArgumentException") ∈ lw_all := lw_g (lw_at lw_m8 173 rfl) rfl
theorem q1996 : (Jvm.Cond.methodLink "ArcRecorderLaw" (15 : Nat) ({ cls := "ArcRecorder", name := "truncate", desc := "(I)V" } : Jvm.MethodName)) ∈ lw_all := lw_g (lw_at lw_m8 174 rfl) rfl
theorem q2009 : (Jvm.Cond.methodLink "ArcRecorderLaw" (195 : Nat) ({ cls := "ArcRecorderLaw", name := "count", desc := "(LArcRecorder;I[J)I" } : Jvm.MethodName)) ∈ lw_all := lw_g (lw_at lw_m8 187 rfl) rfl
theorem q2010 : (Jvm.Cond.static ({ cls := "ArcRecorderLaw", name := "count", desc := "(LArcRecorder;I[J)I" } : Jvm.MethodName)) ∈ lw_all := lw_g (lw_at lw_m8 188 rfl) rfl
theorem q2011 : (Jvm.Cond.codeWith ({ cls := "ArcRecorderLaw", name := "count", desc := "(LArcRecorder;I[J)I" } : Jvm.MethodName) method_5_code (4 : Nat) (Option.some Jvm.ClassFile.FieldType.int) [((0 : Nat), (9 : Nat), (12 : Nat), (19 : Nat))]) ∈ lw_all := lw_g (lw_at lw_m8 189 rfl) rfl
theorem q2012 : (Jvm.Cond.methodLink "ArcRecorderLaw" (21 : Nat) ({ cls := "ArcRecorder", name := "count", desc := "(I)I" } : Jvm.MethodName)) ∈ lw_all := lw_g (lw_at lw_m8 190 rfl) rfl
theorem q2026 : (Jvm.Cond.methodLink "ArcRecorderLaw" (203 : Nat) ({ cls := "ArcRecorderLaw", name := "rated", desc := "(LArcRecorder;I[J)I" } : Jvm.MethodName)) ∈ lw_all := lw_g (lw_at lw_m8 204 rfl) rfl
theorem q2027 : (Jvm.Cond.static ({ cls := "ArcRecorderLaw", name := "rated", desc := "(LArcRecorder;I[J)I" } : Jvm.MethodName)) ∈ lw_all := lw_g (lw_at lw_m8 205 rfl) rfl
theorem q2028 : (Jvm.Cond.codeWith ({ cls := "ArcRecorderLaw", name := "rated", desc := "(LArcRecorder;I[J)I" } : Jvm.MethodName) method_6_code (4 : Nat) (Option.some Jvm.ClassFile.FieldType.int) [((0 : Nat), (9 : Nat), (12 : Nat), (28 : Nat))]) ∈ lw_all := lw_g (lw_at lw_m8 206 rfl) rfl
theorem q2029 : (Jvm.Cond.classLink "ArcRecorderLaw" (28 : Nat) "java/lang/IndexOutOfBoundsException") ∈ lw_all := lw_g (lw_at lw_m8 207 rfl) rfl
theorem q2045 : (Jvm.Cond.methodLink "ArcRecorderLaw" (25 : Nat) ({ cls := "ArcRecorder", name := "rated", desc := "(I)I" } : Jvm.MethodName)) ∈ lw_all := lw_g (lw_at lw_m8 223 rfl) rfl
theorem q2061 : (Jvm.Cond.methodLink "ArcRecorderLaw" (206 : Nat) ({ cls := "ArcRecorderLaw", name := "loadOf", desc := "(LArcRecorder;II[J)I" } : Jvm.MethodName)) ∈ lw_all := lw_g (lw_at lw_m8 239 rfl) rfl
theorem q2062 : (Jvm.Cond.static ({ cls := "ArcRecorderLaw", name := "loadOf", desc := "(LArcRecorder;II[J)I" } : Jvm.MethodName)) ∈ lw_all := lw_g (lw_at lw_m9 0 rfl) rfl
theorem q2063 : (Jvm.Cond.codeWith ({ cls := "ArcRecorderLaw", name := "loadOf", desc := "(LArcRecorder;II[J)I" } : Jvm.MethodName) method_7_code (5 : Nat) (Option.some Jvm.ClassFile.FieldType.int) [((0 : Nat), (10 : Nat), (13 : Nat), (28 : Nat)), ((0 : Nat), (10 : Nat), (17 : Nat), (19 : Nat))]) ∈ lw_all := lw_g (lw_at lw_m9 1 rfl) rfl
theorem q2064 : (Jvm.Cond.methodLink "ArcRecorderLaw" (30 : Nat) ({ cls := "ArcRecorder", name := "loadOf", desc := "(II)I" } : Jvm.MethodName)) ∈ lw_all := lw_g (lw_at lw_m9 2 rfl) rfl
theorem q2113 : (Jvm.Cond.methodLink "ArcRecorderLaw" (210 : Nat) ({ cls := "ArcRecorderLaw", name := "isOn", desc := "(LArcRecorder;I[J)I" } : Jvm.MethodName)) ∈ lw_all := lw_g (lw_at lw_m9 51 rfl) rfl
theorem q2114 : (Jvm.Cond.static ({ cls := "ArcRecorderLaw", name := "isOn", desc := "(LArcRecorder;I[J)I" } : Jvm.MethodName)) ∈ lw_all := lw_g (lw_at lw_m9 52 rfl) rfl
theorem q2115 : (Jvm.Cond.codeWith ({ cls := "ArcRecorderLaw", name := "isOn", desc := "(LArcRecorder;I[J)I" } : Jvm.MethodName) method_8_code (4 : Nat) (Option.some Jvm.ClassFile.FieldType.int) [((0 : Nat), (16 : Nat), (19 : Nat), (28 : Nat))]) ∈ lw_all := lw_g (lw_at lw_m9 53 rfl) rfl
theorem q2116 : (Jvm.Cond.methodLink "ArcRecorderLaw" (34 : Nat) ({ cls := "ArcRecorder", name := "isOn", desc := "(I)Z" } : Jvm.MethodName)) ∈ lw_all := lw_g (lw_at lw_m9 54 rfl) rfl
theorem q2120 : (Jvm.Cond.methodLink "ArcRecorderLaw" (213 : Nat) ({ cls := "ArcRecorderLaw", name := "setOn", desc := "(LArcRecorder;IZ[J)I" } : Jvm.MethodName)) ∈ lw_all := lw_g (lw_at lw_m9 58 rfl) rfl
theorem q2121 : (Jvm.Cond.static ({ cls := "ArcRecorderLaw", name := "setOn", desc := "(LArcRecorder;IZ[J)I" } : Jvm.MethodName)) ∈ lw_all := lw_g (lw_at lw_m9 59 rfl) rfl
theorem q2122 : (Jvm.Cond.codeWith ({ cls := "ArcRecorderLaw", name := "setOn", desc := "(LArcRecorder;IZ[J)I" } : Jvm.MethodName) method_9_code (5 : Nat) (Option.some Jvm.ClassFile.FieldType.int) [((0 : Nat), (17 : Nat), (20 : Nat), (28 : Nat))]) ∈ lw_all := lw_g (lw_at lw_m9 60 rfl) rfl
theorem q2123 : (Jvm.Cond.methodLink "ArcRecorderLaw" (38 : Nat) ({ cls := "ArcRecorder", name := "setOn", desc := "(IZ)Z" } : Jvm.MethodName)) ∈ lw_all := lw_g (lw_at lw_m9 61 rfl) rfl
theorem q2127 : (Jvm.Cond.methodLink "ArcRecorderLaw" (217 : Nat) ({ cls := "ArcRecorderLaw", name := "plan", desc := "(LArcRecorder;IIZ[J)I" } : Jvm.MethodName)) ∈ lw_all := lw_g (lw_at lw_m9 65 rfl) rfl
theorem q2128 : (Jvm.Cond.static ({ cls := "ArcRecorderLaw", name := "plan", desc := "(LArcRecorder;IIZ[J)I" } : Jvm.MethodName)) ∈ lw_all := lw_g (lw_at lw_m9 66 rfl) rfl
theorem q2129 : (Jvm.Cond.codeWith ({ cls := "ArcRecorderLaw", name := "plan", desc := "(LArcRecorder;IIZ[J)I" } : Jvm.MethodName) method_10_code (6 : Nat) (Option.some Jvm.ClassFile.FieldType.int) [((0 : Nat), (12 : Nat), (15 : Nat), (28 : Nat)), ((0 : Nat), (12 : Nat), (19 : Nat), (19 : Nat)), ((0 : Nat), (12 : Nat), (23 : Nat), (13 : Nat))]) ∈ lw_all := lw_g (lw_at lw_m9 67 rfl) rfl
theorem q2130 : (Jvm.Cond.methodLink "ArcRecorderLaw" (42 : Nat) ({ cls := "ArcRecorder", name := "plan", desc := "(IIZ)I" } : Jvm.MethodName)) ∈ lw_all := lw_g (lw_at lw_m9 68 rfl) rfl
theorem q2138 : (Jvm.Cond.methodLink "ArcRecorderLaw" (221 : Nat) ({ cls := "ArcRecorderLaw", name := "nextSwitch", desc := "(LArcRecorder;I[J)I" } : Jvm.MethodName)) ∈ lw_all := lw_g (lw_at lw_m9 76 rfl) rfl
theorem q2139 : (Jvm.Cond.static ({ cls := "ArcRecorderLaw", name := "nextSwitch", desc := "(LArcRecorder;I[J)I" } : Jvm.MethodName)) ∈ lw_all := lw_g (lw_at lw_m9 77 rfl) rfl
theorem q2140 : (Jvm.Cond.codeWith ({ cls := "ArcRecorderLaw", name := "nextSwitch", desc := "(LArcRecorder;I[J)I" } : Jvm.MethodName) method_11_code (4 : Nat) (Option.some Jvm.ClassFile.FieldType.int) [((0 : Nat), (9 : Nat), (12 : Nat), (28 : Nat))]) ∈ lw_all := lw_g (lw_at lw_m9 78 rfl) rfl
theorem q2141 : (Jvm.Cond.methodLink "ArcRecorderLaw" (46 : Nat) ({ cls := "ArcRecorder", name := "nextSwitch", desc := "(I)I" } : Jvm.MethodName)) ∈ lw_all := lw_g (lw_at lw_m9 79 rfl) rfl
theorem q2150 : (Jvm.Cond.methodLink "ArcRecorderLaw" (224 : Nat) ({ cls := "ArcRecorderLaw", name := "state", desc := "(LArcRecorder;I[J)I" } : Jvm.MethodName)) ∈ lw_all := lw_g (lw_at lw_m9 88 rfl) rfl
theorem q2151 : (Jvm.Cond.static ({ cls := "ArcRecorderLaw", name := "state", desc := "(LArcRecorder;I[J)I" } : Jvm.MethodName)) ∈ lw_all := lw_g (lw_at lw_m9 89 rfl) rfl
theorem q2152 : (Jvm.Cond.codeWith ({ cls := "ArcRecorderLaw", name := "state", desc := "(LArcRecorder;I[J)I" } : Jvm.MethodName) method_12_code (4 : Nat) (Option.some Jvm.ClassFile.FieldType.int) [((0 : Nat), (9 : Nat), (12 : Nat), (28 : Nat))]) ∈ lw_all := lw_g (lw_at lw_m9 90 rfl) rfl
theorem q2153 : (Jvm.Cond.methodLink "ArcRecorderLaw" (49 : Nat) ({ cls := "ArcRecorder", name := "state", desc := "(I)I" } : Jvm.MethodName)) ∈ lw_all := lw_g (lw_at lw_m9 91 rfl) rfl
theorem q2157 : (Jvm.Cond.methodLink "ArcRecorderLaw" (227 : Nat) ({ cls := "ArcRecorderLaw", name := "run", desc := "(LArcRecorder;I[J)I" } : Jvm.MethodName)) ∈ lw_all := lw_g (lw_at lw_m9 95 rfl) rfl
theorem q2158 : (Jvm.Cond.static ({ cls := "ArcRecorderLaw", name := "run", desc := "(LArcRecorder;I[J)I" } : Jvm.MethodName)) ∈ lw_all := lw_g (lw_at lw_m9 96 rfl) rfl
theorem q2159 : (Jvm.Cond.codeWith ({ cls := "ArcRecorderLaw", name := "run", desc := "(LArcRecorder;I[J)I" } : Jvm.MethodName) method_13_code (4 : Nat) (Option.some Jvm.ClassFile.FieldType.int) [((0 : Nat), (9 : Nat), (12 : Nat), (19 : Nat)), ((0 : Nat), (9 : Nat), (15 : Nat), (13 : Nat))]) ∈ lw_all := lw_g (lw_at lw_m9 97 rfl) rfl
theorem q2160 : (Jvm.Cond.methodLink "ArcRecorderLaw" (52 : Nat) ({ cls := "ArcRecorder", name := "run", desc := "(I)I" } : Jvm.MethodName)) ∈ lw_all := lw_g (lw_at lw_m9 98 rfl) rfl
theorem q2351 : (Jvm.Cond.methodLink "ArcRecorderLaw" (230 : Nat) ({ cls := "ArcRecorderLaw", name := "sample", desc := "(LArcRecorder;II[D)I" } : Jvm.MethodName)) ∈ lw_all := lw_g (lw_at lw_m10 49 rfl) rfl
theorem q2352 : (Jvm.Cond.static ({ cls := "ArcRecorderLaw", name := "sample", desc := "(LArcRecorder;II[D)I" } : Jvm.MethodName)) ∈ lw_all := lw_g (lw_at lw_m10 50 rfl) rfl
theorem q2353 : (Jvm.Cond.codeWith ({ cls := "ArcRecorderLaw", name := "sample", desc := "(LArcRecorder;II[D)I" } : Jvm.MethodName) method_14_code (5 : Nat) (Option.some Jvm.ClassFile.FieldType.int) [((0 : Nat), (10 : Nat), (13 : Nat), (28 : Nat)), ((0 : Nat), (10 : Nat), (17 : Nat), (19 : Nat)), ((0 : Nat), (10 : Nat), (21 : Nat), (59 : Nat))]) ∈ lw_all := lw_g (lw_at lw_m10 51 rfl) rfl
theorem q2354 : (Jvm.Cond.classLink "ArcRecorderLaw" (59 : Nat) "java/util/NoSuchElementException") ∈ lw_all := lw_g (lw_at lw_m10 52 rfl) rfl
theorem q2355 : (Jvm.Cond.methodLink "ArcRecorderLaw" (55 : Nat) ({ cls := "ArcRecorder", name := "sample", desc := "(II)F" } : Jvm.MethodName)) ∈ lw_all := lw_g (lw_at lw_m10 53 rfl) rfl
theorem q2364 : (Jvm.Cond.methodLink "ArcRecorderLaw" (234 : Nat) ({ cls := "ArcRecorderLaw", name := "feature", desc := "(LArcRecorder;II[D)I" } : Jvm.MethodName)) ∈ lw_all := lw_g (lw_at lw_m10 62 rfl) rfl
theorem q2365 : (Jvm.Cond.static ({ cls := "ArcRecorderLaw", name := "feature", desc := "(LArcRecorder;II[D)I" } : Jvm.MethodName)) ∈ lw_all := lw_g (lw_at lw_m10 63 rfl) rfl
theorem q2366 : (Jvm.Cond.codeWith ({ cls := "ArcRecorderLaw", name := "feature", desc := "(LArcRecorder;II[D)I" } : Jvm.MethodName) method_15_code (5 : Nat) (Option.some Jvm.ClassFile.FieldType.int) [((0 : Nat), (10 : Nat), (13 : Nat), (28 : Nat)), ((0 : Nat), (10 : Nat), (17 : Nat), (19 : Nat)), ((0 : Nat), (10 : Nat), (21 : Nat), (59 : Nat))]) ∈ lw_all := lw_g (lw_at lw_m10 64 rfl) rfl
theorem q2367 : (Jvm.Cond.methodLink "ArcRecorderLaw" (61 : Nat) ({ cls := "ArcRecorder", name := "feature", desc := "(II)F" } : Jvm.MethodName)) ∈ lw_all := lw_g (lw_at lw_m10 65 rfl) rfl
theorem q2375 : (Jvm.Cond.methodLink "ArcRecorderLaw" (237 : Nat) ({ cls := "ArcRecorderLaw", name := "matching", desc := "(LArcRecorder;I[J)I" } : Jvm.MethodName)) ∈ lw_all := lw_g (lw_at lw_m10 73 rfl) rfl
theorem q2376 : (Jvm.Cond.static ({ cls := "ArcRecorderLaw", name := "matching", desc := "(LArcRecorder;I[J)I" } : Jvm.MethodName)) ∈ lw_all := lw_g (lw_at lw_m10 74 rfl) rfl
theorem q2377 : (Jvm.Cond.codeWith ({ cls := "ArcRecorderLaw", name := "matching", desc := "(LArcRecorder;I[J)I" } : Jvm.MethodName) method_16_code (4 : Nat) (Option.some Jvm.ClassFile.FieldType.int) [((0 : Nat), (9 : Nat), (12 : Nat), (28 : Nat))]) ∈ lw_all := lw_g (lw_at lw_m10 75 rfl) rfl
theorem q2378 : (Jvm.Cond.methodLink "ArcRecorderLaw" (64 : Nat) ({ cls := "ArcRecorder", name := "matching", desc := "(I)I" } : Jvm.MethodName)) ∈ lw_all := lw_g (lw_at lw_m10 76 rfl) rfl
theorem q2382 : (Jvm.Cond.methodLink "ArcRecorderLaw" (240 : Nat) ({ cls := "ArcRecorderLaw", name := "hiding", desc := "(LArcRecorder;I[J)I" } : Jvm.MethodName)) ∈ lw_all := lw_g (lw_at lw_m10 80 rfl) rfl
theorem q2383 : (Jvm.Cond.static ({ cls := "ArcRecorderLaw", name := "hiding", desc := "(LArcRecorder;I[J)I" } : Jvm.MethodName)) ∈ lw_all := lw_g (lw_at lw_m10 81 rfl) rfl
theorem q2384 : (Jvm.Cond.codeWith ({ cls := "ArcRecorderLaw", name := "hiding", desc := "(LArcRecorder;I[J)I" } : Jvm.MethodName) method_17_code (4 : Nat) (Option.some Jvm.ClassFile.FieldType.int) [((0 : Nat), (9 : Nat), (12 : Nat), (28 : Nat))]) ∈ lw_all := lw_g (lw_at lw_m10 82 rfl) rfl
theorem q2385 : (Jvm.Cond.methodLink "ArcRecorderLaw" (67 : Nat) ({ cls := "ArcRecorder", name := "hiding", desc := "(I)I" } : Jvm.MethodName)) ∈ lw_all := lw_g (lw_at lw_m10 83 rfl) rfl
theorem q2389 : (Jvm.Cond.methodLink "ArcRecorderLaw" (243 : Nat) ({ cls := "ArcRecorderLaw", name := "isSuspect", desc := "(LArcRecorder;I[J)I" } : Jvm.MethodName)) ∈ lw_all := lw_g (lw_at lw_m10 87 rfl) rfl
theorem q2390 : (Jvm.Cond.static ({ cls := "ArcRecorderLaw", name := "isSuspect", desc := "(LArcRecorder;I[J)I" } : Jvm.MethodName)) ∈ lw_all := lw_g (lw_at lw_m10 88 rfl) rfl
theorem q2391 : (Jvm.Cond.codeWith ({ cls := "ArcRecorderLaw", name := "isSuspect", desc := "(LArcRecorder;I[J)I" } : Jvm.MethodName) method_18_code (4 : Nat) (Option.some Jvm.ClassFile.FieldType.int) [((0 : Nat), (16 : Nat), (19 : Nat), (28 : Nat))]) ∈ lw_all := lw_g (lw_at lw_m10 89 rfl) rfl
theorem q2392 : (Jvm.Cond.methodLink "ArcRecorderLaw" (70 : Nat) ({ cls := "ArcRecorder", name := "isSuspect", desc := "(I)Z" } : Jvm.MethodName)) ∈ lw_all := lw_g (lw_at lw_m10 90 rfl) rfl
theorem q2396 : (Jvm.Cond.methodLink "ArcRecorderLaw" (246 : Nat) ({ cls := "ArcRecorderLaw", name := "suspects", desc := "(LArcRecorder;I[J)I" } : Jvm.MethodName)) ∈ lw_all := lw_g (lw_at lw_m10 94 rfl) rfl
theorem q2397 : (Jvm.Cond.static ({ cls := "ArcRecorderLaw", name := "suspects", desc := "(LArcRecorder;I[J)I" } : Jvm.MethodName)) ∈ lw_all := lw_g (lw_at lw_m10 95 rfl) rfl
theorem q2398 : (Jvm.Cond.codeWith ({ cls := "ArcRecorderLaw", name := "suspects", desc := "(LArcRecorder;I[J)I" } : Jvm.MethodName) method_19_code (4 : Nat) (Option.some Jvm.ClassFile.FieldType.int) [((0 : Nat), (9 : Nat), (12 : Nat), (28 : Nat))]) ∈ lw_all := lw_g (lw_at lw_m10 96 rfl) rfl
theorem q2399 : (Jvm.Cond.methodLink "ArcRecorderLaw" (73 : Nat) ({ cls := "ArcRecorder", name := "suspects", desc := "(I)I" } : Jvm.MethodName)) ∈ lw_all := lw_g (lw_at lw_m10 97 rfl) rfl
theorem q2404 : (Jvm.Cond.methodLink "ArcRecorderLaw" (249 : Nat) ({ cls := "ArcRecorderLaw", name := "wasSuspect", desc := "(LArcRecorder;II[J)I" } : Jvm.MethodName)) ∈ lw_all := lw_g (lw_at lw_m10 102 rfl) rfl
theorem q2405 : (Jvm.Cond.static ({ cls := "ArcRecorderLaw", name := "wasSuspect", desc := "(LArcRecorder;II[J)I" } : Jvm.MethodName)) ∈ lw_all := lw_g (lw_at lw_m10 103 rfl) rfl
theorem q2406 : (Jvm.Cond.codeWith ({ cls := "ArcRecorderLaw", name := "wasSuspect", desc := "(LArcRecorder;II[J)I" } : Jvm.MethodName) method_20_code (5 : Nat) (Option.some Jvm.ClassFile.FieldType.int) [((0 : Nat), (17 : Nat), (20 : Nat), (28 : Nat)), ((0 : Nat), (17 : Nat), (24 : Nat), (19 : Nat))]) ∈ lw_all := lw_g (lw_at lw_m10 104 rfl) rfl
theorem q2407 : (Jvm.Cond.methodLink "ArcRecorderLaw" (76 : Nat) ({ cls := "ArcRecorder", name := "wasSuspect", desc := "(II)Z" } : Jvm.MethodName)) ∈ lw_all := lw_g (lw_at lw_m10 105 rfl) rfl
theorem q2413 : (Jvm.Cond.methodLink "ArcRecorderLaw" (252 : Nat) ({ cls := "ArcRecorderLaw", name := "margin", desc := "(LArcRecorder;I[J)I" } : Jvm.MethodName)) ∈ lw_all := lw_g (lw_at lw_m10 111 rfl) rfl
theorem q2414 : (Jvm.Cond.static ({ cls := "ArcRecorderLaw", name := "margin", desc := "(LArcRecorder;I[J)I" } : Jvm.MethodName)) ∈ lw_all := lw_g (lw_at lw_m10 112 rfl) rfl
theorem q2415 : (Jvm.Cond.codeWith ({ cls := "ArcRecorderLaw", name := "margin", desc := "(LArcRecorder;I[J)I" } : Jvm.MethodName) method_21_code (4 : Nat) (Option.some Jvm.ClassFile.FieldType.int) [((0 : Nat), (9 : Nat), (12 : Nat), (28 : Nat))]) ∈ lw_all := lw_g (lw_at lw_m10 113 rfl) rfl
theorem q2416 : (Jvm.Cond.methodLink "ArcRecorderLaw" (80 : Nat) ({ cls := "ArcRecorder", name := "margin", desc := "(I)I" } : Jvm.MethodName)) ∈ lw_all := lw_g (lw_at lw_m10 114 rfl) rfl
theorem q2425 : (Jvm.Cond.methodLink "ArcRecorderLaw" (255 : Nat) ({ cls := "ArcRecorderLaw", name := "hits", desc := "(LArcRecorder;I[J)I" } : Jvm.MethodName)) ∈ lw_all := lw_g (lw_at lw_m10 123 rfl) rfl
theorem q2426 : (Jvm.Cond.static ({ cls := "ArcRecorderLaw", name := "hits", desc := "(LArcRecorder;I[J)I" } : Jvm.MethodName)) ∈ lw_all := lw_g (lw_at lw_m10 124 rfl) rfl
theorem q2427 : (Jvm.Cond.codeWith ({ cls := "ArcRecorderLaw", name := "hits", desc := "(LArcRecorder;I[J)I" } : Jvm.MethodName) method_22_code (4 : Nat) (Option.some Jvm.ClassFile.FieldType.int) [((0 : Nat), (9 : Nat), (12 : Nat), (28 : Nat))]) ∈ lw_all := lw_g (lw_at lw_m10 125 rfl) rfl
theorem q2428 : (Jvm.Cond.methodLink "ArcRecorderLaw" (83 : Nat) ({ cls := "ArcRecorder", name := "hits", desc := "(I)I" } : Jvm.MethodName)) ∈ lw_all := lw_g (lw_at lw_m10 126 rfl) rfl
theorem q2437 : (Jvm.Cond.methodLink "ArcRecorderLaw" (258 : Nat) ({ cls := "ArcRecorderLaw", name := "isAlways", desc := "(LArcRecorder;I[J)I" } : Jvm.MethodName)) ∈ lw_all := lw_g (lw_at lw_m10 135 rfl) rfl
theorem q2438 : (Jvm.Cond.static ({ cls := "ArcRecorderLaw", name := "isAlways", desc := "(LArcRecorder;I[J)I" } : Jvm.MethodName)) ∈ lw_all := lw_g (lw_at lw_m10 136 rfl) rfl
theorem q2439 : (Jvm.Cond.codeWith ({ cls := "ArcRecorderLaw", name := "isAlways", desc := "(LArcRecorder;I[J)I" } : Jvm.MethodName) method_23_code (4 : Nat) (Option.some Jvm.ClassFile.FieldType.int) [((0 : Nat), (16 : Nat), (19 : Nat), (28 : Nat))]) ∈ lw_all := lw_g (lw_at lw_m10 137 rfl) rfl
theorem q2440 : (Jvm.Cond.methodLink "ArcRecorderLaw" (86 : Nat) ({ cls := "ArcRecorder", name := "isAlways", desc := "(I)Z" } : Jvm.MethodName)) ∈ lw_all := lw_g (lw_at lw_m10 138 rfl) rfl
theorem q2444 : (Jvm.Cond.methodLink "ArcRecorderLaw" (261 : Nat) ({ cls := "ArcRecorderLaw", name := "nuisanceHits", desc := "(LArcRecorder;I[J)I" } : Jvm.MethodName)) ∈ lw_all := lw_g (lw_at lw_m10 142 rfl) rfl
theorem q2445 : (Jvm.Cond.static ({ cls := "ArcRecorderLaw", name := "nuisanceHits", desc := "(LArcRecorder;I[J)I" } : Jvm.MethodName)) ∈ lw_all := lw_g (lw_at lw_m10 143 rfl) rfl
theorem q2446 : (Jvm.Cond.codeWith ({ cls := "ArcRecorderLaw", name := "nuisanceHits", desc := "(LArcRecorder;I[J)I" } : Jvm.MethodName) method_24_code (4 : Nat) (Option.some Jvm.ClassFile.FieldType.int) [((0 : Nat), (9 : Nat), (12 : Nat), (28 : Nat))]) ∈ lw_all := lw_g (lw_at lw_m10 144 rfl) rfl
theorem q2447 : (Jvm.Cond.methodLink "ArcRecorderLaw" (89 : Nat) ({ cls := "ArcRecorder", name := "nuisanceHits", desc := "(I)I" } : Jvm.MethodName)) ∈ lw_all := lw_g (lw_at lw_m10 145 rfl) rfl
theorem q2456 : (Jvm.Cond.methodLink "ArcRecorderLaw" (265 : Nat) ({ cls := "ArcRecorderLaw", name := "wouldMatch", desc := "(LArcRecorder;IFFFFF[J)I" } : Jvm.MethodName)) ∈ lw_all := lw_g (lw_at lw_m10 154 rfl) rfl
theorem q2457 : (Jvm.Cond.static ({ cls := "ArcRecorderLaw", name := "wouldMatch", desc := "(LArcRecorder;IFFFFF[J)I" } : Jvm.MethodName)) ∈ lw_all := lw_g (lw_at lw_m10 155 rfl) rfl
theorem q2458 : (Jvm.Cond.codeWith ({ cls := "ArcRecorderLaw", name := "wouldMatch", desc := "(LArcRecorder;IFFFFF[J)I" } : Jvm.MethodName) method_25_code (9 : Nat) (Option.some Jvm.ClassFile.FieldType.int) [((0 : Nat), (25 : Nat), (28 : Nat), (28 : Nat))]) ∈ lw_all := lw_g (lw_at lw_m10 156 rfl) rfl
theorem q2459 : (Jvm.Cond.methodLink "ArcRecorderLaw" (92 : Nat) ({ cls := "ArcRecorder", name := "wouldMatch", desc := "(IFFFFF)Z" } : Jvm.MethodName)) ∈ lw_all := lw_g (lw_at lw_m10 157 rfl) rfl
theorem q2464 : (Jvm.Cond.methodLink "ArcRecorderLaw" (269 : Nat) ({ cls := "ArcRecorderLaw", name := "learn", desc := "(LArcRecorder;I[J)I" } : Jvm.MethodName)) ∈ lw_all := lw_g (lw_at lw_m10 162 rfl) rfl
theorem q2465 : (Jvm.Cond.static ({ cls := "ArcRecorderLaw", name := "learn", desc := "(LArcRecorder;I[J)I" } : Jvm.MethodName)) ∈ lw_all := lw_g (lw_at lw_m10 163 rfl) rfl
theorem q2466 : (Jvm.Cond.codeWith ({ cls := "ArcRecorderLaw", name := "learn", desc := "(LArcRecorder;I[J)I" } : Jvm.MethodName) method_26_code (4 : Nat) (Option.some Jvm.ClassFile.FieldType.int) [((0 : Nat), (9 : Nat), (12 : Nat), (28 : Nat)), ((0 : Nat), (9 : Nat), (15 : Nat), (19 : Nat)), ((0 : Nat), (9 : Nat), (18 : Nat), (13 : Nat)), ((0 : Nat), (9 : Nat), (21 : Nat), (59 : Nat))]) ∈ lw_all := lw_g (lw_at lw_m10 164 rfl) rfl
theorem q2467 : (Jvm.Cond.methodLink "ArcRecorderLaw" (96 : Nat) ({ cls := "ArcRecorder", name := "learn", desc := "(I)I" } : Jvm.MethodName)) ∈ lw_all := lw_g (lw_at lw_m10 165 rfl) rfl
theorem q2495 : (Jvm.Cond.methodLink "ArcRecorderLaw" (272 : Nat) ({ cls := "ArcRecorderLaw", name := "forget", desc := "(LArcRecorder;I[J)I" } : Jvm.MethodName)) ∈ lw_all := lw_g (lw_at lw_m10 193 rfl) rfl
theorem q2496 : (Jvm.Cond.static ({ cls := "ArcRecorderLaw", name := "forget", desc := "(LArcRecorder;I[J)I" } : Jvm.MethodName)) ∈ lw_all := lw_g (lw_at lw_m10 194 rfl) rfl
theorem q2497 : (Jvm.Cond.codeWith ({ cls := "ArcRecorderLaw", name := "forget", desc := "(LArcRecorder;I[J)I" } : Jvm.MethodName) method_27_code (4 : Nat) (Option.some Jvm.ClassFile.FieldType.int) [((0 : Nat), (9 : Nat), (12 : Nat), (28 : Nat))]) ∈ lw_all := lw_g (lw_at lw_m10 195 rfl) rfl
theorem q2498 : (Jvm.Cond.methodLink "ArcRecorderLaw" (99 : Nat) ({ cls := "ArcRecorder", name := "forget", desc := "(I)I" } : Jvm.MethodName)) ∈ lw_all := lw_g (lw_at lw_m10 196 rfl) rfl
theorem q2511 : (Jvm.Cond.methodLink "ArcRecorderLaw" (275 : Nat) ({ cls := "ArcRecorderLaw", name := "setLimits", desc := "(LArcRecorder;II[J)I" } : Jvm.MethodName)) ∈ lw_all := lw_g (lw_at lw_m10 209 rfl) rfl
theorem q2512 : (Jvm.Cond.static ({ cls := "ArcRecorderLaw", name := "setLimits", desc := "(LArcRecorder;II[J)I" } : Jvm.MethodName)) ∈ lw_all := lw_g (lw_at lw_m10 210 rfl) rfl
theorem q2513 : (Jvm.Cond.codeWith ({ cls := "ArcRecorderLaw", name := "setLimits", desc := "(LArcRecorder;II[J)I" } : Jvm.MethodName) method_28_code (5 : Nat) (Option.some Jvm.ClassFile.FieldType.int) [((0 : Nat), (10 : Nat), (13 : Nat), (19 : Nat))]) ∈ lw_all := lw_g (lw_at lw_m10 211 rfl) rfl
theorem q2514 : (Jvm.Cond.methodLink "ArcRecorderLaw" (102 : Nat) ({ cls := "ArcRecorder", name := "setLimits", desc := "(II)I" } : Jvm.MethodName)) ∈ lw_all := lw_g (lw_at lw_m10 212 rfl) rfl
theorem q2519 : (Jvm.Cond.methodLink "ArcRecorderLaw" (278 : Nat) ({ cls := "ArcRecorderLaw", name := "reset", desc := "(LArcRecorder;I[J)I" } : Jvm.MethodName)) ∈ lw_all := lw_g (lw_at lw_m10 217 rfl) rfl
theorem q2520 : (Jvm.Cond.static ({ cls := "ArcRecorderLaw", name := "reset", desc := "(LArcRecorder;I[J)I" } : Jvm.MethodName)) ∈ lw_all := lw_g (lw_at lw_m10 218 rfl) rfl
theorem q2521 : (Jvm.Cond.codeWith ({ cls := "ArcRecorderLaw", name := "reset", desc := "(LArcRecorder;I[J)I" } : Jvm.MethodName) method_29_code (4 : Nat) (Option.some Jvm.ClassFile.FieldType.int) [((0 : Nat), (9 : Nat), (12 : Nat), (28 : Nat)), ((0 : Nat), (9 : Nat), (15 : Nat), (13 : Nat))]) ∈ lw_all := lw_g (lw_at lw_m10 219 rfl) rfl
theorem q2522 : (Jvm.Cond.methodLink "ArcRecorderLaw" (105 : Nat) ({ cls := "ArcRecorder", name := "reset", desc := "(I)I" } : Jvm.MethodName)) ∈ lw_all := lw_g (lw_at lw_m10 220 rfl) rfl
theorem q2526 : (Jvm.Cond.methodLink "ArcRecorderLaw" (281 : Nat) ({ cls := "ArcRecorderLaw", name := "service", desc := "(LArcRecorder;I[J)I" } : Jvm.MethodName)) ∈ lw_all := lw_g (lw_at lw_m10 224 rfl) rfl
theorem q2527 : (Jvm.Cond.static ({ cls := "ArcRecorderLaw", name := "service", desc := "(LArcRecorder;I[J)I" } : Jvm.MethodName)) ∈ lw_all := lw_g (lw_at lw_m10 225 rfl) rfl
theorem q2528 : (Jvm.Cond.codeWith ({ cls := "ArcRecorderLaw", name := "service", desc := "(LArcRecorder;I[J)I" } : Jvm.MethodName) method_30_code (4 : Nat) (Option.some Jvm.ClassFile.FieldType.int) [((0 : Nat), (9 : Nat), (12 : Nat), (28 : Nat))]) ∈ lw_all := lw_g (lw_at lw_m10 226 rfl) rfl
theorem q2529 : (Jvm.Cond.methodLink "ArcRecorderLaw" (108 : Nat) ({ cls := "ArcRecorder", name := "service", desc := "(I)I" } : Jvm.MethodName)) ∈ lw_all := lw_g (lw_at lw_m10 227 rfl) rfl
theorem q2533 : (Jvm.Cond.methodLink "ArcRecorderLaw" (284 : Nat) ({ cls := "ArcRecorderLaw", name := "test", desc := "(LArcRecorder;I[J)I" } : Jvm.MethodName)) ∈ lw_all := lw_g (lw_at lw_m10 231 rfl) rfl
theorem q2534 : (Jvm.Cond.static ({ cls := "ArcRecorderLaw", name := "test", desc := "(LArcRecorder;I[J)I" } : Jvm.MethodName)) ∈ lw_all := lw_g (lw_at lw_m10 232 rfl) rfl
theorem q2535 : (Jvm.Cond.codeWith ({ cls := "ArcRecorderLaw", name := "test", desc := "(LArcRecorder;I[J)I" } : Jvm.MethodName) method_31_code (4 : Nat) (Option.some Jvm.ClassFile.FieldType.int) [((0 : Nat), (9 : Nat), (12 : Nat), (28 : Nat)), ((0 : Nat), (9 : Nat), (15 : Nat), (13 : Nat))]) ∈ lw_all := lw_g (lw_at lw_m10 233 rfl) rfl
theorem q2536 : (Jvm.Cond.methodLink "ArcRecorderLaw" (111 : Nat) ({ cls := "ArcRecorder", name := "test", desc := "(I)I" } : Jvm.MethodName)) ∈ lw_all := lw_g (lw_at lw_m10 234 rfl) rfl
theorem q2541 : (Jvm.Cond.methodLink "ArcRecorderLaw" (287 : Nat) ({ cls := "ArcRecorderLaw", name := "isTested", desc := "(LArcRecorder;I[J)I" } : Jvm.MethodName)) ∈ lw_all := lw_g (lw_at lw_m10 239 rfl) rfl
theorem q2542 : (Jvm.Cond.static ({ cls := "ArcRecorderLaw", name := "isTested", desc := "(LArcRecorder;I[J)I" } : Jvm.MethodName)) ∈ lw_all := lw_g (lw_at lw_m11 0 rfl) rfl
theorem q2543 : (Jvm.Cond.codeWith ({ cls := "ArcRecorderLaw", name := "isTested", desc := "(LArcRecorder;I[J)I" } : Jvm.MethodName) method_32_code (4 : Nat) (Option.some Jvm.ClassFile.FieldType.int) [((0 : Nat), (16 : Nat), (19 : Nat), (28 : Nat))]) ∈ lw_all := lw_g (lw_at lw_m11 1 rfl) rfl
theorem q2544 : (Jvm.Cond.methodLink "ArcRecorderLaw" (114 : Nat) ({ cls := "ArcRecorder", name := "isTested", desc := "(I)Z" } : Jvm.MethodName)) ∈ lw_all := lw_g (lw_at lw_m11 2 rfl) rfl
theorem q2548 : (Jvm.Cond.methodLink "ArcRecorderLaw" (294 : Nat) ({ cls := "ArcRecorderLaw", name := "trips", desc := "(LArcRecorder;I[J)I" } : Jvm.MethodName)) ∈ lw_all := lw_g (lw_at lw_m11 6 rfl) rfl
theorem q2549 : (Jvm.Cond.static ({ cls := "ArcRecorderLaw", name := "trips", desc := "(LArcRecorder;I[J)I" } : Jvm.MethodName)) ∈ lw_all := lw_g (lw_at lw_m11 7 rfl) rfl
theorem q2550 : (Jvm.Cond.codeWith ({ cls := "ArcRecorderLaw", name := "trips", desc := "(LArcRecorder;I[J)I" } : Jvm.MethodName) method_33_code (4 : Nat) (Option.some Jvm.ClassFile.FieldType.int) [((0 : Nat), (9 : Nat), (12 : Nat), (28 : Nat))]) ∈ lw_all := lw_g (lw_at lw_m11 8 rfl) rfl
theorem q2551 : (Jvm.Cond.methodLink "ArcRecorderLaw" (117 : Nat) ({ cls := "ArcRecorder", name := "trips", desc := "(I)I" } : Jvm.MethodName)) ∈ lw_all := lw_g (lw_at lw_m11 9 rfl) rfl
theorem q2555 : (Jvm.Cond.methodLink "ArcRecorderLaw" (301 : Nat) ({ cls := "ArcRecorderLaw", name := "memory", desc := "(LArcRecorder;II[J)I" } : Jvm.MethodName)) ∈ lw_all := lw_g (lw_at lw_m11 13 rfl) rfl
theorem q2556 : (Jvm.Cond.static ({ cls := "ArcRecorderLaw", name := "memory", desc := "(LArcRecorder;II[J)I" } : Jvm.MethodName)) ∈ lw_all := lw_g (lw_at lw_m11 14 rfl) rfl
theorem q2557 : (Jvm.Cond.codeWith ({ cls := "ArcRecorderLaw", name := "memory", desc := "(LArcRecorder;II[J)I" } : Jvm.MethodName) method_34_code (5 : Nat) (Option.some Jvm.ClassFile.FieldType.int) [((0 : Nat), (10 : Nat), (13 : Nat), (28 : Nat)), ((0 : Nat), (10 : Nat), (17 : Nat), (19 : Nat))]) ∈ lw_all := lw_g (lw_at lw_m11 15 rfl) rfl
theorem q2558 : (Jvm.Cond.methodLink "ArcRecorderLaw" (120 : Nat) ({ cls := "ArcRecorder", name := "memory", desc := "(II)I" } : Jvm.MethodName)) ∈ lw_all := lw_g (lw_at lw_m11 16 rfl) rfl
theorem q2568 : (Jvm.Cond.methodLink "ArcRecorderLaw" (304 : Nat) ({ cls := "ArcRecorderLaw", name := "named", desc := "(LArcRecorder;II[J)I" } : Jvm.MethodName)) ∈ lw_all := lw_g (lw_at lw_m11 26 rfl) rfl
theorem q2569 : (Jvm.Cond.static ({ cls := "ArcRecorderLaw", name := "named", desc := "(LArcRecorder;II[J)I" } : Jvm.MethodName)) ∈ lw_all := lw_g (lw_at lw_m11 27 rfl) rfl
theorem q2570 : (Jvm.Cond.codeWith ({ cls := "ArcRecorderLaw", name := "named", desc := "(LArcRecorder;II[J)I" } : Jvm.MethodName) method_35_code (5 : Nat) (Option.some Jvm.ClassFile.FieldType.int) [((0 : Nat), (10 : Nat), (13 : Nat), (28 : Nat)), ((0 : Nat), (10 : Nat), (17 : Nat), (59 : Nat))]) ∈ lw_all := lw_g (lw_at lw_m11 28 rfl) rfl
theorem q2571 : (Jvm.Cond.methodLink "ArcRecorderLaw" (123 : Nat) ({ cls := "ArcRecorder", name := "named", desc := "(II)I" } : Jvm.MethodName)) ∈ lw_all := lw_g (lw_at lw_m11 29 rfl) rfl
theorem q2575 : (Jvm.Cond.methodLink "ArcRecorderLaw" (307 : Nat) ({ cls := "ArcRecorderLaw", name := "peakOf", desc := "(LArcRecorder;I[D)I" } : Jvm.MethodName)) ∈ lw_all := lw_g (lw_at lw_m11 33 rfl) rfl
theorem q2576 : (Jvm.Cond.static ({ cls := "ArcRecorderLaw", name := "peakOf", desc := "(LArcRecorder;I[D)I" } : Jvm.MethodName)) ∈ lw_all := lw_g (lw_at lw_m11 34 rfl) rfl
theorem q2577 : (Jvm.Cond.codeWith ({ cls := "ArcRecorderLaw", name := "peakOf", desc := "(LArcRecorder;I[D)I" } : Jvm.MethodName) method_36_code (4 : Nat) (Option.some Jvm.ClassFile.FieldType.int) [((0 : Nat), (9 : Nat), (12 : Nat), (28 : Nat))]) ∈ lw_all := lw_g (lw_at lw_m11 35 rfl) rfl
theorem q2578 : (Jvm.Cond.methodLink "ArcRecorderLaw" (126 : Nat) ({ cls := "ArcRecorder", name := "peakOf", desc := "(I)F" } : Jvm.MethodName)) ∈ lw_all := lw_g (lw_at lw_m11 36 rfl) rfl
theorem q2582 : (Jvm.Cond.methodLink "ArcRecorderLaw" (315 : Nat) ({ cls := "ArcRecorderLaw", name := "tripIn", desc := "(LArcRecorder;I[J)I" } : Jvm.MethodName)) ∈ lw_all := lw_g (lw_at lw_m11 40 rfl) rfl
theorem q2583 : (Jvm.Cond.static ({ cls := "ArcRecorderLaw", name := "tripIn", desc := "(LArcRecorder;I[J)I" } : Jvm.MethodName)) ∈ lw_all := lw_g (lw_at lw_m11 41 rfl) rfl
theorem q2584 : (Jvm.Cond.codeWith ({ cls := "ArcRecorderLaw", name := "tripIn", desc := "(LArcRecorder;I[J)I" } : Jvm.MethodName) method_37_code (4 : Nat) (Option.some Jvm.ClassFile.FieldType.int) [((0 : Nat), (9 : Nat), (12 : Nat), (28 : Nat))]) ∈ lw_all := lw_g (lw_at lw_m11 42 rfl) rfl
theorem q2585 : (Jvm.Cond.methodLink "ArcRecorderLaw" (130 : Nat) ({ cls := "ArcRecorder", name := "tripIn", desc := "(I)I" } : Jvm.MethodName)) ∈ lw_all := lw_g (lw_at lw_m11 43 rfl) rfl
theorem q2594 : (Jvm.Cond.methodLink "ArcRecorderLaw" (318 : Nat) ({ cls := "ArcRecorderLaw", name := "tripping", desc := "(LArcRecorder;I[J)I" } : Jvm.MethodName)) ∈ lw_all := lw_g (lw_at lw_m11 52 rfl) rfl
theorem q2595 : (Jvm.Cond.static ({ cls := "ArcRecorderLaw", name := "tripping", desc := "(LArcRecorder;I[J)I" } : Jvm.MethodName)) ∈ lw_all := lw_g (lw_at lw_m11 53 rfl) rfl
theorem q2596 : (Jvm.Cond.codeWith ({ cls := "ArcRecorderLaw", name := "tripping", desc := "(LArcRecorder;I[J)I" } : Jvm.MethodName) method_38_code (4 : Nat) (Option.some Jvm.ClassFile.FieldType.int) [((0 : Nat), (9 : Nat), (12 : Nat), (19 : Nat))]) ∈ lw_all := lw_g (lw_at lw_m11 54 rfl) rfl
theorem q2597 : (Jvm.Cond.methodLink "ArcRecorderLaw" (133 : Nat) ({ cls := "ArcRecorder", name := "tripping", desc := "(I)I" } : Jvm.MethodName)) ∈ lw_all := lw_g (lw_at lw_m11 55 rfl) rfl
theorem q2601 : (Jvm.Cond.methodLink "ArcRecorderLaw" (321 : Nat) ({ cls := "ArcRecorderLaw", name := "featureAfter", desc := "(LArcRecorder;III[D)I" } : Jvm.MethodName)) ∈ lw_all := lw_g (lw_at lw_m11 59 rfl) rfl
theorem q2602 : (Jvm.Cond.static ({ cls := "ArcRecorderLaw", name := "featureAfter", desc := "(LArcRecorder;III[D)I" } : Jvm.MethodName)) ∈ lw_all := lw_g (lw_at lw_m11 60 rfl) rfl
theorem q2603 : (Jvm.Cond.codeWith ({ cls := "ArcRecorderLaw", name := "featureAfter", desc := "(LArcRecorder;III[D)I" } : Jvm.MethodName) method_39_code (6 : Nat) (Option.some Jvm.ClassFile.FieldType.int) [((0 : Nat), (12 : Nat), (15 : Nat), (28 : Nat)), ((0 : Nat), (12 : Nat), (19 : Nat), (19 : Nat)), ((0 : Nat), (12 : Nat), (23 : Nat), (59 : Nat))]) ∈ lw_all := lw_g (lw_at lw_m11 61 rfl) rfl
theorem q2604 : (Jvm.Cond.methodLink "ArcRecorderLaw" (136 : Nat) ({ cls := "ArcRecorder", name := "featureAfter", desc := "(III)F" } : Jvm.MethodName)) ∈ lw_all := lw_g (lw_at lw_m11 62 rfl) rfl
theorem q2608 : (Jvm.Cond.methodLink "ArcRecorderLaw" (325 : Nat) ({ cls := "ArcRecorderLaw", name := "culprit", desc := "(LArcRecorder;I[J)I" } : Jvm.MethodName)) ∈ lw_all := lw_g (lw_at lw_m11 66 rfl) rfl
theorem q2609 : (Jvm.Cond.static ({ cls := "ArcRecorderLaw", name := "culprit", desc := "(LArcRecorder;I[J)I" } : Jvm.MethodName)) ∈ lw_all := lw_g (lw_at lw_m11 67 rfl) rfl
theorem q2610 : (Jvm.Cond.codeWith ({ cls := "ArcRecorderLaw", name := "culprit", desc := "(LArcRecorder;I[J)I" } : Jvm.MethodName) method_40_code (4 : Nat) (Option.some Jvm.ClassFile.FieldType.int) [((0 : Nat), (9 : Nat), (12 : Nat), (28 : Nat))]) ∈ lw_all := lw_g (lw_at lw_m11 68 rfl) rfl
theorem q2611 : (Jvm.Cond.methodLink "ArcRecorderLaw" (140 : Nat) ({ cls := "ArcRecorder", name := "culprit", desc := "(I)I" } : Jvm.MethodName)) ∈ lw_all := lw_g (lw_at lw_m11 69 rfl) rfl
theorem q2615 : (Jvm.Cond.methodLink "ArcRecorderLaw" (328 : Nat) ({ cls := "ArcRecorderLaw", name := "hitsAhead", desc := "(LArcRecorder;I[J)I" } : Jvm.MethodName)) ∈ lw_all := lw_g (lw_at lw_m11 73 rfl) rfl
theorem q2616 : (Jvm.Cond.static ({ cls := "ArcRecorderLaw", name := "hitsAhead", desc := "(LArcRecorder;I[J)I" } : Jvm.MethodName)) ∈ lw_all := lw_g (lw_at lw_m11 74 rfl) rfl
theorem q2617 : (Jvm.Cond.codeWith ({ cls := "ArcRecorderLaw", name := "hitsAhead", desc := "(LArcRecorder;I[J)I" } : Jvm.MethodName) method_41_code (4 : Nat) (Option.some Jvm.ClassFile.FieldType.int) [((0 : Nat), (9 : Nat), (12 : Nat), (28 : Nat))]) ∈ lw_all := lw_g (lw_at lw_m11 75 rfl) rfl
theorem q2618 : (Jvm.Cond.methodLink "ArcRecorderLaw" (143 : Nat) ({ cls := "ArcRecorder", name := "hitsAhead", desc := "(I)I" } : Jvm.MethodName)) ∈ lw_all := lw_g (lw_at lw_m11 76 rfl) rfl
theorem q2622 : (Jvm.Cond.methodLink "ArcRecorderLaw" (331 : Nat) ({ cls := "ArcRecorderLaw", name := "largestCount", desc := "(LArcRecorder;I[J)I" } : Jvm.MethodName)) ∈ lw_all := lw_g (lw_at lw_m11 80 rfl) rfl
theorem q2623 : (Jvm.Cond.static ({ cls := "ArcRecorderLaw", name := "largestCount", desc := "(LArcRecorder;I[J)I" } : Jvm.MethodName)) ∈ lw_all := lw_g (lw_at lw_m11 81 rfl) rfl
theorem q2624 : (Jvm.Cond.codeWith ({ cls := "ArcRecorderLaw", name := "largestCount", desc := "(LArcRecorder;I[J)I" } : Jvm.MethodName) method_42_code (4 : Nat) (Option.some Jvm.ClassFile.FieldType.int) [((0 : Nat), (9 : Nat), (12 : Nat), (28 : Nat))]) ∈ lw_all := lw_g (lw_at lw_m11 82 rfl) rfl
theorem q2625 : (Jvm.Cond.methodLink "ArcRecorderLaw" (146 : Nat) ({ cls := "ArcRecorder", name := "largestCount", desc := "(I)I" } : Jvm.MethodName)) ∈ lw_all := lw_g (lw_at lw_m11 83 rfl) rfl
theorem q2629 : (Jvm.Cond.methodLink "ArcRecorderLaw" (339 : Nat) ({ cls := "ArcRecorderLaw", name := "loadSample", desc := "(LArcRecorder;II[D)I" } : Jvm.MethodName)) ∈ lw_all := lw_g (lw_at lw_m11 87 rfl) rfl
theorem q2630 : (Jvm.Cond.static ({ cls := "ArcRecorderLaw", name := "loadSample", desc := "(LArcRecorder;II[D)I" } : Jvm.MethodName)) ∈ lw_all := lw_g (lw_at lw_m11 88 rfl) rfl
theorem q2631 : (Jvm.Cond.codeWith ({ cls := "ArcRecorderLaw", name := "loadSample", desc := "(LArcRecorder;II[D)I" } : Jvm.MethodName) method_43_code (5 : Nat) (Option.some Jvm.ClassFile.FieldType.int) [((0 : Nat), (10 : Nat), (13 : Nat), (28 : Nat)), ((0 : Nat), (10 : Nat), (17 : Nat), (19 : Nat))]) ∈ lw_all := lw_g (lw_at lw_m11 89 rfl) rfl
theorem q2632 : (Jvm.Cond.methodLink "ArcRecorderLaw" (149 : Nat) ({ cls := "ArcRecorder", name := "loadSample", desc := "(II)F" } : Jvm.MethodName)) ∈ lw_all := lw_g (lw_at lw_m11 90 rfl) rfl
theorem q2637 : (Jvm.Cond.methodLink "ArcRecorderLaw" (342 : Nat) ({ cls := "ArcRecorderLaw", name := "undo", desc := "(LArcRecorder;[J)I" } : Jvm.MethodName)) ∈ lw_all := lw_g (lw_at lw_m11 95 rfl) rfl
theorem q2638 : (Jvm.Cond.static ({ cls := "ArcRecorderLaw", name := "undo", desc := "(LArcRecorder;[J)I" } : Jvm.MethodName)) ∈ lw_all := lw_g (lw_at lw_m11 96 rfl) rfl
theorem q2639 : (Jvm.Cond.codeWith ({ cls := "ArcRecorderLaw", name := "undo", desc := "(LArcRecorder;[J)I" } : Jvm.MethodName) method_44_code (3 : Nat) (Option.some Jvm.ClassFile.FieldType.int) [((0 : Nat), (8 : Nat), (11 : Nat), (13 : Nat))]) ∈ lw_all := lw_g (lw_at lw_m11 97 rfl) rfl
theorem q2640 : (Jvm.Cond.methodLink "ArcRecorderLaw" (152 : Nat) ({ cls := "ArcRecorder", name := "undo", desc := "()I" } : Jvm.MethodName)) ∈ lw_all := lw_g (lw_at lw_m11 98 rfl) rfl
theorem q2659 : (Jvm.Cond.methodLink "ArcRecorderLaw" (350 : Nat) ({ cls := "ArcRecorderLaw", name := "writeTrip", desc := "(LArcRecorder;I[J)I" } : Jvm.MethodName)) ∈ lw_all := lw_g (lw_at lw_m11 117 rfl) rfl
theorem q2660 : (Jvm.Cond.static ({ cls := "ArcRecorderLaw", name := "writeTrip", desc := "(LArcRecorder;I[J)I" } : Jvm.MethodName)) ∈ lw_all := lw_g (lw_at lw_m11 118 rfl) rfl
theorem q2661 : (Jvm.Cond.codeWith ({ cls := "ArcRecorderLaw", name := "writeTrip", desc := "(LArcRecorder;I[J)I" } : Jvm.MethodName) method_45_code (4 : Nat) (Option.some Jvm.ClassFile.FieldType.int) [((0 : Nat), (9 : Nat), (12 : Nat), (28 : Nat))]) ∈ lw_all := lw_g (lw_at lw_m11 119 rfl) rfl
theorem q2662 : (Jvm.Cond.methodLink "ArcRecorderLaw" (156 : Nat) ({ cls := "ArcRecorder", name := "writeTrip", desc := "(I)I" } : Jvm.MethodName)) ∈ lw_all := lw_g (lw_at lw_m11 120 rfl) rfl
theorem q2722 : (Jvm.Cond.methodLink "ArcRecorderLaw" (353 : Nat) ({ cls := "ArcRecorderLaw", name := "outputByte", desc := "(LArcRecorder;I[J)I" } : Jvm.MethodName)) ∈ lw_all := lw_g (lw_at lw_m11 180 rfl) rfl
theorem q2723 : (Jvm.Cond.static ({ cls := "ArcRecorderLaw", name := "outputByte", desc := "(LArcRecorder;I[J)I" } : Jvm.MethodName)) ∈ lw_all := lw_g (lw_at lw_m11 181 rfl) rfl
theorem q2724 : (Jvm.Cond.codeWith ({ cls := "ArcRecorderLaw", name := "outputByte", desc := "(LArcRecorder;I[J)I" } : Jvm.MethodName) method_46_code (4 : Nat) (Option.some Jvm.ClassFile.FieldType.int) [((0 : Nat), (9 : Nat), (12 : Nat), (28 : Nat))]) ∈ lw_all := lw_g (lw_at lw_m11 182 rfl) rfl
theorem q2725 : (Jvm.Cond.methodLink "ArcRecorderLaw" (159 : Nat) ({ cls := "ArcRecorder", name := "outputByte", desc := "(I)I" } : Jvm.MethodName)) ∈ lw_all := lw_g (lw_at lw_m11 183 rfl) rfl
theorem q2739 : (Jvm.Cond.methodLink "ArcRecorderLaw" (172 : Nat) ({ cls := "ArcRecorderModel", name := "thrown", desc := "()I" } : Jvm.MethodName)) ∈ lw_all := lw_g (lw_at lw_m11 197 rfl) rfl
theorem q2743 : (Jvm.Cond.classLink "ArcRecorderLaw" (163 : Nat) "ArcRecorderModel") ∈ lw_all := lw_g (lw_at lw_m11 201 rfl) rfl
theorem q2745 : (Jvm.Cond.methodLink "ArcRecorderLaw" (165 : Nat) ({ cls := "ArcRecorderModel", name := "<init>", desc := "()V" } : Jvm.MethodName)) ∈ lw_all := lw_g (lw_at lw_m11 203 rfl) rfl
theorem q2828 : (Jvm.Cond.methodLink "ArcRecorderLaw" (171 : Nat) ({ cls := "ArcRecorderModel", name := "append", desc := "(IIIII)I" } : Jvm.MethodName)) ∈ lw_all := lw_g (lw_at lw_m12 46 rfl) rfl
theorem q2844 : (Jvm.Cond.methodLink "ArcRecorderLaw" (178 : Nat) ({ cls := "ArcRecorderModel", name := "truncate", desc := "(I)V" } : Jvm.MethodName)) ∈ lw_all := lw_g (lw_at lw_m12 62 rfl) rfl
theorem q2851 : (Jvm.Cond.methodLink "ArcRecorderLaw" (182 : Nat) ({ cls := "ArcRecorderModel", name := "load", desc := "()I" } : Jvm.MethodName)) ∈ lw_all := lw_g (lw_at lw_m12 69 rfl) rfl
theorem q3058 : (Jvm.Cond.methodLink "ArcRecorderLaw" (186 : Nat) ({ cls := "ArcRecorderModel", name := "errorCode", desc := "()I" } : Jvm.MethodName)) ∈ lw_all := lw_g (lw_at lw_m13 36 rfl) rfl
theorem q3062 : (Jvm.Cond.methodLink "ArcRecorderLaw" (190 : Nat) ({ cls := "ArcRecorderModel", name := "errorPosition", desc := "()I" } : Jvm.MethodName)) ∈ lw_all := lw_g (lw_at lw_m13 40 rfl) rfl
theorem q3066 : (Jvm.Cond.methodLink "ArcRecorderLaw" (194 : Nat) ({ cls := "ArcRecorderModel", name := "find", desc := "()I" } : Jvm.MethodName)) ∈ lw_all := lw_g (lw_at lw_m13 44 rfl) rfl
theorem q3074 : (Jvm.Cond.methodLink "ArcRecorderLaw" (198 : Nat) ({ cls := "ArcRecorderModel", name := "count", desc := "(I)I" } : Jvm.MethodName)) ∈ lw_all := lw_g (lw_at lw_m13 52 rfl) rfl
theorem q3079 : (Jvm.Cond.methodLink "ArcRecorderLaw" (202 : Nat) ({ cls := "ArcRecorderModel", name := "now", desc := "()I" } : Jvm.MethodName)) ∈ lw_all := lw_g (lw_at lw_m13 57 rfl) rfl
theorem q3083 : (Jvm.Cond.methodLink "ArcRecorderLaw" (205 : Nat) ({ cls := "ArcRecorderModel", name := "rated", desc := "(I)I" } : Jvm.MethodName)) ∈ lw_all := lw_g (lw_at lw_m13 61 rfl) rfl
theorem q3095 : (Jvm.Cond.methodLink "ArcRecorderLaw" (209 : Nat) ({ cls := "ArcRecorderModel", name := "loadOf", desc := "(II)I" } : Jvm.MethodName)) ∈ lw_all := lw_g (lw_at lw_m13 73 rfl) rfl
theorem q3112 : (Jvm.Cond.methodLink "ArcRecorderLaw" (212 : Nat) ({ cls := "ArcRecorderModel", name := "isOn", desc := "(I)Z" } : Jvm.MethodName)) ∈ lw_all := lw_g (lw_at lw_m13 90 rfl) rfl
theorem q3116 : (Jvm.Cond.methodLink "ArcRecorderLaw" (216 : Nat) ({ cls := "ArcRecorderModel", name := "setOn", desc := "(IZ)Z" } : Jvm.MethodName)) ∈ lw_all := lw_g (lw_at lw_m13 94 rfl) rfl
theorem q3120 : (Jvm.Cond.methodLink "ArcRecorderLaw" (220 : Nat) ({ cls := "ArcRecorderModel", name := "plan", desc := "(IIZ)I" } : Jvm.MethodName)) ∈ lw_all := lw_g (lw_at lw_m13 98 rfl) rfl
theorem q3129 : (Jvm.Cond.methodLink "ArcRecorderLaw" (223 : Nat) ({ cls := "ArcRecorderModel", name := "nextSwitch", desc := "(I)I" } : Jvm.MethodName)) ∈ lw_all := lw_g (lw_at lw_m13 107 rfl) rfl
theorem q3133 : (Jvm.Cond.methodLink "ArcRecorderLaw" (226 : Nat) ({ cls := "ArcRecorderModel", name := "state", desc := "(I)I" } : Jvm.MethodName)) ∈ lw_all := lw_g (lw_at lw_m13 111 rfl) rfl
theorem q3137 : (Jvm.Cond.methodLink "ArcRecorderLaw" (229 : Nat) ({ cls := "ArcRecorderModel", name := "run", desc := "(I)I" } : Jvm.MethodName)) ∈ lw_all := lw_g (lw_at lw_m13 115 rfl) rfl
theorem q3245 : (Jvm.Cond.methodLink "ArcRecorderLaw" (233 : Nat) ({ cls := "ArcRecorderModel", name := "sample", desc := "(II)F" } : Jvm.MethodName)) ∈ lw_all := lw_g (lw_at lw_m13 223 rfl) rfl
theorem q3253 : (Jvm.Cond.methodLink "ArcRecorderLaw" (236 : Nat) ({ cls := "ArcRecorderModel", name := "feature", desc := "(II)F" } : Jvm.MethodName)) ∈ lw_all := lw_g (lw_at lw_m13 231 rfl) rfl
theorem q3261 : (Jvm.Cond.methodLink "ArcRecorderLaw" (239 : Nat) ({ cls := "ArcRecorderModel", name := "matching", desc := "(I)I" } : Jvm.MethodName)) ∈ lw_all := lw_g (lw_at lw_m13 239 rfl) rfl
theorem q3265 : (Jvm.Cond.methodLink "ArcRecorderLaw" (242 : Nat) ({ cls := "ArcRecorderModel", name := "hiding", desc := "(I)I" } : Jvm.MethodName)) ∈ lw_all := lw_g (lw_at lw_m14 3 rfl) rfl
theorem q3269 : (Jvm.Cond.methodLink "ArcRecorderLaw" (245 : Nat) ({ cls := "ArcRecorderModel", name := "isSuspect", desc := "(I)Z" } : Jvm.MethodName)) ∈ lw_all := lw_g (lw_at lw_m14 7 rfl) rfl
theorem q3273 : (Jvm.Cond.methodLink "ArcRecorderLaw" (248 : Nat) ({ cls := "ArcRecorderModel", name := "suspects", desc := "(I)I" } : Jvm.MethodName)) ∈ lw_all := lw_g (lw_at lw_m14 11 rfl) rfl
theorem q3277 : (Jvm.Cond.methodLink "ArcRecorderLaw" (251 : Nat) ({ cls := "ArcRecorderModel", name := "wasSuspect", desc := "(II)Z" } : Jvm.MethodName)) ∈ lw_all := lw_g (lw_at lw_m14 15 rfl) rfl
theorem q3282 : (Jvm.Cond.methodLink "ArcRecorderLaw" (254 : Nat) ({ cls := "ArcRecorderModel", name := "margin", desc := "(I)I" } : Jvm.MethodName)) ∈ lw_all := lw_g (lw_at lw_m14 20 rfl) rfl
theorem q3290 : (Jvm.Cond.methodLink "ArcRecorderLaw" (257 : Nat) ({ cls := "ArcRecorderModel", name := "hits", desc := "(I)I" } : Jvm.MethodName)) ∈ lw_all := lw_g (lw_at lw_m14 28 rfl) rfl
theorem q3298 : (Jvm.Cond.methodLink "ArcRecorderLaw" (260 : Nat) ({ cls := "ArcRecorderModel", name := "isAlways", desc := "(I)Z" } : Jvm.MethodName)) ∈ lw_all := lw_g (lw_at lw_m14 36 rfl) rfl
theorem q3302 : (Jvm.Cond.methodLink "ArcRecorderLaw" (263 : Nat) ({ cls := "ArcRecorderModel", name := "nuisanceHits", desc := "(I)I" } : Jvm.MethodName)) ∈ lw_all := lw_g (lw_at lw_m14 40 rfl) rfl
theorem q3310 : (Jvm.Cond.methodLink "ArcRecorderLaw" (268 : Nat) ({ cls := "ArcRecorderModel", name := "wouldMatch", desc := "(IFFFFF)Z" } : Jvm.MethodName)) ∈ lw_all := lw_g (lw_at lw_m14 48 rfl) rfl
theorem q3314 : (Jvm.Cond.methodLink "ArcRecorderLaw" (271 : Nat) ({ cls := "ArcRecorderModel", name := "learn", desc := "(I)I" } : Jvm.MethodName)) ∈ lw_all := lw_g (lw_at lw_m14 52 rfl) rfl
theorem q3322 : (Jvm.Cond.methodLink "ArcRecorderLaw" (274 : Nat) ({ cls := "ArcRecorderModel", name := "forget", desc := "(I)I" } : Jvm.MethodName)) ∈ lw_all := lw_g (lw_at lw_m14 60 rfl) rfl
theorem q3326 : (Jvm.Cond.methodLink "ArcRecorderLaw" (277 : Nat) ({ cls := "ArcRecorderModel", name := "setLimits", desc := "(II)I" } : Jvm.MethodName)) ∈ lw_all := lw_g (lw_at lw_m14 64 rfl) rfl
theorem q3331 : (Jvm.Cond.methodLink "ArcRecorderLaw" (280 : Nat) ({ cls := "ArcRecorderModel", name := "reset", desc := "(I)I" } : Jvm.MethodName)) ∈ lw_all := lw_g (lw_at lw_m14 69 rfl) rfl
theorem q3335 : (Jvm.Cond.methodLink "ArcRecorderLaw" (283 : Nat) ({ cls := "ArcRecorderModel", name := "service", desc := "(I)I" } : Jvm.MethodName)) ∈ lw_all := lw_g (lw_at lw_m14 73 rfl) rfl
theorem q3339 : (Jvm.Cond.methodLink "ArcRecorderLaw" (286 : Nat) ({ cls := "ArcRecorderModel", name := "test", desc := "(I)I" } : Jvm.MethodName)) ∈ lw_all := lw_g (lw_at lw_m14 77 rfl) rfl
theorem q3343 : (Jvm.Cond.methodLink "ArcRecorderLaw" (289 : Nat) ({ cls := "ArcRecorderModel", name := "isTested", desc := "(I)Z" } : Jvm.MethodName)) ∈ lw_all := lw_g (lw_at lw_m14 81 rfl) rfl
theorem q3347 : (Jvm.Cond.methodLink "ArcRecorderLaw" (293 : Nat) ({ cls := "ArcRecorderModel", name := "losePower", desc := "()I" } : Jvm.MethodName)) ∈ lw_all := lw_g (lw_at lw_m14 85 rfl) rfl
theorem q3351 : (Jvm.Cond.methodLink "ArcRecorderLaw" (296 : Nat) ({ cls := "ArcRecorderModel", name := "trips", desc := "(I)I" } : Jvm.MethodName)) ∈ lw_all := lw_g (lw_at lw_m14 89 rfl) rfl
theorem q3355 : (Jvm.Cond.methodLink "ArcRecorderLaw" (300 : Nat) ({ cls := "ArcRecorderModel", name := "memoryCount", desc := "()I" } : Jvm.MethodName)) ∈ lw_all := lw_g (lw_at lw_m14 93 rfl) rfl
theorem q3359 : (Jvm.Cond.methodLink "ArcRecorderLaw" (303 : Nat) ({ cls := "ArcRecorderModel", name := "memory", desc := "(II)I" } : Jvm.MethodName)) ∈ lw_all := lw_g (lw_at lw_m14 97 rfl) rfl
theorem q3371 : (Jvm.Cond.methodLink "ArcRecorderLaw" (306 : Nat) ({ cls := "ArcRecorderModel", name := "named", desc := "(II)I" } : Jvm.MethodName)) ∈ lw_all := lw_g (lw_at lw_m14 109 rfl) rfl
theorem q3375 : (Jvm.Cond.methodLink "ArcRecorderLaw" (310 : Nat) ({ cls := "ArcRecorderModel", name := "peakOf", desc := "(I)F" } : Jvm.MethodName)) ∈ lw_all := lw_g (lw_at lw_m14 113 rfl) rfl
theorem q3379 : (Jvm.Cond.methodLink "ArcRecorderLaw" (314 : Nat) ({ cls := "ArcRecorderModel", name := "clearMemory", desc := "()I" } : Jvm.MethodName)) ∈ lw_all := lw_g (lw_at lw_m14 117 rfl) rfl
theorem q3383 : (Jvm.Cond.methodLink "ArcRecorderLaw" (317 : Nat) ({ cls := "ArcRecorderModel", name := "tripIn", desc := "(I)I" } : Jvm.MethodName)) ∈ lw_all := lw_g (lw_at lw_m14 121 rfl) rfl
theorem q3399 : (Jvm.Cond.methodLink "ArcRecorderLaw" (320 : Nat) ({ cls := "ArcRecorderModel", name := "tripping", desc := "(I)I" } : Jvm.MethodName)) ∈ lw_all := lw_g (lw_at lw_m14 137 rfl) rfl
theorem q3403 : (Jvm.Cond.methodLink "ArcRecorderLaw" (324 : Nat) ({ cls := "ArcRecorderModel", name := "featureAfter", desc := "(III)F" } : Jvm.MethodName)) ∈ lw_all := lw_g (lw_at lw_m14 141 rfl) rfl
theorem q3407 : (Jvm.Cond.methodLink "ArcRecorderLaw" (327 : Nat) ({ cls := "ArcRecorderModel", name := "culprit", desc := "(I)I" } : Jvm.MethodName)) ∈ lw_all := lw_g (lw_at lw_m14 145 rfl) rfl
theorem q3411 : (Jvm.Cond.methodLink "ArcRecorderLaw" (330 : Nat) ({ cls := "ArcRecorderModel", name := "hitsAhead", desc := "(I)I" } : Jvm.MethodName)) ∈ lw_all := lw_g (lw_at lw_m14 149 rfl) rfl
theorem q3415 : (Jvm.Cond.methodLink "ArcRecorderLaw" (333 : Nat) ({ cls := "ArcRecorderModel", name := "largestCount", desc := "(I)I" } : Jvm.MethodName)) ∈ lw_all := lw_g (lw_at lw_m14 153 rfl) rfl
theorem q3419 : (Jvm.Cond.methodLink "ArcRecorderLaw" (338 : Nat) ({ cls := "ArcRecorderModel", name := "totalMean", desc := "()F" } : Jvm.MethodName)) ∈ lw_all := lw_g (lw_at lw_m14 157 rfl) rfl
theorem q3423 : (Jvm.Cond.methodLink "ArcRecorderLaw" (341 : Nat) ({ cls := "ArcRecorderModel", name := "loadSample", desc := "(II)F" } : Jvm.MethodName)) ∈ lw_all := lw_g (lw_at lw_m14 161 rfl) rfl
theorem q3427 : (Jvm.Cond.methodLink "ArcRecorderLaw" (345 : Nat) ({ cls := "ArcRecorderModel", name := "undo", desc := "()I" } : Jvm.MethodName)) ∈ lw_all := lw_g (lw_at lw_m14 165 rfl) rfl
theorem q3431 : (Jvm.Cond.methodLink "ArcRecorderLaw" (349 : Nat) ({ cls := "ArcRecorderModel", name := "undoCount", desc := "()I" } : Jvm.MethodName)) ∈ lw_all := lw_g (lw_at lw_m14 169 rfl) rfl
theorem q3435 : (Jvm.Cond.methodLink "ArcRecorderLaw" (352 : Nat) ({ cls := "ArcRecorderModel", name := "writeTrip", desc := "(I)I" } : Jvm.MethodName)) ∈ lw_all := lw_g (lw_at lw_m14 173 rfl) rfl
theorem q3447 : (Jvm.Cond.methodLink "ArcRecorderLaw" (355 : Nat) ({ cls := "ArcRecorderModel", name := "outputByte", desc := "(I)I" } : Jvm.MethodName)) ∈ lw_all := lw_g (lw_at lw_m14 185 rfl) rfl
theorem q3451 : (Jvm.Cond.constantFloat "ArcRecorderLaw" (264 : Nat) (1040187392 : UInt32)) ∈ lw_all := lw_g (lw_at lw_m14 189 rfl) rfl
/-! X1.ArcRecorder -/
def RX1 : String := "ArcRecorder"
def TX1 : u_T := fun k => match k with
  | 0 => ("ArcRecorder", "state", "LArcRecorder$State;", false)
  | 1 => ("ArcRecorder", "history", "Ljava/util/ArrayDeque;", true)
  | 2 => ("ArcRecorder", "input", "[B", true)
  | 3 => ("ArcRecorder", "inputLength", "I", false)
  | 4 => ("ArcRecorder", "errorCode", "I", false)
  | 5 => ("ArcRecorder", "errorPosition", "I", false)
  | _ => ("ArcRecorder", "output", "Ljava/lang/StringBuilder;", true)
def tyX1 : Nat → FieldType := fun k => match k with
  | 0 => .object "ArcRecorder$State"
  | 1 => .object "java/util/ArrayDeque"
  | 2 => .array .byte
  | 3 => .int
  | 4 => .int
  | 5 => .int
  | _ => .object "java/lang/StringBuilder"
abbrev wsX10 : List Cond := u_ws RX1 TX1 7
theorem nmX1 : ∀ a, a < 7 → ∀ b, b < 7 → a ≠ b → (TX1 a).2.1 ≠ (TX1 b).2.1 := by decide +kernel
theorem tyX1_ok : ∀ k, k < 7 → parseFieldDescriptor (TX1 k).2.2.1 = some (tyX1 k) := by decide +kernel
abbrev cX1_init : ByteArray := prog_1_method_10_code
def yX1_init : MethodName := ⟨RX1, "<init>", "()V"⟩
abbrev cX1_load : ByteArray := prog_1_method_16_code
def yX1_load : MethodName := ⟨RX1, "load", "()I"⟩
abbrev cX1_inRange : ByteArray := prog_1_method_1_code
def yX1_inRange : MethodName := ⟨RX1, "inRange", "(JJJ)Z"⟩
abbrev cX1_isKeyword : ByteArray := prog_1_method_9_code
def yX1_isKeyword : MethodName := ⟨RX1, "isKeyword", "(Ljava/lang/String;)Z"⟩
abbrev cX1_featureOf : ByteArray := prog_1_method_8_code
def yX1_featureOf : MethodName := ⟨RX1, "featureOf", "(Ljava/lang/String;)I"⟩
abbrev cX1_keep : ByteArray := prog_1_method_14_code
def yX1_keep : MethodName := ⟨RX1, "keep", "(LArcRecorder$State;)V"⟩
abbrev cX1_errorCode : ByteArray := prog_1_method_17_code
def yX1_errorCode : MethodName := ⟨RX1, "errorCode", "()I"⟩
abbrev cX1_errorPosition : ByteArray := prog_1_method_18_code
def yX1_errorPosition : MethodName := ⟨RX1, "errorPosition", "()I"⟩
abbrev cX1_find : ByteArray := prog_1_method_20_code
def yX1_find : MethodName := ⟨RX1, "find", "()I"⟩
abbrev cX1_text : ByteArray := prog_1_method_19_code
def yX1_text : MethodName := ⟨RX1, "text", "()Ljava/lang/String;"⟩
abbrev cX1_now : ByteArray := prog_1_method_24_code
def yX1_now : MethodName := ⟨RX1, "now", "()I"⟩
abbrev cX1_losePower : ByteArray := prog_1_method_58_code
def yX1_losePower : MethodName := ⟨RX1, "losePower", "()I"⟩
abbrev cX1_remember : ByteArray := prog_1_method_15_code
def yX1_remember : MethodName := ⟨RX1, "remember", "()LArcRecorder$State;"⟩
abbrev cX1_memoryCount : ByteArray := prog_1_method_60_code
def yX1_memoryCount : MethodName := ⟨RX1, "memoryCount", "()I"⟩
abbrev cX1_clearMemory : ByteArray := prog_1_method_65_code
def yX1_clearMemory : MethodName := ⟨RX1, "clearMemory", "()I"⟩
abbrev cX1_totalMean : ByteArray := prog_1_method_72_code
def yX1_totalMean : MethodName := ⟨RX1, "totalMean", "()F"⟩
abbrev cX1_undoCount : ByteArray := prog_1_method_75_code
def yX1_undoCount : MethodName := ⟨RX1, "undoCount", "()I"⟩
abbrev cX1_append : ByteArray := prog_1_method_12_code
def yX1_append : MethodName := ⟨RX1, "append", "(IIIII)I"⟩
abbrev cX1_requireState : ByteArray := prog_1_method_3_code
def yX1_requireState : MethodName := ⟨RX1, "requireState", "(Z)V"⟩
abbrev cX1_appendWord : ByteArray := prog_1_method_11_code
def yX1_appendWord : MethodName := ⟨RX1, "appendWord", "(I)V"⟩
abbrev cX1_truncate : ByteArray := prog_1_method_13_code
def yX1_truncate : MethodName := ⟨RX1, "truncate", "(I)V"⟩
abbrev cX1_requireArgument : ByteArray := prog_1_method_2_code
def yX1_requireArgument : MethodName := ⟨RX1, "requireArgument", "(Z)V"⟩
abbrev cX1_count : ByteArray := prog_1_method_23_code
def yX1_count : MethodName := ⟨RX1, "count", "(I)I"⟩
abbrev cX1_loadCount : ByteArray := prog_1_method_21_code
def yX1_loadCount : MethodName := ⟨RX1, "loadCount", "()I"⟩
abbrev cX1_signatureCount : ByteArray := prog_1_method_22_code
def yX1_signatureCount : MethodName := ⟨RX1, "signatureCount", "()I"⟩
abbrev cX1_rated : ByteArray := prog_1_method_28_code
def yX1_rated : MethodName := ⟨RX1, "rated", "(I)I"⟩
abbrev cX1_branchAt : ByteArray := prog_1_method_25_code
def yX1_branchAt : MethodName := ⟨RX1, "branchAt", "(I)LArcRecorder$Branch;"⟩
abbrev cX1_requireIndex : ByteArray := prog_1_method_4_code
def yX1_requireIndex : MethodName := ⟨RX1, "requireIndex", "(Z)V"⟩
abbrev cX1_loadOf : ByteArray := prog_1_method_29_code
def yX1_loadOf : MethodName := ⟨RX1, "loadOf", "(II)I"⟩
abbrev cX1_loadAt : ByteArray := prog_1_method_26_code
def yX1_loadAt : MethodName := ⟨RX1, "loadAt", "(I)LArcRecorder$Load;"⟩
abbrev cX1_isOn : ByteArray := prog_1_method_30_code
def yX1_isOn : MethodName := ⟨RX1, "isOn", "(I)Z"⟩
abbrev cX1_setOn : ByteArray := prog_1_method_31_code
def yX1_setOn : MethodName := ⟨RX1, "setOn", "(IZ)Z"⟩
abbrev cX1_plan : ByteArray := prog_1_method_32_code
def yX1_plan : MethodName := ⟨RX1, "plan", "(IIZ)I"⟩
abbrev cX1_nextSwitch : ByteArray := prog_1_method_33_code
def yX1_nextSwitch : MethodName := ⟨RX1, "nextSwitch", "(I)I"⟩
abbrev cX1_state : ByteArray := prog_1_method_34_code
def yX1_state : MethodName := ⟨RX1, "state", "(I)I"⟩
abbrev cX1_run : ByteArray := prog_1_method_35_code
def yX1_run : MethodName := ⟨RX1, "run", "(I)I"⟩
abbrev cX1_magnitude : ByteArray := prog_1_method_7_code
def yX1_magnitude : MethodName := ⟨RX1, "magnitude", "(F)F"⟩
abbrev cX1_has : ByteArray := prog_1_method_6_code
def yX1_has : MethodName := ⟨RX1, "has", "(II)Z"⟩
abbrev cX1_sample : ByteArray := prog_1_method_36_code
def yX1_sample : MethodName := ⟨RX1, "sample", "(II)F"⟩
abbrev cX1_requireElement : ByteArray := prog_1_method_5_code
def yX1_requireElement : MethodName := ⟨RX1, "requireElement", "(Z)V"⟩
abbrev cX1_feature : ByteArray := prog_1_method_38_code
def yX1_feature : MethodName := ⟨RX1, "feature", "(II)F"⟩
abbrev cX1_requireFeature : ByteArray := prog_1_method_37_code
def yX1_requireFeature : MethodName := ⟨RX1, "requireFeature", "(I)V"⟩
abbrev cX1_matching : ByteArray := prog_1_method_39_code
def yX1_matching : MethodName := ⟨RX1, "matching", "(I)I"⟩
abbrev cX1_hiding : ByteArray := prog_1_method_40_code
def yX1_hiding : MethodName := ⟨RX1, "hiding", "(I)I"⟩
abbrev cX1_isSuspect : ByteArray := prog_1_method_41_code
def yX1_isSuspect : MethodName := ⟨RX1, "isSuspect", "(I)Z"⟩
abbrev cX1_suspects : ByteArray := prog_1_method_42_code
def yX1_suspects : MethodName := ⟨RX1, "suspects", "(I)I"⟩
abbrev cX1_wasSuspect : ByteArray := prog_1_method_43_code
def yX1_wasSuspect : MethodName := ⟨RX1, "wasSuspect", "(II)Z"⟩
abbrev cX1_margin : ByteArray := prog_1_method_44_code
def yX1_margin : MethodName := ⟨RX1, "margin", "(I)I"⟩
abbrev cX1_hits : ByteArray := prog_1_method_45_code
def yX1_hits : MethodName := ⟨RX1, "hits", "(I)I"⟩
abbrev cX1_signatureAt : ByteArray := prog_1_method_27_code
def yX1_signatureAt : MethodName := ⟨RX1, "signatureAt", "(I)LArcRecorder$Pattern;"⟩
abbrev cX1_isAlways : ByteArray := prog_1_method_46_code
def yX1_isAlways : MethodName := ⟨RX1, "isAlways", "(I)Z"⟩
abbrev cX1_nuisanceHits : ByteArray := prog_1_method_48_code
def yX1_nuisanceHits : MethodName := ⟨RX1, "nuisanceHits", "(I)I"⟩
abbrev cX1_nuisanceAt : ByteArray := prog_1_method_47_code
def yX1_nuisanceAt : MethodName := ⟨RX1, "nuisanceAt", "(I)LArcRecorder$Nuisance;"⟩
abbrev cX1_wouldMatch : ByteArray := prog_1_method_49_code
def yX1_wouldMatch : MethodName := ⟨RX1, "wouldMatch", "(IFFFFF)Z"⟩
abbrev cX1_learn : ByteArray := prog_1_method_51_code
def yX1_learn : MethodName := ⟨RX1, "learn", "(I)I"⟩
abbrev cX1_isName : ByteArray := prog_1_method_50_code
def yX1_isName : MethodName := ⟨RX1, "isName", "(Ljava/lang/String;)Z"⟩
abbrev cX1_forget : ByteArray := prog_1_method_52_code
def yX1_forget : MethodName := ⟨RX1, "forget", "(I)I"⟩
abbrev cX1_setLimits : ByteArray := prog_1_method_53_code
def yX1_setLimits : MethodName := ⟨RX1, "setLimits", "(II)I"⟩
abbrev cX1_reset : ByteArray := prog_1_method_54_code
def yX1_reset : MethodName := ⟨RX1, "reset", "(I)I"⟩
abbrev cX1_service : ByteArray := prog_1_method_55_code
def yX1_service : MethodName := ⟨RX1, "service", "(I)I"⟩
abbrev cX1_test : ByteArray := prog_1_method_56_code
def yX1_test : MethodName := ⟨RX1, "test", "(I)I"⟩
abbrev cX1_isTested : ByteArray := prog_1_method_57_code
def yX1_isTested : MethodName := ⟨RX1, "isTested", "(I)Z"⟩
abbrev cX1_trips : ByteArray := prog_1_method_59_code
def yX1_trips : MethodName := ⟨RX1, "trips", "(I)I"⟩
abbrev cX1_memory : ByteArray := prog_1_method_62_code
def yX1_memory : MethodName := ⟨RX1, "memory", "(II)I"⟩
abbrev cX1_tripAt : ByteArray := prog_1_method_61_code
def yX1_tripAt : MethodName := ⟨RX1, "tripAt", "(I)LArcRecorder$Trip;"⟩
abbrev cX1_named : ByteArray := prog_1_method_63_code
def yX1_named : MethodName := ⟨RX1, "named", "(II)I"⟩
abbrev cX1_peakOf : ByteArray := prog_1_method_64_code
def yX1_peakOf : MethodName := ⟨RX1, "peakOf", "(I)F"⟩
abbrev cX1_tripIn : ByteArray := prog_1_method_66_code
def yX1_tripIn : MethodName := ⟨RX1, "tripIn", "(I)I"⟩
abbrev cX1_tripping : ByteArray := prog_1_method_67_code
def yX1_tripping : MethodName := ⟨RX1, "tripping", "(I)I"⟩
abbrev cX1_featureAfter : ByteArray := prog_1_method_68_code
def yX1_featureAfter : MethodName := ⟨RX1, "featureAfter", "(III)F"⟩
abbrev cX1_culprit : ByteArray := prog_1_method_69_code
def yX1_culprit : MethodName := ⟨RX1, "culprit", "(I)I"⟩
abbrev cX1_hitsAhead : ByteArray := prog_1_method_70_code
def yX1_hitsAhead : MethodName := ⟨RX1, "hitsAhead", "(I)I"⟩
abbrev cX1_largestCount : ByteArray := prog_1_method_71_code
def yX1_largestCount : MethodName := ⟨RX1, "largestCount", "(I)I"⟩
abbrev cX1_loadSample : ByteArray := prog_1_method_73_code
def yX1_loadSample : MethodName := ⟨RX1, "loadSample", "(II)F"⟩
abbrev cX1_undo : ByteArray := prog_1_method_74_code
def yX1_undo : MethodName := ⟨RX1, "undo", "()I"⟩
abbrev cX1_writeTrip : ByteArray := prog_1_method_76_code
def yX1_writeTrip : MethodName := ⟨RX1, "writeTrip", "(I)I"⟩
abbrev cX1_outputByte : ByteArray := prog_1_method_77_code
def yX1_outputByte : MethodName := ⟨RX1, "outputByte", "(I)I"⟩
theorem q143 : (Jvm.Cond.initialized "ArcRecorder") ∈ lw_all := lw_g (lw_at lw_m1 1 rfl) rfl
theorem q201 : (Jvm.Cond.instantiable "ArcRecorder" (7 : Nat)) ∈ lw_all := lw_g (lw_at lw_m1 59 rfl) rfl
theorem q203 : (Jvm.Cond.instanceMethod ({ cls := "ArcRecorder", name := "<init>", desc := "()V" } : Jvm.MethodName)) ∈ lw_all := lw_g (lw_at lw_m1 61 rfl) rfl
theorem q204 : (Jvm.Cond.code ({ cls := "ArcRecorder", name := "<init>", desc := "()V" } : Jvm.MethodName) prog_1_method_10_code (1 : Nat) (Option.none : Option Jvm.ClassFile.FieldType)) ∈ lw_all := lw_g (lw_at lw_m1 62 rfl) rfl
theorem q205 : (Jvm.Cond.methodLink "ArcRecorder" (92 : Nat) ({ cls := "java/lang/Object", name := "<init>", desc := "()V" } : Jvm.MethodName)) ∈ lw_all := lw_g (lw_at lw_m1 63 rfl) rfl
theorem q208 : (Jvm.Cond.classLink "ArcRecorder" (95 : Nat) "ArcRecorder$State") ∈ lw_all := lw_g (lw_at lw_m1 66 rfl) rfl
theorem q210 : (Jvm.Cond.classLink "ArcRecorder" (97 : Nat) "ArcRecorder$Plant") ∈ lw_all := lw_g (lw_at lw_m1 68 rfl) rfl
theorem q212 : (Jvm.Cond.methodLinkNest "ArcRecorder" (99 : Nat) ({ cls := "ArcRecorder$Plant", name := "<init>", desc := "()V" } : Jvm.MethodName) "ArcRecorder") ∈ lw_tbl := lw_at lw_m1 70 rfl
theorem q574 : (Jvm.Cond.fieldLinkNest "ArcRecorder" (233 : Nat) "ArcRecorder$Plant" "samples" "I" "ArcRecorder") ∈ lw_tbl := lw_at lw_m2 192 rfl
theorem q583 : (Jvm.Cond.fieldLinkNest "ArcRecorder" (473 : Nat) "ArcRecorder$Plant" "shape" "[F" "ArcRecorder") ∈ lw_tbl := lw_at lw_m2 201 rfl
theorem q587 : (Jvm.Cond.fieldLinkNest "ArcRecorder" (488 : Nat) "ArcRecorder$Plant" "branches" "Ljava/util/ArrayList;" "ArcRecorder") ∈ lw_tbl := lw_at lw_m2 205 rfl
theorem q591 : (Jvm.Cond.fieldLinkNest "ArcRecorder" (259 : Nat) "ArcRecorder$Plant" "rated" "[I" "ArcRecorder") ∈ lw_tbl := lw_at lw_m2 209 rfl
theorem q595 : (Jvm.Cond.fieldLinkNest "ArcRecorder" (209 : Nat) "ArcRecorder$Plant" "loads" "Ljava/util/ArrayList;" "ArcRecorder") ∈ lw_tbl := lw_at lw_m2 213 rfl
theorem q599 : (Jvm.Cond.fieldLinkNest "ArcRecorder" (212 : Nat) "ArcRecorder$Plant" "signatures" "Ljava/util/ArrayList;" "ArcRecorder") ∈ lw_tbl := lw_at lw_m2 217 rfl
theorem q618 : (Jvm.Cond.methodLink "ArcRecorder" (100 : Nat) ({ cls := "ArcRecorder$State", name := "<init>", desc := "(LArcRecorder$Plant;)V" } : Jvm.MethodName)) ∈ lw_all := lw_g (lw_at lw_m2 236 rfl) rfl
theorem q688 : (Jvm.Cond.fieldLinkNest "ArcRecorder" (331 : Nat) "ArcRecorder$Branch" "row" "[F" "ArcRecorder") ∈ lw_tbl := lw_at lw_m3 66 rfl
theorem q691 : (Jvm.Cond.fieldLinkNest "ArcRecorder" (340 : Nat) "ArcRecorder$Branch" "found" "[F" "ArcRecorder") ∈ lw_tbl := lw_at lw_m3 69 rfl
theorem q694 : (Jvm.Cond.fieldLinkNest "ArcRecorder" (311 : Nat) "ArcRecorder$Branch" "state" "I" "ArcRecorder") ∈ lw_tbl := lw_at lw_m3 72 rfl
theorem q697 : (Jvm.Cond.fieldLinkNest "ArcRecorder" (430 : Nat) "ArcRecorder$Branch" "trips" "I" "ArcRecorder") ∈ lw_tbl := lw_at lw_m3 75 rfl
theorem q702 : (Jvm.Cond.fieldLinkNest "ArcRecorder" (343 : Nat) "ArcRecorder$Branch" "matched" "I" "ArcRecorder") ∈ lw_tbl := lw_at lw_m3 80 rfl
theorem q705 : (Jvm.Cond.fieldLinkNest "ArcRecorder" (346 : Nat) "ArcRecorder$Branch" "hidden" "I" "ArcRecorder") ∈ lw_tbl := lw_at lw_m3 83 rfl
theorem q708 : (Jvm.Cond.fieldLinkNest "ArcRecorder" (325 : Nat) "ArcRecorder$Branch" "halfWaves" "I" "ArcRecorder") ∈ lw_tbl := lw_at lw_m3 86 rfl
theorem q713 : (Jvm.Cond.fieldLinkNest "ArcRecorder" (433 : Nat) "ArcRecorder$Branch" "isTested" "Z" "ArcRecorder") ∈ lw_tbl := lw_at lw_m3 91 rfl
theorem q716 : (Jvm.Cond.fieldLinkNest "ArcRecorder" (349 : Nat) "ArcRecorder$Branch" "isSuspect" "Z" "ArcRecorder") ∈ lw_tbl := lw_at lw_m3 94 rfl
theorem q770 : (Jvm.Cond.selects "ArcRecorder" ({ cls := "java/lang/Object", name := "getClass", desc := "()Ljava/lang/Class;" } : Jvm.MethodName) ({ cls := "java/lang/Object", name := "getClass", desc := "()Ljava/lang/Class;" } : Jvm.MethodName)) ∈ lw_all := lw_g (lw_at lw_m3 148 rfl) rfl
theorem q818 : (Jvm.Cond.fieldLinkNest "ArcRecorder" (205 : Nat) "ArcRecorder$State" "plant" "LArcRecorder$Plant;" "ArcRecorder") ∈ lw_tbl := lw_at lw_m3 196 rfl
theorem q820 : (Jvm.Cond.fieldLinkNest "ArcRecorder" (176 : Nat) "ArcRecorder$State" "branches" "Ljava/util/ArrayList;" "ArcRecorder") ∈ lw_tbl := lw_at lw_m3 198 rfl
theorem q822 : (Jvm.Cond.fieldLinkNest "ArcRecorder" (223 : Nat) "ArcRecorder$State" "nuisances" "Ljava/util/ArrayList;" "ArcRecorder") ∈ lw_tbl := lw_at lw_m3 200 rfl
theorem q825 : (Jvm.Cond.fieldLinkNest "ArcRecorder" (226 : Nat) "ArcRecorder$State" "switches" "Ljava/util/LinkedList;" "ArcRecorder") ∈ lw_tbl := lw_at lw_m3 203 rfl
theorem q828 : (Jvm.Cond.fieldLinkNest "ArcRecorder" (444 : Nat) "ArcRecorder$State" "memory" "Ljava/util/ArrayDeque;" "ArcRecorder") ∈ lw_tbl := lw_at lw_m3 206 rfl
theorem q830 : (Jvm.Cond.fieldLinkNest "ArcRecorder" (280 : Nat) "ArcRecorder$State" "on" "[Z" "ArcRecorder") ∈ lw_tbl := lw_at lw_m3 208 rfl
theorem q832 : (Jvm.Cond.fieldLinkNest "ArcRecorder" (370 : Nat) "ArcRecorder$State" "hits" "[I" "ArcRecorder") ∈ lw_tbl := lw_at lw_m3 210 rfl
theorem q837 : (Jvm.Cond.fieldLinkNest "ArcRecorder" (235 : Nat) "ArcRecorder$State" "window" "I" "ArcRecorder") ∈ lw_tbl := lw_at lw_m3 215 rfl
theorem q839 : (Jvm.Cond.fieldLinkNest "ArcRecorder" (237 : Nat) "ArcRecorder$State" "count" "I" "ArcRecorder") ∈ lw_tbl := lw_at lw_m3 217 rfl
theorem q841 : (Jvm.Cond.fieldLinkNest "ArcRecorder" (239 : Nat) "ArcRecorder$State" "time" "I" "ArcRecorder") ∈ lw_tbl := lw_at lw_m3 219 rfl
theorem q873 : (Jvm.Cond.classLink "ArcRecorder" (107 : Nat) "java/util/ArrayDeque") ∈ lw_all := lw_g (lw_at lw_m4 11 rfl) rfl
theorem q874 : (Jvm.Cond.methodLink "ArcRecorder" (109 : Nat) ({ cls := "java/util/ArrayDeque", name := "<init>", desc := "()V" } : Jvm.MethodName)) ∈ lw_all := lw_g (lw_at lw_m4 12 rfl) rfl
theorem q875 : (Jvm.Cond.classLink "ArcRecorder" (122 : Nat) "java/lang/StringBuilder") ∈ lw_all := lw_g (lw_at lw_m4 13 rfl) rfl
theorem q876 : (Jvm.Cond.methodLink "ArcRecorder" (124 : Nat) ({ cls := "java/lang/StringBuilder", name := "<init>", desc := "()V" } : Jvm.MethodName)) ∈ lw_all := lw_g (lw_at lw_m4 14 rfl) rfl
theorem q877 : (Jvm.Cond.fieldLink "ArcRecorder" (103 : Nat) "ArcRecorder" "state" "LArcRecorder$State;") ∈ lw_all := lw_g (lw_at lw_m4 15 rfl) rfl
theorem q878 : (Jvm.Cond.fieldLink "ArcRecorder" (110 : Nat) "ArcRecorder" "history" "Ljava/util/ArrayDeque;") ∈ lw_all := lw_g (lw_at lw_m4 16 rfl) rfl
theorem q880 : (Jvm.Cond.fieldLink "ArcRecorder" (114 : Nat) "ArcRecorder" "input" "[B") ∈ lw_all := lw_g (lw_at lw_m4 18 rfl) rfl
theorem q882 : (Jvm.Cond.fieldLink "ArcRecorder" (129 : Nat) "ArcRecorder" "inputLength" "I") ∈ lw_all := lw_g (lw_at lw_m4 20 rfl) rfl
theorem q883 : (Jvm.Cond.fieldLink "ArcRecorder" (164 : Nat) "ArcRecorder" "errorCode" "I") ∈ lw_all := lw_g (lw_at lw_m4 21 rfl) rfl
theorem q884 : (Jvm.Cond.fieldLink "ArcRecorder" (118 : Nat) "ArcRecorder" "errorPosition" "I") ∈ lw_all := lw_g (lw_at lw_m4 22 rfl) rfl
theorem q885 : (Jvm.Cond.fieldLink "ArcRecorder" (125 : Nat) "ArcRecorder" "output" "Ljava/lang/StringBuilder;") ∈ lw_all := lw_g (lw_at lw_m4 23 rfl) rfl
theorem q886 : (Jvm.Cond.lays "ArcRecorder" "ArcRecorder" "state" "LArcRecorder$State;") ∈ lw_all := lw_g (lw_at lw_m4 24 rfl) rfl
theorem q887 : (Jvm.Cond.soleField "ArcRecorder" "state") ∈ lw_all := lw_g (lw_at lw_m4 25 rfl) rfl
theorem q888 : (Jvm.Cond.laysFinal "ArcRecorder" "ArcRecorder" "history" "Ljava/util/ArrayDeque;") ∈ lw_all := lw_g (lw_at lw_m4 26 rfl) rfl
theorem q889 : (Jvm.Cond.soleField "ArcRecorder" "history") ∈ lw_all := lw_g (lw_at lw_m4 27 rfl) rfl
theorem q890 : (Jvm.Cond.laysFinal "ArcRecorder" "ArcRecorder" "input" "[B") ∈ lw_all := lw_g (lw_at lw_m4 28 rfl) rfl
theorem q891 : (Jvm.Cond.soleField "ArcRecorder" "input") ∈ lw_all := lw_g (lw_at lw_m4 29 rfl) rfl
theorem q892 : (Jvm.Cond.lays "ArcRecorder" "ArcRecorder" "inputLength" "I") ∈ lw_all := lw_g (lw_at lw_m4 30 rfl) rfl
theorem q893 : (Jvm.Cond.soleField "ArcRecorder" "inputLength") ∈ lw_all := lw_g (lw_at lw_m4 31 rfl) rfl
theorem q894 : (Jvm.Cond.lays "ArcRecorder" "ArcRecorder" "errorCode" "I") ∈ lw_all := lw_g (lw_at lw_m4 32 rfl) rfl
theorem q895 : (Jvm.Cond.soleField "ArcRecorder" "errorCode") ∈ lw_all := lw_g (lw_at lw_m4 33 rfl) rfl
theorem q896 : (Jvm.Cond.lays "ArcRecorder" "ArcRecorder" "errorPosition" "I") ∈ lw_all := lw_g (lw_at lw_m4 34 rfl) rfl
theorem q897 : (Jvm.Cond.soleField "ArcRecorder" "errorPosition") ∈ lw_all := lw_g (lw_at lw_m4 35 rfl) rfl
theorem q898 : (Jvm.Cond.laysFinal "ArcRecorder" "ArcRecorder" "output" "Ljava/lang/StringBuilder;") ∈ lw_all := lw_g (lw_at lw_m4 36 rfl) rfl
theorem q899 : (Jvm.Cond.soleField "ArcRecorder" "output") ∈ lw_all := lw_g (lw_at lw_m4 37 rfl) rfl
theorem q900 : (Jvm.Cond.superclass "ArcRecorder" "java/lang/Object") ∈ lw_all := lw_g (lw_at lw_m4 38 rfl) rfl
theorem q902 : (Jvm.Cond.instanceMethod ({ cls := "ArcRecorder", name := "load", desc := "()I" } : Jvm.MethodName)) ∈ lw_all := lw_g (lw_at lw_m4 40 rfl) rfl
theorem q903 : (Jvm.Cond.selects "ArcRecorder" ({ cls := "ArcRecorder", name := "load", desc := "()I" } : Jvm.MethodName) ({ cls := "ArcRecorder", name := "load", desc := "()I" } : Jvm.MethodName)) ∈ lw_all := lw_g (lw_at lw_m4 41 rfl) rfl
theorem q904 : (Jvm.Cond.codeWith ({ cls := "ArcRecorder", name := "load", desc := "()I" } : Jvm.MethodName) prog_1_method_16_code (4 : Nat) (Option.some Jvm.ClassFile.FieldType.int) [((10 : Nat), (46 : Nat), (53 : Nat), (183 : Nat)), ((10 : Nat), (46 : Nat), (80 : Nat), (0 : Nat)), ((53 : Nat), (73 : Nat), (80 : Nat), (0 : Nat))]) ∈ lw_all := lw_g (lw_at lw_m4 42 rfl) rfl
theorem q905 : (Jvm.Cond.classLink "ArcRecorder" (183 : Nat) "ArcRecorder$ParseError") ∈ lw_all := lw_g (lw_at lw_m4 43 rfl) rfl
theorem q906 : (Jvm.Cond.classLink "ArcRecorder" (167 : Nat) "ArcRecorder$Parser") ∈ lw_all := lw_g (lw_at lw_m4 44 rfl) rfl
theorem q908 : (Jvm.Cond.methodLink "ArcRecorder" (169 : Nat) ({ cls := "ArcRecorder$Parser", name := "<init>", desc := "(LArcRecorder;)V" } : Jvm.MethodName)) ∈ lw_all := lw_g (lw_at lw_m4 46 rfl) rfl
theorem q927 : (Jvm.Cond.static ({ cls := "ArcRecorder", name := "inRange", desc := "(JJJ)Z" } : Jvm.MethodName)) ∈ lw_all := lw_g (lw_at lw_m4 65 rfl) rfl
theorem q928 : (Jvm.Cond.code ({ cls := "ArcRecorder", name := "inRange", desc := "(JJJ)Z" } : Jvm.MethodName) prog_1_method_1_code (6 : Nat) (Option.some Jvm.ClassFile.FieldType.boolean)) ∈ lw_all := lw_g (lw_at lw_m4 66 rfl) rfl
theorem q995 : (Jvm.Cond.methodLink "ArcRecorder" (172 : Nat) ({ cls := "ArcRecorder$Parser", name := "parse", desc := "()LArcRecorder$State;" } : Jvm.MethodName)) ∈ lw_all := lw_g (lw_at lw_m4 133 rfl) rfl
theorem q1039 : (Jvm.Cond.fieldLinkNest "ArcRecorder" (185 : Nat) "ArcRecorder$ParseError" "code" "I" "ArcRecorder") ∈ lw_tbl := lw_at lw_m4 177 rfl
theorem q1041 : (Jvm.Cond.fieldLinkNest "ArcRecorder" (188 : Nat) "ArcRecorder$ParseError" "position" "I" "ArcRecorder") ∈ lw_tbl := lw_at lw_m4 179 rfl
theorem q1156 : (Jvm.Cond.static ({ cls := "ArcRecorder", name := "isKeyword", desc := "(Ljava/lang/String;)Z" } : Jvm.MethodName)) ∈ lw_all := lw_g (lw_at lw_m5 54 rfl) rfl
theorem q1157 : (Jvm.Cond.code ({ cls := "ArcRecorder", name := "isKeyword", desc := "(Ljava/lang/String;)Z" } : Jvm.MethodName) prog_1_method_9_code (3 : Nat) (Option.some Jvm.ClassFile.FieldType.boolean)) ∈ lw_all := lw_g (lw_at lw_m5 55 rfl) rfl
theorem q1158 : (Jvm.Cond.methodLink "ArcRecorder" (16 : Nat) ({ cls := "java/lang/String", name := "hashCode", desc := "()I" } : Jvm.MethodName)) ∈ lw_all := lw_g (lw_at lw_m5 56 rfl) rfl
theorem q1159 : (Jvm.Cond.stringRef "ArcRecorder" (40 : Nat) "recorder") ∈ lw_tbl := lw_at lw_m5 57 rfl
theorem q1160 : (Jvm.Cond.methodLink "ArcRecorder" (24 : Nat) ({ cls := "java/lang/String", name := "equals", desc := "(Ljava/lang/Object;)Z" } : Jvm.MethodName)) ∈ lw_all := lw_g (lw_at lw_m5 58 rfl) rfl
theorem q1161 : (Jvm.Cond.stringRef "ArcRecorder" (42 : Nat) "samples") ∈ lw_tbl := lw_at lw_m5 59 rfl
theorem q1162 : (Jvm.Cond.stringRef "ArcRecorder" (44 : Nat) "window") ∈ lw_tbl := lw_at lw_m5 60 rfl
theorem q1163 : (Jvm.Cond.stringRef "ArcRecorder" (46 : Nat) "count") ∈ lw_tbl := lw_at lw_m5 61 rfl
theorem q1164 : (Jvm.Cond.stringRef "ArcRecorder" (48 : Nat) "branch") ∈ lw_tbl := lw_at lw_m5 62 rfl
theorem q1165 : (Jvm.Cond.stringRef "ArcRecorder" (50 : Nat) "rated") ∈ lw_tbl := lw_at lw_m5 63 rfl
theorem q1166 : (Jvm.Cond.stringRef "ArcRecorder" (52 : Nat) "heater") ∈ lw_tbl := lw_at lw_m5 64 rfl
theorem q1167 : (Jvm.Cond.stringRef "ArcRecorder" (54 : Nat) "motor") ∈ lw_tbl := lw_at lw_m5 65 rfl
theorem q1168 : (Jvm.Cond.stringRef "ArcRecorder" (56 : Nat) "dimmer") ∈ lw_tbl := lw_at lw_m5 66 rfl
theorem q1169 : (Jvm.Cond.stringRef "ArcRecorder" (58 : Nat) "arc") ∈ lw_tbl := lw_at lw_m5 67 rfl
theorem q1170 : (Jvm.Cond.stringRef "ArcRecorder" (60 : Nat) "of") ∈ lw_tbl := lw_at lw_m5 68 rfl
theorem q1171 : (Jvm.Cond.stringRef "ArcRecorder" (62 : Nat) "amps") ∈ lw_tbl := lw_at lw_m5 69 rfl
theorem q1172 : (Jvm.Cond.stringRef "ArcRecorder" (64 : Nat) "lag") ∈ lw_tbl := lw_at lw_m5 70 rfl
theorem q1173 : (Jvm.Cond.stringRef "ArcRecorder" (66 : Nat) "cut") ∈ lw_tbl := lw_at lw_m5 71 rfl
theorem q1174 : (Jvm.Cond.stringRef "ArcRecorder" (68 : Nat) "gap") ∈ lw_tbl := lw_at lw_m5 72 rfl
theorem q1175 : (Jvm.Cond.stringRef "ArcRecorder" (70 : Nat) "out") ∈ lw_tbl := lw_at lw_m5 73 rfl
theorem q1176 : (Jvm.Cond.stringRef "ArcRecorder" (72 : Nat) "seed") ∈ lw_tbl := lw_at lw_m5 74 rfl
theorem q1177 : (Jvm.Cond.stringRef "ArcRecorder" (74 : Nat) "signature") ∈ lw_tbl := lw_at lw_m5 75 rfl
theorem q1178 : (Jvm.Cond.stringRef "ArcRecorder" (76 : Nat) "always") ∈ lw_tbl := lw_at lw_m5 76 rfl
theorem q1179 : (Jvm.Cond.stringRef "ArcRecorder" (78 : Nat) "and") ∈ lw_tbl := lw_at lw_m5 77 rfl
theorem q1180 : (Jvm.Cond.stringRef "ArcRecorder" (80 : Nat) "nuisance") ∈ lw_tbl := lw_at lw_m5 78 rfl
theorem q1181 : (Jvm.Cond.stringRef "ArcRecorder" (82 : Nat) "at") ∈ lw_tbl := lw_at lw_m5 79 rfl
theorem q1182 : (Jvm.Cond.stringRef "ArcRecorder" (84 : Nat) "on") ∈ lw_tbl := lw_at lw_m5 80 rfl
theorem q1183 : (Jvm.Cond.stringRef "ArcRecorder" (86 : Nat) "off") ∈ lw_tbl := lw_at lw_m5 81 rfl
theorem q1184 : (Jvm.Cond.methodLink "ArcRecorder" (88 : Nat) ({ cls := "ArcRecorder", name := "featureOf", desc := "(Ljava/lang/String;)I" } : Jvm.MethodName)) ∈ lw_all := lw_g (lw_at lw_m5 82 rfl) rfl
theorem q1185 : (Jvm.Cond.static ({ cls := "ArcRecorder", name := "featureOf", desc := "(Ljava/lang/String;)I" } : Jvm.MethodName)) ∈ lw_all := lw_g (lw_at lw_m5 83 rfl) rfl
theorem q1186 : (Jvm.Cond.code ({ cls := "ArcRecorder", name := "featureOf", desc := "(Ljava/lang/String;)I" } : Jvm.MethodName) prog_1_method_8_code (3 : Nat) (Option.some Jvm.ClassFile.FieldType.int)) ∈ lw_all := lw_g (lw_at lw_m5 84 rfl) rfl
theorem q1187 : (Jvm.Cond.stringRef "ArcRecorder" (22 : Nat) "peak") ∈ lw_tbl := lw_at lw_m5 85 rfl
theorem q1188 : (Jvm.Cond.stringRef "ArcRecorder" (28 : Nat) "mean") ∈ lw_tbl := lw_at lw_m5 86 rfl
theorem q1189 : (Jvm.Cond.stringRef "ArcRecorder" (30 : Nat) "flat") ∈ lw_tbl := lw_at lw_m5 87 rfl
theorem q1190 : (Jvm.Cond.stringRef "ArcRecorder" (32 : Nat) "steep") ∈ lw_tbl := lw_at lw_m5 88 rfl
theorem q1191 : (Jvm.Cond.stringRef "ArcRecorder" (34 : Nat) "change") ∈ lw_tbl := lw_at lw_m5 89 rfl
theorem q1192 : (Jvm.Cond.stringRef "ArcRecorder" (36 : Nat) "energy") ∈ lw_tbl := lw_at lw_m5 90 rfl
theorem q1213 : (Jvm.Cond.selects "ArcRecorder" ({ cls := "java/lang/Object", name := "equals", desc := "(Ljava/lang/Object;)Z" } : Jvm.MethodName) ({ cls := "java/lang/Object", name := "equals", desc := "(Ljava/lang/Object;)Z" } : Jvm.MethodName)) ∈ lw_all := lw_g (lw_at lw_m5 111 rfl) rfl
theorem q1299 : (Jvm.Cond.fieldLinkNest "ArcRecorder" (271 : Nat) "ArcRecorder$Load" "branch" "I" "ArcRecorder") ∈ lw_tbl := lw_at lw_m5 197 rfl
theorem q1301 : (Jvm.Cond.fieldLinkNest "ArcRecorder" (273 : Nat) "ArcRecorder$Load" "amps" "I" "ArcRecorder") ∈ lw_tbl := lw_at lw_m5 199 rfl
theorem q1385 : (Jvm.Cond.fieldLinkNest "ArcRecorder" (373 : Nat) "ArcRecorder$Pattern" "isAlways" "Z" "ArcRecorder") ∈ lw_tbl := lw_at lw_m6 43 rfl
theorem q1388 : (Jvm.Cond.fieldLinkNest "ArcRecorder" (411 : Nat) "ArcRecorder$Pattern" "tests" "Ljava/util/ArrayList;" "ArcRecorder") ∈ lw_tbl := lw_at lw_m6 46 rfl
theorem q1436 : (Jvm.Cond.fieldLinkNest "ArcRecorder" (382 : Nat) "ArcRecorder$Nuisance" "hits" "I" "ArcRecorder") ∈ lw_tbl := lw_at lw_m6 94 rfl
theorem q1456 : (Jvm.Cond.fieldLinkNest "ArcRecorder" (310 : Nat) "ArcRecorder$Switch" "time" "I" "ArcRecorder") ∈ lw_tbl := lw_at lw_m6 114 rfl
theorem q1459 : (Jvm.Cond.fieldLinkNest "ArcRecorder" (307 : Nat) "ArcRecorder$Switch" "load" "I" "ArcRecorder") ∈ lw_tbl := lw_at lw_m6 117 rfl
theorem q1505 : (Jvm.Cond.methodLink "ArcRecorder" (161 : Nat) ({ cls := "ArcRecorder", name := "keep", desc := "(LArcRecorder$State;)V" } : Jvm.MethodName)) ∈ lw_all := lw_g (lw_at lw_m6 163 rfl) rfl
theorem q1506 : (Jvm.Cond.privateMethod ({ cls := "ArcRecorder", name := "keep", desc := "(LArcRecorder$State;)V" } : Jvm.MethodName)) ∈ lw_tbl := lw_at lw_m6 164 rfl
theorem q1507 : (Jvm.Cond.instanceMethod ({ cls := "ArcRecorder", name := "keep", desc := "(LArcRecorder$State;)V" } : Jvm.MethodName)) ∈ lw_all := lw_g (lw_at lw_m6 165 rfl) rfl
theorem q1508 : (Jvm.Cond.code ({ cls := "ArcRecorder", name := "keep", desc := "(LArcRecorder$State;)V" } : Jvm.MethodName) prog_1_method_14_code (2 : Nat) (Option.none : Option Jvm.ClassFile.FieldType)) ∈ lw_all := lw_g (lw_at lw_m6 166 rfl) rfl
theorem q1509 : (Jvm.Cond.methodLink "ArcRecorder" (147 : Nat) ({ cls := "java/util/ArrayDeque", name := "size", desc := "()I" } : Jvm.MethodName)) ∈ lw_all := lw_g (lw_at lw_m6 167 rfl) rfl
theorem q1516 : (Jvm.Cond.methodLink "ArcRecorder" (150 : Nat) ({ cls := "java/util/ArrayDeque", name := "removeFirst", desc := "()Ljava/lang/Object;" } : Jvm.MethodName)) ∈ lw_all := lw_g (lw_at lw_m6 174 rfl) rfl
theorem q1551 : (Jvm.Cond.methodLink "ArcRecorder" (154 : Nat) ({ cls := "java/util/ArrayDeque", name := "addLast", desc := "(Ljava/lang/Object;)V" } : Jvm.MethodName)) ∈ lw_all := lw_g (lw_at lw_m6 209 rfl) rfl
theorem q1583 : (Jvm.Cond.methodLink "ArcRecorder" (180 : Nat) ({ cls := "java/util/ArrayList", name := "size", desc := "()I" } : Jvm.MethodName)) ∈ lw_all := lw_g (lw_at lw_m7 1 rfl) rfl
theorem q1585 : (Jvm.Cond.instanceMethod ({ cls := "ArcRecorder", name := "errorCode", desc := "()I" } : Jvm.MethodName)) ∈ lw_all := lw_g (lw_at lw_m7 3 rfl) rfl
theorem q1586 : (Jvm.Cond.selects "ArcRecorder" ({ cls := "ArcRecorder", name := "errorCode", desc := "()I" } : Jvm.MethodName) ({ cls := "ArcRecorder", name := "errorCode", desc := "()I" } : Jvm.MethodName)) ∈ lw_all := lw_g (lw_at lw_m7 4 rfl) rfl
theorem q1587 : (Jvm.Cond.code ({ cls := "ArcRecorder", name := "errorCode", desc := "()I" } : Jvm.MethodName) prog_1_method_17_code (1 : Nat) (Option.some Jvm.ClassFile.FieldType.int)) ∈ lw_all := lw_g (lw_at lw_m7 5 rfl) rfl
theorem q1589 : (Jvm.Cond.instanceMethod ({ cls := "ArcRecorder", name := "errorPosition", desc := "()I" } : Jvm.MethodName)) ∈ lw_all := lw_g (lw_at lw_m7 7 rfl) rfl
theorem q1590 : (Jvm.Cond.selects "ArcRecorder" ({ cls := "ArcRecorder", name := "errorPosition", desc := "()I" } : Jvm.MethodName) ({ cls := "ArcRecorder", name := "errorPosition", desc := "()I" } : Jvm.MethodName)) ∈ lw_all := lw_g (lw_at lw_m7 8 rfl) rfl
theorem q1591 : (Jvm.Cond.code ({ cls := "ArcRecorder", name := "errorPosition", desc := "()I" } : Jvm.MethodName) prog_1_method_18_code (1 : Nat) (Option.some Jvm.ClassFile.FieldType.int)) ∈ lw_all := lw_g (lw_at lw_m7 9 rfl) rfl
theorem q1593 : (Jvm.Cond.instanceMethod ({ cls := "ArcRecorder", name := "find", desc := "()I" } : Jvm.MethodName)) ∈ lw_all := lw_g (lw_at lw_m7 11 rfl) rfl
theorem q1594 : (Jvm.Cond.selects "ArcRecorder" ({ cls := "ArcRecorder", name := "find", desc := "()I" } : Jvm.MethodName) ({ cls := "ArcRecorder", name := "find", desc := "()I" } : Jvm.MethodName)) ∈ lw_all := lw_g (lw_at lw_m7 12 rfl) rfl
theorem q1595 : (Jvm.Cond.code ({ cls := "ArcRecorder", name := "find", desc := "()I" } : Jvm.MethodName) prog_1_method_20_code (2 : Nat) (Option.some Jvm.ClassFile.FieldType.int)) ∈ lw_all := lw_g (lw_at lw_m7 13 rfl) rfl
theorem q1596 : (Jvm.Cond.methodLink "ArcRecorder" (199 : Nat) ({ cls := "ArcRecorder", name := "text", desc := "()Ljava/lang/String;" } : Jvm.MethodName)) ∈ lw_all := lw_g (lw_at lw_m7 14 rfl) rfl
theorem q1597 : (Jvm.Cond.privateMethod ({ cls := "ArcRecorder", name := "text", desc := "()Ljava/lang/String;" } : Jvm.MethodName)) ∈ lw_tbl := lw_at lw_m7 15 rfl
theorem q1598 : (Jvm.Cond.instanceMethod ({ cls := "ArcRecorder", name := "text", desc := "()Ljava/lang/String;" } : Jvm.MethodName)) ∈ lw_all := lw_g (lw_at lw_m7 16 rfl) rfl
theorem q1599 : (Jvm.Cond.code ({ cls := "ArcRecorder", name := "text", desc := "()Ljava/lang/String;" } : Jvm.MethodName) prog_1_method_19_code (3 : Nat) (Option.some (Jvm.ClassFile.FieldType.object "java/lang/String"))) ∈ lw_all := lw_g (lw_at lw_m7 17 rfl) rfl
theorem q1600 : (Jvm.Cond.methodLink "ArcRecorder" (191 : Nat) ({ cls := "java/lang/StringBuilder", name := "append", desc := "(C)Ljava/lang/StringBuilder;" } : Jvm.MethodName)) ∈ lw_all := lw_g (lw_at lw_m7 18 rfl) rfl
theorem q1601 : (Jvm.Cond.methodLink "ArcRecorder" (195 : Nat) ({ cls := "java/lang/StringBuilder", name := "toString", desc := "()Ljava/lang/String;" } : Jvm.MethodName)) ∈ lw_all := lw_g (lw_at lw_m7 19 rfl) rfl
theorem q1602 : (Jvm.Cond.methodLink "ArcRecorder" (202 : Nat) ({ cls := "ArcRecorder$State", name := "find", desc := "(Ljava/lang/String;)I" } : Jvm.MethodName)) ∈ lw_all := lw_g (lw_at lw_m7 20 rfl) rfl
theorem q1617 : (Jvm.Cond.instanceMethod ({ cls := "ArcRecorder", name := "now", desc := "()I" } : Jvm.MethodName)) ∈ lw_all := lw_g (lw_at lw_m7 35 rfl) rfl
theorem q1618 : (Jvm.Cond.selects "ArcRecorder" ({ cls := "ArcRecorder", name := "now", desc := "()I" } : Jvm.MethodName) ({ cls := "ArcRecorder", name := "now", desc := "()I" } : Jvm.MethodName)) ∈ lw_all := lw_g (lw_at lw_m7 36 rfl) rfl
theorem q1619 : (Jvm.Cond.code ({ cls := "ArcRecorder", name := "now", desc := "()I" } : Jvm.MethodName) prog_1_method_24_code (1 : Nat) (Option.some Jvm.ClassFile.FieldType.int)) ∈ lw_all := lw_g (lw_at lw_m7 37 rfl) rfl
theorem q1621 : (Jvm.Cond.instanceMethod ({ cls := "ArcRecorder", name := "losePower", desc := "()I" } : Jvm.MethodName)) ∈ lw_all := lw_g (lw_at lw_m7 39 rfl) rfl
theorem q1622 : (Jvm.Cond.selects "ArcRecorder" ({ cls := "ArcRecorder", name := "losePower", desc := "()I" } : Jvm.MethodName) ({ cls := "ArcRecorder", name := "losePower", desc := "()I" } : Jvm.MethodName)) ∈ lw_all := lw_g (lw_at lw_m7 40 rfl) rfl
theorem q1623 : (Jvm.Cond.code ({ cls := "ArcRecorder", name := "losePower", desc := "()I" } : Jvm.MethodName) prog_1_method_58_code (2 : Nat) (Option.some Jvm.ClassFile.FieldType.int)) ∈ lw_all := lw_g (lw_at lw_m7 41 rfl) rfl
theorem q1624 : (Jvm.Cond.methodLink "ArcRecorder" (283 : Nat) ({ cls := "ArcRecorder", name := "remember", desc := "()LArcRecorder$State;" } : Jvm.MethodName)) ∈ lw_all := lw_g (lw_at lw_m7 42 rfl) rfl
theorem q1625 : (Jvm.Cond.privateMethod ({ cls := "ArcRecorder", name := "remember", desc := "()LArcRecorder$State;" } : Jvm.MethodName)) ∈ lw_tbl := lw_at lw_m7 43 rfl
theorem q1626 : (Jvm.Cond.instanceMethod ({ cls := "ArcRecorder", name := "remember", desc := "()LArcRecorder$State;" } : Jvm.MethodName)) ∈ lw_all := lw_g (lw_at lw_m7 44 rfl) rfl
theorem q1627 : (Jvm.Cond.code ({ cls := "ArcRecorder", name := "remember", desc := "()LArcRecorder$State;" } : Jvm.MethodName) prog_1_method_15_code (1 : Nat) (Option.some (Jvm.ClassFile.FieldType.object "ArcRecorder$State"))) ∈ lw_all := lw_g (lw_at lw_m7 45 rfl) rfl
theorem q1628 : (Jvm.Cond.methodLink "ArcRecorder" (158 : Nat) ({ cls := "ArcRecorder$State", name := "<init>", desc := "(LArcRecorder$State;)V" } : Jvm.MethodName)) ∈ lw_all := lw_g (lw_at lw_m7 46 rfl) rfl
theorem q1942 : (Jvm.Cond.methodLink "ArcRecorder" (245 : Nat) ({ cls := "java/util/ArrayList", name := "get", desc := "(I)Ljava/lang/Object;" } : Jvm.MethodName)) ∈ lw_all := lw_g (lw_at lw_m8 120 rfl) rfl
theorem q1943 : (Jvm.Cond.classLink "ArcRecorder" (249 : Nat) "ArcRecorder$Branch") ∈ lw_all := lw_g (lw_at lw_m8 121 rfl) rfl
theorem q1944 : (Jvm.Cond.methodLink "ArcRecorder" (438 : Nat) ({ cls := "ArcRecorder$Branch", name := "forgetWindow", desc := "()V" } : Jvm.MethodName)) ∈ lw_all := lw_g (lw_at lw_m8 122 rfl) rfl
theorem q1948 : (Jvm.Cond.methodLink "ArcRecorder" (441 : Nat) ({ cls := "ArcRecorder", name := "memoryCount", desc := "()I" } : Jvm.MethodName)) ∈ lw_all := lw_g (lw_at lw_m8 126 rfl) rfl
theorem q1949 : (Jvm.Cond.instanceMethod ({ cls := "ArcRecorder", name := "memoryCount", desc := "()I" } : Jvm.MethodName)) ∈ lw_all := lw_g (lw_at lw_m8 127 rfl) rfl
theorem q1950 : (Jvm.Cond.selects "ArcRecorder" ({ cls := "ArcRecorder", name := "memoryCount", desc := "()I" } : Jvm.MethodName) ({ cls := "ArcRecorder", name := "memoryCount", desc := "()I" } : Jvm.MethodName)) ∈ lw_all := lw_g (lw_at lw_m8 128 rfl) rfl
theorem q1951 : (Jvm.Cond.code ({ cls := "ArcRecorder", name := "memoryCount", desc := "()I" } : Jvm.MethodName) prog_1_method_60_code (1 : Nat) (Option.some Jvm.ClassFile.FieldType.int)) ∈ lw_all := lw_g (lw_at lw_m8 129 rfl) rfl
theorem q1954 : (Jvm.Cond.instanceMethod ({ cls := "ArcRecorder", name := "clearMemory", desc := "()I" } : Jvm.MethodName)) ∈ lw_all := lw_g (lw_at lw_m8 132 rfl) rfl
theorem q1955 : (Jvm.Cond.selects "ArcRecorder" ({ cls := "ArcRecorder", name := "clearMemory", desc := "()I" } : Jvm.MethodName) ({ cls := "ArcRecorder", name := "clearMemory", desc := "()I" } : Jvm.MethodName)) ∈ lw_all := lw_g (lw_at lw_m8 133 rfl) rfl
theorem q1956 : (Jvm.Cond.code ({ cls := "ArcRecorder", name := "clearMemory", desc := "()I" } : Jvm.MethodName) prog_1_method_65_code (2 : Nat) (Option.some Jvm.ClassFile.FieldType.int)) ∈ lw_all := lw_g (lw_at lw_m8 134 rfl) rfl
theorem q1957 : (Jvm.Cond.methodLink "ArcRecorder" (467 : Nat) ({ cls := "java/util/ArrayDeque", name := "clear", desc := "()V" } : Jvm.MethodName)) ∈ lw_all := lw_g (lw_at lw_m8 135 rfl) rfl
theorem q1965 : (Jvm.Cond.instanceMethod ({ cls := "ArcRecorder", name := "totalMean", desc := "()F" } : Jvm.MethodName)) ∈ lw_all := lw_g (lw_at lw_m8 143 rfl) rfl
theorem q1966 : (Jvm.Cond.selects "ArcRecorder" ({ cls := "ArcRecorder", name := "totalMean", desc := "()F" } : Jvm.MethodName) ({ cls := "ArcRecorder", name := "totalMean", desc := "()F" } : Jvm.MethodName)) ∈ lw_all := lw_g (lw_at lw_m8 144 rfl) rfl
theorem q1967 : (Jvm.Cond.code ({ cls := "ArcRecorder", name := "totalMean", desc := "()F" } : Jvm.MethodName) prog_1_method_72_code (4 : Nat) (Option.some Jvm.ClassFile.FieldType.float)) ∈ lw_all := lw_g (lw_at lw_m8 145 rfl) rfl
theorem q1969 : (Jvm.Cond.instanceMethod ({ cls := "ArcRecorder", name := "undoCount", desc := "()I" } : Jvm.MethodName)) ∈ lw_all := lw_g (lw_at lw_m8 147 rfl) rfl
theorem q1970 : (Jvm.Cond.selects "ArcRecorder" ({ cls := "ArcRecorder", name := "undoCount", desc := "()I" } : Jvm.MethodName) ({ cls := "ArcRecorder", name := "undoCount", desc := "()I" } : Jvm.MethodName)) ∈ lw_all := lw_g (lw_at lw_m8 148 rfl) rfl
theorem q1971 : (Jvm.Cond.code ({ cls := "ArcRecorder", name := "undoCount", desc := "()I" } : Jvm.MethodName) prog_1_method_75_code (1 : Nat) (Option.some Jvm.ClassFile.FieldType.int)) ∈ lw_all := lw_g (lw_at lw_m8 149 rfl) rfl
theorem q1977 : (Jvm.Cond.instanceMethod ({ cls := "ArcRecorder", name := "append", desc := "(IIIII)I" } : Jvm.MethodName)) ∈ lw_all := lw_g (lw_at lw_m8 155 rfl) rfl
theorem q1978 : (Jvm.Cond.selects "ArcRecorder" ({ cls := "ArcRecorder", name := "append", desc := "(IIIII)I" } : Jvm.MethodName) ({ cls := "ArcRecorder", name := "append", desc := "(IIIII)I" } : Jvm.MethodName)) ∈ lw_all := lw_g (lw_at lw_m8 156 rfl) rfl
theorem q1979 : (Jvm.Cond.code ({ cls := "ArcRecorder", name := "append", desc := "(IIIII)I" } : Jvm.MethodName) prog_1_method_12_code (6 : Nat) (Option.some Jvm.ClassFile.FieldType.int)) ∈ lw_all := lw_g (lw_at lw_m8 157 rfl) rfl
theorem q1980 : (Jvm.Cond.methodLink "ArcRecorder" (132 : Nat) ({ cls := "ArcRecorder", name := "requireState", desc := "(Z)V" } : Jvm.MethodName)) ∈ lw_all := lw_g (lw_at lw_m8 158 rfl) rfl
theorem q1981 : (Jvm.Cond.static ({ cls := "ArcRecorder", name := "requireState", desc := "(Z)V" } : Jvm.MethodName)) ∈ lw_all := lw_g (lw_at lw_m8 159 rfl) rfl
theorem q1982 : (Jvm.Cond.code ({ cls := "ArcRecorder", name := "requireState", desc := "(Z)V" } : Jvm.MethodName) prog_1_method_3_code (1 : Nat) (Option.none : Option Jvm.ClassFile.FieldType)) ∈ lw_all := lw_g (lw_at lw_m8 160 rfl) rfl
theorem q1983 : (Jvm.Cond.classLink "ArcRecorder" (7 : Nat) "java/lang/IllegalStateException") ∈ lw_all := lw_g (lw_at lw_m8 161 rfl) rfl
theorem q1984 : (Jvm.Cond.methodLink "ArcRecorder" (9 : Nat) ({ cls := "java/lang/IllegalStateException", name := "<init>", desc := "()V" } : Jvm.MethodName)) ∈ lw_all := lw_g (lw_at lw_m8 162 rfl) rfl
theorem q1988 : (Jvm.Cond.methodLink "ArcRecorder" (136 : Nat) ({ cls := "ArcRecorder", name := "appendWord", desc := "(I)V" } : Jvm.MethodName)) ∈ lw_all := lw_g (lw_at lw_m8 166 rfl) rfl
theorem q1989 : (Jvm.Cond.privateMethod ({ cls := "ArcRecorder", name := "appendWord", desc := "(I)V" } : Jvm.MethodName)) ∈ lw_tbl := lw_at lw_m8 167 rfl
theorem q1990 : (Jvm.Cond.instanceMethod ({ cls := "ArcRecorder", name := "appendWord", desc := "(I)V" } : Jvm.MethodName)) ∈ lw_all := lw_g (lw_at lw_m8 168 rfl) rfl
theorem q1991 : (Jvm.Cond.code ({ cls := "ArcRecorder", name := "appendWord", desc := "(I)V" } : Jvm.MethodName) prog_1_method_11_code (3 : Nat) (Option.none : Option Jvm.ClassFile.FieldType)) ∈ lw_all := lw_g (lw_at lw_m8 169 rfl) rfl
theorem q1997 : (Jvm.Cond.instanceMethod ({ cls := "ArcRecorder", name := "truncate", desc := "(I)V" } : Jvm.MethodName)) ∈ lw_all := lw_g (lw_at lw_m8 175 rfl) rfl
theorem q1998 : (Jvm.Cond.selects "ArcRecorder" ({ cls := "ArcRecorder", name := "truncate", desc := "(I)V" } : Jvm.MethodName) ({ cls := "ArcRecorder", name := "truncate", desc := "(I)V" } : Jvm.MethodName)) ∈ lw_all := lw_g (lw_at lw_m8 176 rfl) rfl
theorem q1999 : (Jvm.Cond.code ({ cls := "ArcRecorder", name := "truncate", desc := "(I)V" } : Jvm.MethodName) prog_1_method_13_code (2 : Nat) (Option.none : Option Jvm.ClassFile.FieldType)) ∈ lw_all := lw_g (lw_at lw_m8 177 rfl) rfl
theorem q2000 : (Jvm.Cond.methodLink "ArcRecorder" (140 : Nat) ({ cls := "ArcRecorder", name := "inRange", desc := "(JJJ)Z" } : Jvm.MethodName)) ∈ lw_all := lw_g (lw_at lw_m8 178 rfl) rfl
theorem q2001 : (Jvm.Cond.methodLink "ArcRecorder" (144 : Nat) ({ cls := "ArcRecorder", name := "requireArgument", desc := "(Z)V" } : Jvm.MethodName)) ∈ lw_all := lw_g (lw_at lw_m8 179 rfl) rfl
theorem q2002 : (Jvm.Cond.static ({ cls := "ArcRecorder", name := "requireArgument", desc := "(Z)V" } : Jvm.MethodName)) ∈ lw_all := lw_g (lw_at lw_m8 180 rfl) rfl
theorem q2003 : (Jvm.Cond.code ({ cls := "ArcRecorder", name := "requireArgument", desc := "(Z)V" } : Jvm.MethodName) prog_1_method_2_code (1 : Nat) (Option.none : Option Jvm.ClassFile.FieldType)) ∈ lw_all := lw_g (lw_at lw_m8 181 rfl) rfl
theorem q2004 : (Jvm.Cond.classLink "ArcRecorder" (1 : Nat) "java/lang/IllegalArgumentException") ∈ lw_all := lw_g (lw_at lw_m8 182 rfl) rfl
theorem q2005 : (Jvm.Cond.methodLink "ArcRecorder" (3 : Nat) ({ cls := "java/lang/IllegalArgumentException", name := "<init>", desc := "()V" } : Jvm.MethodName)) ∈ lw_all := lw_g (lw_at lw_m8 183 rfl) rfl
theorem q2013 : (Jvm.Cond.instanceMethod ({ cls := "ArcRecorder", name := "count", desc := "(I)I" } : Jvm.MethodName)) ∈ lw_all := lw_g (lw_at lw_m8 191 rfl) rfl
theorem q2014 : (Jvm.Cond.selects "ArcRecorder" ({ cls := "ArcRecorder", name := "count", desc := "(I)I" } : Jvm.MethodName) ({ cls := "ArcRecorder", name := "count", desc := "(I)I" } : Jvm.MethodName)) ∈ lw_all := lw_g (lw_at lw_m8 192 rfl) rfl
theorem q2015 : (Jvm.Cond.code ({ cls := "ArcRecorder", name := "count", desc := "(I)I" } : Jvm.MethodName) prog_1_method_23_code (2 : Nat) (Option.some Jvm.ClassFile.FieldType.int)) ∈ lw_all := lw_g (lw_at lw_m8 193 rfl) rfl
theorem q2016 : (Jvm.Cond.constantLong "ArcRecorder" (215 : Nat) (7 : Int64)) ∈ lw_all := lw_g (lw_at lw_m8 194 rfl) rfl
theorem q2017 : (Jvm.Cond.methodLink "ArcRecorder" (217 : Nat) ({ cls := "ArcRecorder", name := "loadCount", desc := "()I" } : Jvm.MethodName)) ∈ lw_all := lw_g (lw_at lw_m8 195 rfl) rfl
theorem q2018 : (Jvm.Cond.privateMethod ({ cls := "ArcRecorder", name := "loadCount", desc := "()I" } : Jvm.MethodName)) ∈ lw_tbl := lw_at lw_m8 196 rfl
theorem q2019 : (Jvm.Cond.instanceMethod ({ cls := "ArcRecorder", name := "loadCount", desc := "()I" } : Jvm.MethodName)) ∈ lw_all := lw_g (lw_at lw_m8 197 rfl) rfl
theorem q2020 : (Jvm.Cond.code ({ cls := "ArcRecorder", name := "loadCount", desc := "()I" } : Jvm.MethodName) prog_1_method_21_code (1 : Nat) (Option.some Jvm.ClassFile.FieldType.int)) ∈ lw_all := lw_g (lw_at lw_m8 198 rfl) rfl
theorem q2021 : (Jvm.Cond.methodLink "ArcRecorder" (220 : Nat) ({ cls := "ArcRecorder", name := "signatureCount", desc := "()I" } : Jvm.MethodName)) ∈ lw_all := lw_g (lw_at lw_m8 199 rfl) rfl
theorem q2022 : (Jvm.Cond.privateMethod ({ cls := "ArcRecorder", name := "signatureCount", desc := "()I" } : Jvm.MethodName)) ∈ lw_tbl := lw_at lw_m8 200 rfl
theorem q2023 : (Jvm.Cond.instanceMethod ({ cls := "ArcRecorder", name := "signatureCount", desc := "()I" } : Jvm.MethodName)) ∈ lw_all := lw_g (lw_at lw_m8 201 rfl) rfl
theorem q2024 : (Jvm.Cond.code ({ cls := "ArcRecorder", name := "signatureCount", desc := "()I" } : Jvm.MethodName) prog_1_method_22_code (1 : Nat) (Option.some Jvm.ClassFile.FieldType.int)) ∈ lw_all := lw_g (lw_at lw_m8 202 rfl) rfl
theorem q2025 : (Jvm.Cond.methodLink "ArcRecorder" (230 : Nat) ({ cls := "java/util/LinkedList", name := "size", desc := "()I" } : Jvm.MethodName)) ∈ lw_all := lw_g (lw_at lw_m8 203 rfl) rfl
theorem q2046 : (Jvm.Cond.instanceMethod ({ cls := "ArcRecorder", name := "rated", desc := "(I)I" } : Jvm.MethodName)) ∈ lw_all := lw_g (lw_at lw_m8 224 rfl) rfl
theorem q2047 : (Jvm.Cond.selects "ArcRecorder" ({ cls := "ArcRecorder", name := "rated", desc := "(I)I" } : Jvm.MethodName) ({ cls := "ArcRecorder", name := "rated", desc := "(I)I" } : Jvm.MethodName)) ∈ lw_all := lw_g (lw_at lw_m8 225 rfl) rfl
theorem q2048 : (Jvm.Cond.code ({ cls := "ArcRecorder", name := "rated", desc := "(I)I" } : Jvm.MethodName) prog_1_method_28_code (2 : Nat) (Option.some Jvm.ClassFile.FieldType.int)) ∈ lw_all := lw_g (lw_at lw_m8 226 rfl) rfl
theorem q2049 : (Jvm.Cond.methodLink "ArcRecorder" (255 : Nat) ({ cls := "ArcRecorder", name := "branchAt", desc := "(I)LArcRecorder$Branch;" } : Jvm.MethodName)) ∈ lw_all := lw_g (lw_at lw_m8 227 rfl) rfl
theorem q2050 : (Jvm.Cond.privateMethod ({ cls := "ArcRecorder", name := "branchAt", desc := "(I)LArcRecorder$Branch;" } : Jvm.MethodName)) ∈ lw_tbl := lw_at lw_m8 228 rfl
theorem q2051 : (Jvm.Cond.instanceMethod ({ cls := "ArcRecorder", name := "branchAt", desc := "(I)LArcRecorder$Branch;" } : Jvm.MethodName)) ∈ lw_all := lw_g (lw_at lw_m8 229 rfl) rfl
theorem q2052 : (Jvm.Cond.code ({ cls := "ArcRecorder", name := "branchAt", desc := "(I)LArcRecorder$Branch;" } : Jvm.MethodName) prog_1_method_25_code (2 : Nat) (Option.some (Jvm.ClassFile.FieldType.object "ArcRecorder$Branch"))) ∈ lw_all := lw_g (lw_at lw_m8 230 rfl) rfl
theorem q2053 : (Jvm.Cond.methodLink "ArcRecorder" (242 : Nat) ({ cls := "ArcRecorder", name := "requireIndex", desc := "(Z)V" } : Jvm.MethodName)) ∈ lw_all := lw_g (lw_at lw_m8 231 rfl) rfl
theorem q2054 : (Jvm.Cond.static ({ cls := "ArcRecorder", name := "requireIndex", desc := "(Z)V" } : Jvm.MethodName)) ∈ lw_all := lw_g (lw_at lw_m8 232 rfl) rfl
theorem q2055 : (Jvm.Cond.code ({ cls := "ArcRecorder", name := "requireIndex", desc := "(Z)V" } : Jvm.MethodName) prog_1_method_4_code (1 : Nat) (Option.none : Option Jvm.ClassFile.FieldType)) ∈ lw_all := lw_g (lw_at lw_m8 233 rfl) rfl
theorem q2056 : (Jvm.Cond.classLink "ArcRecorder" (10 : Nat) "java/lang/IndexOutOfBoundsException") ∈ lw_all := lw_g (lw_at lw_m8 234 rfl) rfl
theorem q2057 : (Jvm.Cond.methodLink "ArcRecorder" (12 : Nat) ({ cls := "java/lang/IndexOutOfBoundsException", name := "<init>", desc := "()V" } : Jvm.MethodName)) ∈ lw_all := lw_g (lw_at lw_m8 235 rfl) rfl
theorem q2065 : (Jvm.Cond.instanceMethod ({ cls := "ArcRecorder", name := "loadOf", desc := "(II)I" } : Jvm.MethodName)) ∈ lw_all := lw_g (lw_at lw_m9 3 rfl) rfl
theorem q2066 : (Jvm.Cond.selects "ArcRecorder" ({ cls := "ArcRecorder", name := "loadOf", desc := "(II)I" } : Jvm.MethodName) ({ cls := "ArcRecorder", name := "loadOf", desc := "(II)I" } : Jvm.MethodName)) ∈ lw_all := lw_g (lw_at lw_m9 4 rfl) rfl
theorem q2067 : (Jvm.Cond.code ({ cls := "ArcRecorder", name := "loadOf", desc := "(II)I" } : Jvm.MethodName) prog_1_method_29_code (4 : Nat) (Option.some Jvm.ClassFile.FieldType.int)) ∈ lw_all := lw_g (lw_at lw_m9 5 rfl) rfl
theorem q2068 : (Jvm.Cond.methodLink "ArcRecorder" (262 : Nat) ({ cls := "ArcRecorder", name := "loadAt", desc := "(I)LArcRecorder$Load;" } : Jvm.MethodName)) ∈ lw_all := lw_g (lw_at lw_m9 6 rfl) rfl
theorem q2069 : (Jvm.Cond.privateMethod ({ cls := "ArcRecorder", name := "loadAt", desc := "(I)LArcRecorder$Load;" } : Jvm.MethodName)) ∈ lw_tbl := lw_at lw_m9 7 rfl
theorem q2070 : (Jvm.Cond.instanceMethod ({ cls := "ArcRecorder", name := "loadAt", desc := "(I)LArcRecorder$Load;" } : Jvm.MethodName)) ∈ lw_all := lw_g (lw_at lw_m9 8 rfl) rfl
theorem q2071 : (Jvm.Cond.code ({ cls := "ArcRecorder", name := "loadAt", desc := "(I)LArcRecorder$Load;" } : Jvm.MethodName) prog_1_method_26_code (2 : Nat) (Option.some (Jvm.ClassFile.FieldType.object "ArcRecorder$Load"))) ∈ lw_all := lw_g (lw_at lw_m9 9 rfl) rfl
theorem q2072 : (Jvm.Cond.classLink "ArcRecorder" (251 : Nat) "ArcRecorder$Load") ∈ lw_all := lw_g (lw_at lw_m9 10 rfl) rfl
theorem q2073 : (Jvm.Cond.constantLong "ArcRecorder" (266 : Nat) (4 : Int64)) ∈ lw_all := lw_g (lw_at lw_m9 11 rfl) rfl
theorem q2074 : (Jvm.Cond.methodLink "ArcRecorder" (268 : Nat) ({ cls := "ArcRecorder$Load", name := "kind", desc := "()I" } : Jvm.MethodName)) ∈ lw_all := lw_g (lw_at lw_m9 12 rfl) rfl
theorem q2089 : (Jvm.Cond.methodLink "ArcRecorder" (275 : Nat) ({ cls := "ArcRecorder$Load", name := "first", desc := "()I" } : Jvm.MethodName)) ∈ lw_all := lw_g (lw_at lw_m9 27 rfl) rfl
theorem q2103 : (Jvm.Cond.methodLink "ArcRecorder" (278 : Nat) ({ cls := "ArcRecorder$Load", name := "out", desc := "()I" } : Jvm.MethodName)) ∈ lw_all := lw_g (lw_at lw_m9 41 rfl) rfl
theorem q2117 : (Jvm.Cond.instanceMethod ({ cls := "ArcRecorder", name := "isOn", desc := "(I)Z" } : Jvm.MethodName)) ∈ lw_all := lw_g (lw_at lw_m9 55 rfl) rfl
theorem q2118 : (Jvm.Cond.selects "ArcRecorder" ({ cls := "ArcRecorder", name := "isOn", desc := "(I)Z" } : Jvm.MethodName) ({ cls := "ArcRecorder", name := "isOn", desc := "(I)Z" } : Jvm.MethodName)) ∈ lw_all := lw_g (lw_at lw_m9 56 rfl) rfl
theorem q2119 : (Jvm.Cond.code ({ cls := "ArcRecorder", name := "isOn", desc := "(I)Z" } : Jvm.MethodName) prog_1_method_30_code (2 : Nat) (Option.some Jvm.ClassFile.FieldType.boolean)) ∈ lw_all := lw_g (lw_at lw_m9 57 rfl) rfl
theorem q2124 : (Jvm.Cond.instanceMethod ({ cls := "ArcRecorder", name := "setOn", desc := "(IZ)Z" } : Jvm.MethodName)) ∈ lw_all := lw_g (lw_at lw_m9 62 rfl) rfl
theorem q2125 : (Jvm.Cond.selects "ArcRecorder" ({ cls := "ArcRecorder", name := "setOn", desc := "(IZ)Z" } : Jvm.MethodName) ({ cls := "ArcRecorder", name := "setOn", desc := "(IZ)Z" } : Jvm.MethodName)) ∈ lw_all := lw_g (lw_at lw_m9 63 rfl) rfl
theorem q2126 : (Jvm.Cond.code ({ cls := "ArcRecorder", name := "setOn", desc := "(IZ)Z" } : Jvm.MethodName) prog_1_method_31_code (4 : Nat) (Option.some Jvm.ClassFile.FieldType.boolean)) ∈ lw_all := lw_g (lw_at lw_m9 64 rfl) rfl
theorem q2131 : (Jvm.Cond.instanceMethod ({ cls := "ArcRecorder", name := "plan", desc := "(IIZ)I" } : Jvm.MethodName)) ∈ lw_all := lw_g (lw_at lw_m9 69 rfl) rfl
theorem q2132 : (Jvm.Cond.selects "ArcRecorder" ({ cls := "ArcRecorder", name := "plan", desc := "(IIZ)I" } : Jvm.MethodName) ({ cls := "ArcRecorder", name := "plan", desc := "(IIZ)I" } : Jvm.MethodName)) ∈ lw_all := lw_g (lw_at lw_m9 70 rfl) rfl
theorem q2133 : (Jvm.Cond.code ({ cls := "ArcRecorder", name := "plan", desc := "(IIZ)I" } : Jvm.MethodName) prog_1_method_32_code (4 : Nat) (Option.some Jvm.ClassFile.FieldType.int)) ∈ lw_all := lw_g (lw_at lw_m9 71 rfl) rfl
theorem q2134 : (Jvm.Cond.constantLong "ArcRecorder" (286 : Nat) (100000 : Int64)) ∈ lw_all := lw_g (lw_at lw_m9 72 rfl) rfl
theorem q2135 : (Jvm.Cond.classLink "ArcRecorder" (288 : Nat) "ArcRecorder$Switch") ∈ lw_all := lw_g (lw_at lw_m9 73 rfl) rfl
theorem q2136 : (Jvm.Cond.methodLink "ArcRecorder" (290 : Nat) ({ cls := "ArcRecorder$Switch", name := "<init>", desc := "(IIZ)V" } : Jvm.MethodName)) ∈ lw_all := lw_g (lw_at lw_m9 74 rfl) rfl
theorem q2137 : (Jvm.Cond.methodLink "ArcRecorder" (293 : Nat) ({ cls := "java/util/LinkedList", name := "addLast", desc := "(Ljava/lang/Object;)V" } : Jvm.MethodName)) ∈ lw_all := lw_g (lw_at lw_m9 75 rfl) rfl
theorem q2142 : (Jvm.Cond.instanceMethod ({ cls := "ArcRecorder", name := "nextSwitch", desc := "(I)I" } : Jvm.MethodName)) ∈ lw_all := lw_g (lw_at lw_m9 80 rfl) rfl
theorem q2143 : (Jvm.Cond.selects "ArcRecorder" ({ cls := "ArcRecorder", name := "nextSwitch", desc := "(I)I" } : Jvm.MethodName) ({ cls := "ArcRecorder", name := "nextSwitch", desc := "(I)I" } : Jvm.MethodName)) ∈ lw_all := lw_g (lw_at lw_m9 81 rfl) rfl
theorem q2144 : (Jvm.Cond.code ({ cls := "ArcRecorder", name := "nextSwitch", desc := "(I)I" } : Jvm.MethodName) prog_1_method_33_code (5 : Nat) (Option.some Jvm.ClassFile.FieldType.int)) ∈ lw_all := lw_g (lw_at lw_m9 82 rfl) rfl
theorem q2145 : (Jvm.Cond.methodLink "ArcRecorder" (294 : Nat) ({ cls := "java/util/LinkedList", name := "iterator", desc := "()Ljava/util/Iterator;" } : Jvm.MethodName)) ∈ lw_all := lw_g (lw_at lw_m9 83 rfl) rfl
theorem q2146 : (Jvm.Cond.interfaceEntry "ArcRecorder" (298 : Nat)) ∈ lw_tbl := lw_at lw_m9 84 rfl
theorem q2147 : (Jvm.Cond.methodLink "ArcRecorder" (298 : Nat) ({ cls := "java/util/Iterator", name := "hasNext", desc := "()Z" } : Jvm.MethodName)) ∈ lw_all := lw_g (lw_at lw_m9 85 rfl) rfl
theorem q2148 : (Jvm.Cond.interfaceEntry "ArcRecorder" (304 : Nat)) ∈ lw_tbl := lw_at lw_m9 86 rfl
theorem q2149 : (Jvm.Cond.methodLink "ArcRecorder" (304 : Nat) ({ cls := "java/util/Iterator", name := "next", desc := "()Ljava/lang/Object;" } : Jvm.MethodName)) ∈ lw_all := lw_g (lw_at lw_m9 87 rfl) rfl
theorem q2154 : (Jvm.Cond.instanceMethod ({ cls := "ArcRecorder", name := "state", desc := "(I)I" } : Jvm.MethodName)) ∈ lw_all := lw_g (lw_at lw_m9 92 rfl) rfl
theorem q2155 : (Jvm.Cond.selects "ArcRecorder" ({ cls := "ArcRecorder", name := "state", desc := "(I)I" } : Jvm.MethodName) ({ cls := "ArcRecorder", name := "state", desc := "(I)I" } : Jvm.MethodName)) ∈ lw_all := lw_g (lw_at lw_m9 93 rfl) rfl
theorem q2156 : (Jvm.Cond.code ({ cls := "ArcRecorder", name := "state", desc := "(I)I" } : Jvm.MethodName) prog_1_method_34_code (2 : Nat) (Option.some Jvm.ClassFile.FieldType.int)) ∈ lw_all := lw_g (lw_at lw_m9 94 rfl) rfl
theorem q2161 : (Jvm.Cond.instanceMethod ({ cls := "ArcRecorder", name := "run", desc := "(I)I" } : Jvm.MethodName)) ∈ lw_all := lw_g (lw_at lw_m9 99 rfl) rfl
theorem q2162 : (Jvm.Cond.selects "ArcRecorder" ({ cls := "ArcRecorder", name := "run", desc := "(I)I" } : Jvm.MethodName) ({ cls := "ArcRecorder", name := "run", desc := "(I)I" } : Jvm.MethodName)) ∈ lw_all := lw_g (lw_at lw_m9 100 rfl) rfl
theorem q2163 : (Jvm.Cond.code ({ cls := "ArcRecorder", name := "run", desc := "(I)I" } : Jvm.MethodName) prog_1_method_35_code (4 : Nat) (Option.some Jvm.ClassFile.FieldType.int)) ∈ lw_all := lw_g (lw_at lw_m9 101 rfl) rfl
theorem q2164 : (Jvm.Cond.constantLong "ArcRecorder" (313 : Nat) (500 : Int64)) ∈ lw_all := lw_g (lw_at lw_m9 102 rfl) rfl
theorem q2165 : (Jvm.Cond.constant "ArcRecorder" (315 : Nat) (100000 : Int32)) ∈ lw_all := lw_g (lw_at lw_m9 103 rfl) rfl
theorem q2166 : (Jvm.Cond.methodLink "ArcRecorder" (316 : Nat) ({ cls := "ArcRecorder$State", name := "step", desc := "()I" } : Jvm.MethodName)) ∈ lw_all := lw_g (lw_at lw_m9 104 rfl) rfl
theorem q2236 : (Jvm.Cond.static ({ cls := "ArcRecorder", name := "magnitude", desc := "(F)F" } : Jvm.MethodName)) ∈ lw_all := lw_g (lw_at lw_m9 174 rfl) rfl
theorem q2237 : (Jvm.Cond.code ({ cls := "ArcRecorder", name := "magnitude", desc := "(F)F" } : Jvm.MethodName) prog_1_method_7_code (1 : Nat) (Option.some Jvm.ClassFile.FieldType.float)) ∈ lw_all := lw_g (lw_at lw_m9 175 rfl) rfl
theorem q2297 : (Jvm.Cond.static ({ cls := "ArcRecorder", name := "has", desc := "(II)Z" } : Jvm.MethodName)) ∈ lw_all := lw_g (lw_at lw_m9 235 rfl) rfl
theorem q2298 : (Jvm.Cond.code ({ cls := "ArcRecorder", name := "has", desc := "(II)Z" } : Jvm.MethodName) prog_1_method_6_code (2 : Nat) (Option.some Jvm.ClassFile.FieldType.boolean)) ∈ lw_all := lw_g (lw_at lw_m9 236 rfl) rfl
theorem q2320 : (Jvm.Cond.fieldLinkNest "ArcRecorder" (454 : Nat) "ArcRecorder$Trip" "time" "I" "ArcRecorder") ∈ lw_tbl := lw_at lw_m10 18 rfl
theorem q2322 : (Jvm.Cond.fieldLinkNest "ArcRecorder" (455 : Nat) "ArcRecorder$Trip" "branch" "I" "ArcRecorder") ∈ lw_tbl := lw_at lw_m10 20 rfl
theorem q2324 : (Jvm.Cond.fieldLinkNest "ArcRecorder" (456 : Nat) "ArcRecorder$Trip" "kind" "I" "ArcRecorder") ∈ lw_tbl := lw_at lw_m10 22 rfl
theorem q2326 : (Jvm.Cond.fieldLinkNest "ArcRecorder" (458 : Nat) "ArcRecorder$Trip" "cause" "I" "ArcRecorder") ∈ lw_tbl := lw_at lw_m10 24 rfl
theorem q2328 : (Jvm.Cond.fieldLinkNest "ArcRecorder" (464 : Nat) "ArcRecorder$Trip" "peak" "F" "ArcRecorder") ∈ lw_tbl := lw_at lw_m10 26 rfl
theorem q2330 : (Jvm.Cond.fieldLinkNest "ArcRecorder" (461 : Nat) "ArcRecorder$Trip" "named" "[I" "ArcRecorder") ∈ lw_tbl := lw_at lw_m10 28 rfl
theorem q2345 : (Jvm.Cond.methodLink "ArcRecorder" (319 : Nat) ({ cls := "java/lang/Integer", name := "bitCount", desc := "(I)I" } : Jvm.MethodName)) ∈ lw_all := lw_g (lw_at lw_m10 43 rfl) rfl
theorem q2356 : (Jvm.Cond.instanceMethod ({ cls := "ArcRecorder", name := "sample", desc := "(II)F" } : Jvm.MethodName)) ∈ lw_all := lw_g (lw_at lw_m10 54 rfl) rfl
theorem q2357 : (Jvm.Cond.selects "ArcRecorder" ({ cls := "ArcRecorder", name := "sample", desc := "(II)F" } : Jvm.MethodName) ({ cls := "ArcRecorder", name := "sample", desc := "(II)F" } : Jvm.MethodName)) ∈ lw_all := lw_g (lw_at lw_m10 55 rfl) rfl
theorem q2358 : (Jvm.Cond.code ({ cls := "ArcRecorder", name := "sample", desc := "(II)F" } : Jvm.MethodName) prog_1_method_36_code (4 : Nat) (Option.some Jvm.ClassFile.FieldType.float)) ∈ lw_all := lw_g (lw_at lw_m10 56 rfl) rfl
theorem q2359 : (Jvm.Cond.methodLink "ArcRecorder" (328 : Nat) ({ cls := "ArcRecorder", name := "requireElement", desc := "(Z)V" } : Jvm.MethodName)) ∈ lw_all := lw_g (lw_at lw_m10 57 rfl) rfl
theorem q2360 : (Jvm.Cond.static ({ cls := "ArcRecorder", name := "requireElement", desc := "(Z)V" } : Jvm.MethodName)) ∈ lw_all := lw_g (lw_at lw_m10 58 rfl) rfl
theorem q2361 : (Jvm.Cond.code ({ cls := "ArcRecorder", name := "requireElement", desc := "(Z)V" } : Jvm.MethodName) prog_1_method_5_code (1 : Nat) (Option.none : Option Jvm.ClassFile.FieldType)) ∈ lw_all := lw_g (lw_at lw_m10 59 rfl) rfl
theorem q2362 : (Jvm.Cond.classLink "ArcRecorder" (13 : Nat) "java/util/NoSuchElementException") ∈ lw_all := lw_g (lw_at lw_m10 60 rfl) rfl
theorem q2363 : (Jvm.Cond.methodLink "ArcRecorder" (15 : Nat) ({ cls := "java/util/NoSuchElementException", name := "<init>", desc := "()V" } : Jvm.MethodName)) ∈ lw_all := lw_g (lw_at lw_m10 61 rfl) rfl
theorem q2368 : (Jvm.Cond.instanceMethod ({ cls := "ArcRecorder", name := "feature", desc := "(II)F" } : Jvm.MethodName)) ∈ lw_all := lw_g (lw_at lw_m10 66 rfl) rfl
theorem q2369 : (Jvm.Cond.selects "ArcRecorder" ({ cls := "ArcRecorder", name := "feature", desc := "(II)F" } : Jvm.MethodName) ({ cls := "ArcRecorder", name := "feature", desc := "(II)F" } : Jvm.MethodName)) ∈ lw_all := lw_g (lw_at lw_m10 67 rfl) rfl
theorem q2370 : (Jvm.Cond.code ({ cls := "ArcRecorder", name := "feature", desc := "(II)F" } : Jvm.MethodName) prog_1_method_38_code (4 : Nat) (Option.some Jvm.ClassFile.FieldType.float)) ∈ lw_all := lw_g (lw_at lw_m10 68 rfl) rfl
theorem q2371 : (Jvm.Cond.methodLink "ArcRecorder" (337 : Nat) ({ cls := "ArcRecorder", name := "requireFeature", desc := "(I)V" } : Jvm.MethodName)) ∈ lw_all := lw_g (lw_at lw_m10 69 rfl) rfl
theorem q2372 : (Jvm.Cond.static ({ cls := "ArcRecorder", name := "requireFeature", desc := "(I)V" } : Jvm.MethodName)) ∈ lw_all := lw_g (lw_at lw_m10 70 rfl) rfl
theorem q2373 : (Jvm.Cond.code ({ cls := "ArcRecorder", name := "requireFeature", desc := "(I)V" } : Jvm.MethodName) prog_1_method_37_code (1 : Nat) (Option.none : Option Jvm.ClassFile.FieldType)) ∈ lw_all := lw_g (lw_at lw_m10 71 rfl) rfl
theorem q2374 : (Jvm.Cond.constantLong "ArcRecorder" (335 : Nat) (5 : Int64)) ∈ lw_all := lw_g (lw_at lw_m10 72 rfl) rfl
theorem q2379 : (Jvm.Cond.instanceMethod ({ cls := "ArcRecorder", name := "matching", desc := "(I)I" } : Jvm.MethodName)) ∈ lw_all := lw_g (lw_at lw_m10 77 rfl) rfl
theorem q2380 : (Jvm.Cond.selects "ArcRecorder" ({ cls := "ArcRecorder", name := "matching", desc := "(I)I" } : Jvm.MethodName) ({ cls := "ArcRecorder", name := "matching", desc := "(I)I" } : Jvm.MethodName)) ∈ lw_all := lw_g (lw_at lw_m10 78 rfl) rfl
theorem q2381 : (Jvm.Cond.code ({ cls := "ArcRecorder", name := "matching", desc := "(I)I" } : Jvm.MethodName) prog_1_method_39_code (2 : Nat) (Option.some Jvm.ClassFile.FieldType.int)) ∈ lw_all := lw_g (lw_at lw_m10 79 rfl) rfl
theorem q2386 : (Jvm.Cond.instanceMethod ({ cls := "ArcRecorder", name := "hiding", desc := "(I)I" } : Jvm.MethodName)) ∈ lw_all := lw_g (lw_at lw_m10 84 rfl) rfl
theorem q2387 : (Jvm.Cond.selects "ArcRecorder" ({ cls := "ArcRecorder", name := "hiding", desc := "(I)I" } : Jvm.MethodName) ({ cls := "ArcRecorder", name := "hiding", desc := "(I)I" } : Jvm.MethodName)) ∈ lw_all := lw_g (lw_at lw_m10 85 rfl) rfl
theorem q2388 : (Jvm.Cond.code ({ cls := "ArcRecorder", name := "hiding", desc := "(I)I" } : Jvm.MethodName) prog_1_method_40_code (2 : Nat) (Option.some Jvm.ClassFile.FieldType.int)) ∈ lw_all := lw_g (lw_at lw_m10 86 rfl) rfl
theorem q2393 : (Jvm.Cond.instanceMethod ({ cls := "ArcRecorder", name := "isSuspect", desc := "(I)Z" } : Jvm.MethodName)) ∈ lw_all := lw_g (lw_at lw_m10 91 rfl) rfl
theorem q2394 : (Jvm.Cond.selects "ArcRecorder" ({ cls := "ArcRecorder", name := "isSuspect", desc := "(I)Z" } : Jvm.MethodName) ({ cls := "ArcRecorder", name := "isSuspect", desc := "(I)Z" } : Jvm.MethodName)) ∈ lw_all := lw_g (lw_at lw_m10 92 rfl) rfl
theorem q2395 : (Jvm.Cond.code ({ cls := "ArcRecorder", name := "isSuspect", desc := "(I)Z" } : Jvm.MethodName) prog_1_method_41_code (2 : Nat) (Option.some Jvm.ClassFile.FieldType.boolean)) ∈ lw_all := lw_g (lw_at lw_m10 93 rfl) rfl
theorem q2400 : (Jvm.Cond.instanceMethod ({ cls := "ArcRecorder", name := "suspects", desc := "(I)I" } : Jvm.MethodName)) ∈ lw_all := lw_g (lw_at lw_m10 98 rfl) rfl
theorem q2401 : (Jvm.Cond.selects "ArcRecorder" ({ cls := "ArcRecorder", name := "suspects", desc := "(I)I" } : Jvm.MethodName) ({ cls := "ArcRecorder", name := "suspects", desc := "(I)I" } : Jvm.MethodName)) ∈ lw_all := lw_g (lw_at lw_m10 99 rfl) rfl
theorem q2402 : (Jvm.Cond.code ({ cls := "ArcRecorder", name := "suspects", desc := "(I)I" } : Jvm.MethodName) prog_1_method_42_code (2 : Nat) (Option.some Jvm.ClassFile.FieldType.int)) ∈ lw_all := lw_g (lw_at lw_m10 100 rfl) rfl
theorem q2403 : (Jvm.Cond.methodLink "ArcRecorder" (353 : Nat) ({ cls := "ArcRecorder$Branch", name := "suspects", desc := "(I)I" } : Jvm.MethodName)) ∈ lw_all := lw_g (lw_at lw_m10 101 rfl) rfl
theorem q2408 : (Jvm.Cond.instanceMethod ({ cls := "ArcRecorder", name := "wasSuspect", desc := "(II)Z" } : Jvm.MethodName)) ∈ lw_all := lw_g (lw_at lw_m10 106 rfl) rfl
theorem q2409 : (Jvm.Cond.selects "ArcRecorder" ({ cls := "ArcRecorder", name := "wasSuspect", desc := "(II)Z" } : Jvm.MethodName) ({ cls := "ArcRecorder", name := "wasSuspect", desc := "(II)Z" } : Jvm.MethodName)) ∈ lw_all := lw_g (lw_at lw_m10 107 rfl) rfl
theorem q2410 : (Jvm.Cond.code ({ cls := "ArcRecorder", name := "wasSuspect", desc := "(II)Z" } : Jvm.MethodName) prog_1_method_43_code (4 : Nat) (Option.some Jvm.ClassFile.FieldType.boolean)) ∈ lw_all := lw_g (lw_at lw_m10 108 rfl) rfl
theorem q2411 : (Jvm.Cond.constantLong "ArcRecorder" (356 : Nat) (63 : Int64)) ∈ lw_all := lw_g (lw_at lw_m10 109 rfl) rfl
theorem q2412 : (Jvm.Cond.methodLink "ArcRecorder" (358 : Nat) ({ cls := "ArcRecorder$Branch", name := "was", desc := "(I)Z" } : Jvm.MethodName)) ∈ lw_all := lw_g (lw_at lw_m10 110 rfl) rfl
theorem q2417 : (Jvm.Cond.instanceMethod ({ cls := "ArcRecorder", name := "margin", desc := "(I)I" } : Jvm.MethodName)) ∈ lw_all := lw_g (lw_at lw_m10 115 rfl) rfl
theorem q2418 : (Jvm.Cond.selects "ArcRecorder" ({ cls := "ArcRecorder", name := "margin", desc := "(I)I" } : Jvm.MethodName) ({ cls := "ArcRecorder", name := "margin", desc := "(I)I" } : Jvm.MethodName)) ∈ lw_all := lw_g (lw_at lw_m10 116 rfl) rfl
theorem q2419 : (Jvm.Cond.code ({ cls := "ArcRecorder", name := "margin", desc := "(I)I" } : Jvm.MethodName) prog_1_method_44_code (3 : Nat) (Option.some Jvm.ClassFile.FieldType.int)) ∈ lw_all := lw_g (lw_at lw_m10 117 rfl) rfl
theorem q2420 : (Jvm.Cond.methodLink "ArcRecorder" (362 : Nat) ({ cls := "ArcRecorder$Branch", name := "margin", desc := "(II)I" } : Jvm.MethodName)) ∈ lw_all := lw_g (lw_at lw_m10 118 rfl) rfl
theorem q2429 : (Jvm.Cond.instanceMethod ({ cls := "ArcRecorder", name := "hits", desc := "(I)I" } : Jvm.MethodName)) ∈ lw_all := lw_g (lw_at lw_m10 127 rfl) rfl
theorem q2430 : (Jvm.Cond.selects "ArcRecorder" ({ cls := "ArcRecorder", name := "hits", desc := "(I)I" } : Jvm.MethodName) ({ cls := "ArcRecorder", name := "hits", desc := "(I)I" } : Jvm.MethodName)) ∈ lw_all := lw_g (lw_at lw_m10 128 rfl) rfl
theorem q2431 : (Jvm.Cond.code ({ cls := "ArcRecorder", name := "hits", desc := "(I)I" } : Jvm.MethodName) prog_1_method_45_code (2 : Nat) (Option.some Jvm.ClassFile.FieldType.int)) ∈ lw_all := lw_g (lw_at lw_m10 129 rfl) rfl
theorem q2432 : (Jvm.Cond.methodLink "ArcRecorder" (366 : Nat) ({ cls := "ArcRecorder", name := "signatureAt", desc := "(I)LArcRecorder$Pattern;" } : Jvm.MethodName)) ∈ lw_all := lw_g (lw_at lw_m10 130 rfl) rfl
theorem q2433 : (Jvm.Cond.privateMethod ({ cls := "ArcRecorder", name := "signatureAt", desc := "(I)LArcRecorder$Pattern;" } : Jvm.MethodName)) ∈ lw_tbl := lw_at lw_m10 131 rfl
theorem q2434 : (Jvm.Cond.instanceMethod ({ cls := "ArcRecorder", name := "signatureAt", desc := "(I)LArcRecorder$Pattern;" } : Jvm.MethodName)) ∈ lw_all := lw_g (lw_at lw_m10 132 rfl) rfl
theorem q2435 : (Jvm.Cond.code ({ cls := "ArcRecorder", name := "signatureAt", desc := "(I)LArcRecorder$Pattern;" } : Jvm.MethodName) prog_1_method_27_code (2 : Nat) (Option.some (Jvm.ClassFile.FieldType.object "ArcRecorder$Pattern"))) ∈ lw_all := lw_g (lw_at lw_m10 133 rfl) rfl
theorem q2436 : (Jvm.Cond.classLink "ArcRecorder" (253 : Nat) "ArcRecorder$Pattern") ∈ lw_all := lw_g (lw_at lw_m10 134 rfl) rfl
theorem q2441 : (Jvm.Cond.instanceMethod ({ cls := "ArcRecorder", name := "isAlways", desc := "(I)Z" } : Jvm.MethodName)) ∈ lw_all := lw_g (lw_at lw_m10 139 rfl) rfl
theorem q2442 : (Jvm.Cond.selects "ArcRecorder" ({ cls := "ArcRecorder", name := "isAlways", desc := "(I)Z" } : Jvm.MethodName) ({ cls := "ArcRecorder", name := "isAlways", desc := "(I)Z" } : Jvm.MethodName)) ∈ lw_all := lw_g (lw_at lw_m10 140 rfl) rfl
theorem q2443 : (Jvm.Cond.code ({ cls := "ArcRecorder", name := "isAlways", desc := "(I)Z" } : Jvm.MethodName) prog_1_method_46_code (2 : Nat) (Option.some Jvm.ClassFile.FieldType.boolean)) ∈ lw_all := lw_g (lw_at lw_m10 141 rfl) rfl
theorem q2448 : (Jvm.Cond.instanceMethod ({ cls := "ArcRecorder", name := "nuisanceHits", desc := "(I)I" } : Jvm.MethodName)) ∈ lw_all := lw_g (lw_at lw_m10 146 rfl) rfl
theorem q2449 : (Jvm.Cond.selects "ArcRecorder" ({ cls := "ArcRecorder", name := "nuisanceHits", desc := "(I)I" } : Jvm.MethodName) ({ cls := "ArcRecorder", name := "nuisanceHits", desc := "(I)I" } : Jvm.MethodName)) ∈ lw_all := lw_g (lw_at lw_m10 147 rfl) rfl
theorem q2450 : (Jvm.Cond.code ({ cls := "ArcRecorder", name := "nuisanceHits", desc := "(I)I" } : Jvm.MethodName) prog_1_method_48_code (2 : Nat) (Option.some Jvm.ClassFile.FieldType.int)) ∈ lw_all := lw_g (lw_at lw_m10 148 rfl) rfl
theorem q2451 : (Jvm.Cond.methodLink "ArcRecorder" (378 : Nat) ({ cls := "ArcRecorder", name := "nuisanceAt", desc := "(I)LArcRecorder$Nuisance;" } : Jvm.MethodName)) ∈ lw_all := lw_g (lw_at lw_m10 149 rfl) rfl
theorem q2452 : (Jvm.Cond.privateMethod ({ cls := "ArcRecorder", name := "nuisanceAt", desc := "(I)LArcRecorder$Nuisance;" } : Jvm.MethodName)) ∈ lw_tbl := lw_at lw_m10 150 rfl
theorem q2453 : (Jvm.Cond.instanceMethod ({ cls := "ArcRecorder", name := "nuisanceAt", desc := "(I)LArcRecorder$Nuisance;" } : Jvm.MethodName)) ∈ lw_all := lw_g (lw_at lw_m10 151 rfl) rfl
theorem q2454 : (Jvm.Cond.code ({ cls := "ArcRecorder", name := "nuisanceAt", desc := "(I)LArcRecorder$Nuisance;" } : Jvm.MethodName) prog_1_method_47_code (2 : Nat) (Option.some (Jvm.ClassFile.FieldType.object "ArcRecorder$Nuisance"))) ∈ lw_all := lw_g (lw_at lw_m10 152 rfl) rfl
theorem q2455 : (Jvm.Cond.classLink "ArcRecorder" (376 : Nat) "ArcRecorder$Nuisance") ∈ lw_all := lw_g (lw_at lw_m10 153 rfl) rfl
theorem q2460 : (Jvm.Cond.instanceMethod ({ cls := "ArcRecorder", name := "wouldMatch", desc := "(IFFFFF)Z" } : Jvm.MethodName)) ∈ lw_all := lw_g (lw_at lw_m10 158 rfl) rfl
theorem q2461 : (Jvm.Cond.selects "ArcRecorder" ({ cls := "ArcRecorder", name := "wouldMatch", desc := "(IFFFFF)Z" } : Jvm.MethodName) ({ cls := "ArcRecorder", name := "wouldMatch", desc := "(IFFFFF)Z" } : Jvm.MethodName)) ∈ lw_all := lw_g (lw_at lw_m10 159 rfl) rfl
theorem q2462 : (Jvm.Cond.code ({ cls := "ArcRecorder", name := "wouldMatch", desc := "(IFFFFF)Z" } : Jvm.MethodName) prog_1_method_49_code (8 : Nat) (Option.some Jvm.ClassFile.FieldType.boolean)) ∈ lw_all := lw_g (lw_at lw_m10 160 rfl) rfl
theorem q2463 : (Jvm.Cond.methodLink "ArcRecorder" (384 : Nat) ({ cls := "ArcRecorder$Pattern", name := "matches", desc := "([F)Z" } : Jvm.MethodName)) ∈ lw_all := lw_g (lw_at lw_m10 161 rfl) rfl
theorem q2468 : (Jvm.Cond.instanceMethod ({ cls := "ArcRecorder", name := "learn", desc := "(I)I" } : Jvm.MethodName)) ∈ lw_all := lw_g (lw_at lw_m10 166 rfl) rfl
theorem q2469 : (Jvm.Cond.selects "ArcRecorder" ({ cls := "ArcRecorder", name := "learn", desc := "(I)I" } : Jvm.MethodName) ({ cls := "ArcRecorder", name := "learn", desc := "(I)I" } : Jvm.MethodName)) ∈ lw_all := lw_g (lw_at lw_m10 167 rfl) rfl
theorem q2470 : (Jvm.Cond.code ({ cls := "ArcRecorder", name := "learn", desc := "(I)I" } : Jvm.MethodName) prog_1_method_51_code (5 : Nat) (Option.some Jvm.ClassFile.FieldType.int)) ∈ lw_all := lw_g (lw_at lw_m10 168 rfl) rfl
theorem q2471 : (Jvm.Cond.methodLink "ArcRecorder" (405 : Nat) ({ cls := "ArcRecorder", name := "isName", desc := "(Ljava/lang/String;)Z" } : Jvm.MethodName)) ∈ lw_all := lw_g (lw_at lw_m10 169 rfl) rfl
theorem q2472 : (Jvm.Cond.static ({ cls := "ArcRecorder", name := "isName", desc := "(Ljava/lang/String;)Z" } : Jvm.MethodName)) ∈ lw_all := lw_g (lw_at lw_m10 170 rfl) rfl
theorem q2473 : (Jvm.Cond.code ({ cls := "ArcRecorder", name := "isName", desc := "(Ljava/lang/String;)Z" } : Jvm.MethodName) prog_1_method_50_code (3 : Nat) (Option.some Jvm.ClassFile.FieldType.boolean)) ∈ lw_all := lw_g (lw_at lw_m10 171 rfl) rfl
theorem q2474 : (Jvm.Cond.methodLink "ArcRecorder" (388 : Nat) ({ cls := "java/lang/String", name := "length", desc := "()I" } : Jvm.MethodName)) ∈ lw_all := lw_g (lw_at lw_m10 172 rfl) rfl
theorem q2475 : (Jvm.Cond.constantLong "ArcRecorder" (391 : Nat) (6 : Int64)) ∈ lw_all := lw_g (lw_at lw_m10 173 rfl) rfl
theorem q2476 : (Jvm.Cond.methodLink "ArcRecorder" (393 : Nat) ({ cls := "ArcRecorder", name := "isKeyword", desc := "(Ljava/lang/String;)Z" } : Jvm.MethodName)) ∈ lw_all := lw_g (lw_at lw_m10 174 rfl) rfl
theorem q2477 : (Jvm.Cond.methodLink "ArcRecorder" (397 : Nat) ({ cls := "java/lang/String", name := "charAt", desc := "(I)C" } : Jvm.MethodName)) ∈ lw_all := lw_g (lw_at lw_m10 175 rfl) rfl
theorem q2488 : (Jvm.Cond.constantLong "ArcRecorder" (401 : Nat) (97 : Int64)) ∈ lw_all := lw_g (lw_at lw_m10 186 rfl) rfl
theorem q2489 : (Jvm.Cond.constantLong "ArcRecorder" (403 : Nat) (122 : Int64)) ∈ lw_all := lw_g (lw_at lw_m10 187 rfl) rfl
theorem q2490 : (Jvm.Cond.methodLink "ArcRecorder" (408 : Nat) ({ cls := "ArcRecorder$Pattern", name := "<init>", desc := "(Ljava/lang/String;Z)V" } : Jvm.MethodName)) ∈ lw_all := lw_g (lw_at lw_m10 188 rfl) rfl
theorem q2491 : (Jvm.Cond.classLink "ArcRecorder" (414 : Nat) "ArcRecorder$Test") ∈ lw_all := lw_g (lw_at lw_m10 189 rfl) rfl
theorem q2492 : (Jvm.Cond.methodLink "ArcRecorder" (416 : Nat) ({ cls := "ArcRecorder$Test", name := "<init>", desc := "(IZI)V" } : Jvm.MethodName)) ∈ lw_all := lw_g (lw_at lw_m10 190 rfl) rfl
theorem q2493 : (Jvm.Cond.methodLink "ArcRecorder" (419 : Nat) ({ cls := "java/util/ArrayList", name := "add", desc := "(Ljava/lang/Object;)Z" } : Jvm.MethodName)) ∈ lw_all := lw_g (lw_at lw_m10 191 rfl) rfl
theorem q2494 : (Jvm.Cond.methodLink "ArcRecorder" (422 : Nat) ({ cls := "ArcRecorder$Nuisance", name := "<init>", desc := "(LArcRecorder$Pattern;I)V" } : Jvm.MethodName)) ∈ lw_all := lw_g (lw_at lw_m10 192 rfl) rfl
theorem q2499 : (Jvm.Cond.instanceMethod ({ cls := "ArcRecorder", name := "forget", desc := "(I)I" } : Jvm.MethodName)) ∈ lw_all := lw_g (lw_at lw_m10 197 rfl) rfl
theorem q2500 : (Jvm.Cond.selects "ArcRecorder" ({ cls := "ArcRecorder", name := "forget", desc := "(I)I" } : Jvm.MethodName) ({ cls := "ArcRecorder", name := "forget", desc := "(I)I" } : Jvm.MethodName)) ∈ lw_all := lw_g (lw_at lw_m10 198 rfl) rfl
theorem q2501 : (Jvm.Cond.code ({ cls := "ArcRecorder", name := "forget", desc := "(I)I" } : Jvm.MethodName) prog_1_method_52_code (6 : Nat) (Option.some Jvm.ClassFile.FieldType.int)) ∈ lw_all := lw_g (lw_at lw_m10 199 rfl) rfl
theorem q2502 : (Jvm.Cond.methodLink "ArcRecorder" (425 : Nat) ({ cls := "java/util/ArrayList", name := "remove", desc := "(I)Ljava/lang/Object;" } : Jvm.MethodName)) ∈ lw_all := lw_g (lw_at lw_m10 200 rfl) rfl
theorem q2515 : (Jvm.Cond.instanceMethod ({ cls := "ArcRecorder", name := "setLimits", desc := "(II)I" } : Jvm.MethodName)) ∈ lw_all := lw_g (lw_at lw_m10 213 rfl) rfl
theorem q2516 : (Jvm.Cond.selects "ArcRecorder" ({ cls := "ArcRecorder", name := "setLimits", desc := "(II)I" } : Jvm.MethodName) ({ cls := "ArcRecorder", name := "setLimits", desc := "(II)I" } : Jvm.MethodName)) ∈ lw_all := lw_g (lw_at lw_m10 214 rfl) rfl
theorem q2517 : (Jvm.Cond.code ({ cls := "ArcRecorder", name := "setLimits", desc := "(II)I" } : Jvm.MethodName) prog_1_method_53_code (4 : Nat) (Option.some Jvm.ClassFile.FieldType.int)) ∈ lw_all := lw_g (lw_at lw_m10 215 rfl) rfl
theorem q2518 : (Jvm.Cond.constantLong "ArcRecorder" (428 : Nat) (64 : Int64)) ∈ lw_all := lw_g (lw_at lw_m10 216 rfl) rfl
theorem q2523 : (Jvm.Cond.instanceMethod ({ cls := "ArcRecorder", name := "reset", desc := "(I)I" } : Jvm.MethodName)) ∈ lw_all := lw_g (lw_at lw_m10 221 rfl) rfl
theorem q2524 : (Jvm.Cond.selects "ArcRecorder" ({ cls := "ArcRecorder", name := "reset", desc := "(I)I" } : Jvm.MethodName) ({ cls := "ArcRecorder", name := "reset", desc := "(I)I" } : Jvm.MethodName)) ∈ lw_all := lw_g (lw_at lw_m10 222 rfl) rfl
theorem q2525 : (Jvm.Cond.code ({ cls := "ArcRecorder", name := "reset", desc := "(I)I" } : Jvm.MethodName) prog_1_method_54_code (3 : Nat) (Option.some Jvm.ClassFile.FieldType.int)) ∈ lw_all := lw_g (lw_at lw_m10 223 rfl) rfl
theorem q2530 : (Jvm.Cond.instanceMethod ({ cls := "ArcRecorder", name := "service", desc := "(I)I" } : Jvm.MethodName)) ∈ lw_all := lw_g (lw_at lw_m10 228 rfl) rfl
theorem q2531 : (Jvm.Cond.selects "ArcRecorder" ({ cls := "ArcRecorder", name := "service", desc := "(I)I" } : Jvm.MethodName) ({ cls := "ArcRecorder", name := "service", desc := "(I)I" } : Jvm.MethodName)) ∈ lw_all := lw_g (lw_at lw_m10 229 rfl) rfl
theorem q2532 : (Jvm.Cond.code ({ cls := "ArcRecorder", name := "service", desc := "(I)I" } : Jvm.MethodName) prog_1_method_55_code (4 : Nat) (Option.some Jvm.ClassFile.FieldType.int)) ∈ lw_all := lw_g (lw_at lw_m10 230 rfl) rfl
theorem q2537 : (Jvm.Cond.instanceMethod ({ cls := "ArcRecorder", name := "test", desc := "(I)I" } : Jvm.MethodName)) ∈ lw_all := lw_g (lw_at lw_m10 235 rfl) rfl
theorem q2538 : (Jvm.Cond.selects "ArcRecorder" ({ cls := "ArcRecorder", name := "test", desc := "(I)I" } : Jvm.MethodName) ({ cls := "ArcRecorder", name := "test", desc := "(I)I" } : Jvm.MethodName)) ∈ lw_all := lw_g (lw_at lw_m10 236 rfl) rfl
theorem q2539 : (Jvm.Cond.code ({ cls := "ArcRecorder", name := "test", desc := "(I)I" } : Jvm.MethodName) prog_1_method_56_code (2 : Nat) (Option.some Jvm.ClassFile.FieldType.int)) ∈ lw_all := lw_g (lw_at lw_m10 237 rfl) rfl
theorem q2540 : (Jvm.Cond.methodLink "ArcRecorder" (436 : Nat) ({ cls := "ArcRecorder", name := "margin", desc := "(I)I" } : Jvm.MethodName)) ∈ lw_all := lw_g (lw_at lw_m10 238 rfl) rfl
theorem q2545 : (Jvm.Cond.instanceMethod ({ cls := "ArcRecorder", name := "isTested", desc := "(I)Z" } : Jvm.MethodName)) ∈ lw_all := lw_g (lw_at lw_m11 3 rfl) rfl
theorem q2546 : (Jvm.Cond.selects "ArcRecorder" ({ cls := "ArcRecorder", name := "isTested", desc := "(I)Z" } : Jvm.MethodName) ({ cls := "ArcRecorder", name := "isTested", desc := "(I)Z" } : Jvm.MethodName)) ∈ lw_all := lw_g (lw_at lw_m11 4 rfl) rfl
theorem q2547 : (Jvm.Cond.code ({ cls := "ArcRecorder", name := "isTested", desc := "(I)Z" } : Jvm.MethodName) prog_1_method_57_code (2 : Nat) (Option.some Jvm.ClassFile.FieldType.boolean)) ∈ lw_all := lw_g (lw_at lw_m11 5 rfl) rfl
theorem q2552 : (Jvm.Cond.instanceMethod ({ cls := "ArcRecorder", name := "trips", desc := "(I)I" } : Jvm.MethodName)) ∈ lw_all := lw_g (lw_at lw_m11 10 rfl) rfl
theorem q2553 : (Jvm.Cond.selects "ArcRecorder" ({ cls := "ArcRecorder", name := "trips", desc := "(I)I" } : Jvm.MethodName) ({ cls := "ArcRecorder", name := "trips", desc := "(I)I" } : Jvm.MethodName)) ∈ lw_all := lw_g (lw_at lw_m11 11 rfl) rfl
theorem q2554 : (Jvm.Cond.code ({ cls := "ArcRecorder", name := "trips", desc := "(I)I" } : Jvm.MethodName) prog_1_method_59_code (2 : Nat) (Option.some Jvm.ClassFile.FieldType.int)) ∈ lw_all := lw_g (lw_at lw_m11 12 rfl) rfl
theorem q2559 : (Jvm.Cond.instanceMethod ({ cls := "ArcRecorder", name := "memory", desc := "(II)I" } : Jvm.MethodName)) ∈ lw_all := lw_g (lw_at lw_m11 17 rfl) rfl
theorem q2560 : (Jvm.Cond.selects "ArcRecorder" ({ cls := "ArcRecorder", name := "memory", desc := "(II)I" } : Jvm.MethodName) ({ cls := "ArcRecorder", name := "memory", desc := "(II)I" } : Jvm.MethodName)) ∈ lw_all := lw_g (lw_at lw_m11 18 rfl) rfl
theorem q2561 : (Jvm.Cond.code ({ cls := "ArcRecorder", name := "memory", desc := "(II)I" } : Jvm.MethodName) prog_1_method_62_code (4 : Nat) (Option.some Jvm.ClassFile.FieldType.int)) ∈ lw_all := lw_g (lw_at lw_m11 19 rfl) rfl
theorem q2562 : (Jvm.Cond.methodLink "ArcRecorder" (450 : Nat) ({ cls := "ArcRecorder", name := "tripAt", desc := "(I)LArcRecorder$Trip;" } : Jvm.MethodName)) ∈ lw_all := lw_g (lw_at lw_m11 20 rfl) rfl
theorem q2563 : (Jvm.Cond.privateMethod ({ cls := "ArcRecorder", name := "tripAt", desc := "(I)LArcRecorder$Trip;" } : Jvm.MethodName)) ∈ lw_tbl := lw_at lw_m11 21 rfl
theorem q2564 : (Jvm.Cond.instanceMethod ({ cls := "ArcRecorder", name := "tripAt", desc := "(I)LArcRecorder$Trip;" } : Jvm.MethodName)) ∈ lw_all := lw_g (lw_at lw_m11 22 rfl) rfl
theorem q2565 : (Jvm.Cond.code ({ cls := "ArcRecorder", name := "tripAt", desc := "(I)LArcRecorder$Trip;" } : Jvm.MethodName) prog_1_method_61_code (5 : Nat) (Option.some (Jvm.ClassFile.FieldType.object "ArcRecorder$Trip"))) ∈ lw_all := lw_g (lw_at lw_m11 23 rfl) rfl
theorem q2566 : (Jvm.Cond.methodLink "ArcRecorder" (447 : Nat) ({ cls := "java/util/ArrayDeque", name := "iterator", desc := "()Ljava/util/Iterator;" } : Jvm.MethodName)) ∈ lw_all := lw_g (lw_at lw_m11 24 rfl) rfl
theorem q2567 : (Jvm.Cond.classLink "ArcRecorder" (448 : Nat) "ArcRecorder$Trip") ∈ lw_all := lw_g (lw_at lw_m11 25 rfl) rfl
theorem q2572 : (Jvm.Cond.instanceMethod ({ cls := "ArcRecorder", name := "named", desc := "(II)I" } : Jvm.MethodName)) ∈ lw_all := lw_g (lw_at lw_m11 30 rfl) rfl
theorem q2573 : (Jvm.Cond.selects "ArcRecorder" ({ cls := "ArcRecorder", name := "named", desc := "(II)I" } : Jvm.MethodName) ({ cls := "ArcRecorder", name := "named", desc := "(II)I" } : Jvm.MethodName)) ∈ lw_all := lw_g (lw_at lw_m11 31 rfl) rfl
theorem q2574 : (Jvm.Cond.code ({ cls := "ArcRecorder", name := "named", desc := "(II)I" } : Jvm.MethodName) prog_1_method_63_code (4 : Nat) (Option.some Jvm.ClassFile.FieldType.int)) ∈ lw_all := lw_g (lw_at lw_m11 32 rfl) rfl
theorem q2579 : (Jvm.Cond.instanceMethod ({ cls := "ArcRecorder", name := "peakOf", desc := "(I)F" } : Jvm.MethodName)) ∈ lw_all := lw_g (lw_at lw_m11 37 rfl) rfl
theorem q2580 : (Jvm.Cond.selects "ArcRecorder" ({ cls := "ArcRecorder", name := "peakOf", desc := "(I)F" } : Jvm.MethodName) ({ cls := "ArcRecorder", name := "peakOf", desc := "(I)F" } : Jvm.MethodName)) ∈ lw_all := lw_g (lw_at lw_m11 38 rfl) rfl
theorem q2581 : (Jvm.Cond.code ({ cls := "ArcRecorder", name := "peakOf", desc := "(I)F" } : Jvm.MethodName) prog_1_method_64_code (2 : Nat) (Option.some Jvm.ClassFile.FieldType.float)) ∈ lw_all := lw_g (lw_at lw_m11 39 rfl) rfl
theorem q2586 : (Jvm.Cond.instanceMethod ({ cls := "ArcRecorder", name := "tripIn", desc := "(I)I" } : Jvm.MethodName)) ∈ lw_all := lw_g (lw_at lw_m11 44 rfl) rfl
theorem q2587 : (Jvm.Cond.selects "ArcRecorder" ({ cls := "ArcRecorder", name := "tripIn", desc := "(I)I" } : Jvm.MethodName) ({ cls := "ArcRecorder", name := "tripIn", desc := "(I)I" } : Jvm.MethodName)) ∈ lw_all := lw_g (lw_at lw_m11 45 rfl) rfl
theorem q2588 : (Jvm.Cond.code ({ cls := "ArcRecorder", name := "tripIn", desc := "(I)I" } : Jvm.MethodName) prog_1_method_66_code (2 : Nat) (Option.some Jvm.ClassFile.FieldType.int)) ∈ lw_all := lw_g (lw_at lw_m11 46 rfl) rfl
theorem q2589 : (Jvm.Cond.methodLink "ArcRecorder" (470 : Nat) ({ cls := "ArcRecorder$State", name := "tripIn", desc := "(II)I" } : Jvm.MethodName)) ∈ lw_all := lw_g (lw_at lw_m11 47 rfl) rfl
theorem q2598 : (Jvm.Cond.instanceMethod ({ cls := "ArcRecorder", name := "tripping", desc := "(I)I" } : Jvm.MethodName)) ∈ lw_all := lw_g (lw_at lw_m11 56 rfl) rfl
theorem q2599 : (Jvm.Cond.selects "ArcRecorder" ({ cls := "ArcRecorder", name := "tripping", desc := "(I)I" } : Jvm.MethodName) ({ cls := "ArcRecorder", name := "tripping", desc := "(I)I" } : Jvm.MethodName)) ∈ lw_all := lw_g (lw_at lw_m11 57 rfl) rfl
theorem q2600 : (Jvm.Cond.code ({ cls := "ArcRecorder", name := "tripping", desc := "(I)I" } : Jvm.MethodName) prog_1_method_67_code (5 : Nat) (Option.some Jvm.ClassFile.FieldType.int)) ∈ lw_all := lw_g (lw_at lw_m11 58 rfl) rfl
theorem q2605 : (Jvm.Cond.instanceMethod ({ cls := "ArcRecorder", name := "featureAfter", desc := "(III)F" } : Jvm.MethodName)) ∈ lw_all := lw_g (lw_at lw_m11 63 rfl) rfl
theorem q2606 : (Jvm.Cond.selects "ArcRecorder" ({ cls := "ArcRecorder", name := "featureAfter", desc := "(III)F" } : Jvm.MethodName) ({ cls := "ArcRecorder", name := "featureAfter", desc := "(III)F" } : Jvm.MethodName)) ∈ lw_all := lw_g (lw_at lw_m11 64 rfl) rfl
theorem q2607 : (Jvm.Cond.code ({ cls := "ArcRecorder", name := "featureAfter", desc := "(III)F" } : Jvm.MethodName) prog_1_method_68_code (6 : Nat) (Option.some Jvm.ClassFile.FieldType.float)) ∈ lw_all := lw_g (lw_at lw_m11 65 rfl) rfl
theorem q2612 : (Jvm.Cond.instanceMethod ({ cls := "ArcRecorder", name := "culprit", desc := "(I)I" } : Jvm.MethodName)) ∈ lw_all := lw_g (lw_at lw_m11 70 rfl) rfl
theorem q2613 : (Jvm.Cond.selects "ArcRecorder" ({ cls := "ArcRecorder", name := "culprit", desc := "(I)I" } : Jvm.MethodName) ({ cls := "ArcRecorder", name := "culprit", desc := "(I)I" } : Jvm.MethodName)) ∈ lw_all := lw_g (lw_at lw_m11 71 rfl) rfl
theorem q2614 : (Jvm.Cond.code ({ cls := "ArcRecorder", name := "culprit", desc := "(I)I" } : Jvm.MethodName) prog_1_method_69_code (4 : Nat) (Option.some Jvm.ClassFile.FieldType.int)) ∈ lw_all := lw_g (lw_at lw_m11 72 rfl) rfl
theorem q2619 : (Jvm.Cond.instanceMethod ({ cls := "ArcRecorder", name := "hitsAhead", desc := "(I)I" } : Jvm.MethodName)) ∈ lw_all := lw_g (lw_at lw_m11 77 rfl) rfl
theorem q2620 : (Jvm.Cond.selects "ArcRecorder" ({ cls := "ArcRecorder", name := "hitsAhead", desc := "(I)I" } : Jvm.MethodName) ({ cls := "ArcRecorder", name := "hitsAhead", desc := "(I)I" } : Jvm.MethodName)) ∈ lw_all := lw_g (lw_at lw_m11 78 rfl) rfl
theorem q2621 : (Jvm.Cond.code ({ cls := "ArcRecorder", name := "hitsAhead", desc := "(I)I" } : Jvm.MethodName) prog_1_method_70_code (5 : Nat) (Option.some Jvm.ClassFile.FieldType.int)) ∈ lw_all := lw_g (lw_at lw_m11 79 rfl) rfl
theorem q2626 : (Jvm.Cond.instanceMethod ({ cls := "ArcRecorder", name := "largestCount", desc := "(I)I" } : Jvm.MethodName)) ∈ lw_all := lw_g (lw_at lw_m11 84 rfl) rfl
theorem q2627 : (Jvm.Cond.selects "ArcRecorder" ({ cls := "ArcRecorder", name := "largestCount", desc := "(I)I" } : Jvm.MethodName) ({ cls := "ArcRecorder", name := "largestCount", desc := "(I)I" } : Jvm.MethodName)) ∈ lw_all := lw_g (lw_at lw_m11 85 rfl) rfl
theorem q2628 : (Jvm.Cond.code ({ cls := "ArcRecorder", name := "largestCount", desc := "(I)I" } : Jvm.MethodName) prog_1_method_71_code (4 : Nat) (Option.some Jvm.ClassFile.FieldType.int)) ∈ lw_all := lw_g (lw_at lw_m11 86 rfl) rfl
theorem q2633 : (Jvm.Cond.instanceMethod ({ cls := "ArcRecorder", name := "loadSample", desc := "(II)F" } : Jvm.MethodName)) ∈ lw_all := lw_g (lw_at lw_m11 91 rfl) rfl
theorem q2634 : (Jvm.Cond.selects "ArcRecorder" ({ cls := "ArcRecorder", name := "loadSample", desc := "(II)F" } : Jvm.MethodName) ({ cls := "ArcRecorder", name := "loadSample", desc := "(II)F" } : Jvm.MethodName)) ∈ lw_all := lw_g (lw_at lw_m11 92 rfl) rfl
theorem q2635 : (Jvm.Cond.code ({ cls := "ArcRecorder", name := "loadSample", desc := "(II)F" } : Jvm.MethodName) prog_1_method_73_code (4 : Nat) (Option.some Jvm.ClassFile.FieldType.float)) ∈ lw_all := lw_g (lw_at lw_m11 93 rfl) rfl
theorem q2636 : (Jvm.Cond.methodLink "ArcRecorder" (476 : Nat) ({ cls := "ArcRecorder$Load", name := "at", desc := "([FIIF)F" } : Jvm.MethodName)) ∈ lw_all := lw_g (lw_at lw_m11 94 rfl) rfl
theorem q2641 : (Jvm.Cond.instanceMethod ({ cls := "ArcRecorder", name := "undo", desc := "()I" } : Jvm.MethodName)) ∈ lw_all := lw_g (lw_at lw_m11 99 rfl) rfl
theorem q2642 : (Jvm.Cond.selects "ArcRecorder" ({ cls := "ArcRecorder", name := "undo", desc := "()I" } : Jvm.MethodName) ({ cls := "ArcRecorder", name := "undo", desc := "()I" } : Jvm.MethodName)) ∈ lw_all := lw_g (lw_at lw_m11 100 rfl) rfl
theorem q2643 : (Jvm.Cond.code ({ cls := "ArcRecorder", name := "undo", desc := "()I" } : Jvm.MethodName) prog_1_method_74_code (1 : Nat) (Option.some Jvm.ClassFile.FieldType.int)) ∈ lw_all := lw_g (lw_at lw_m11 101 rfl) rfl
theorem q2644 : (Jvm.Cond.methodLink "ArcRecorder" (479 : Nat) ({ cls := "java/util/ArrayDeque", name := "isEmpty", desc := "()Z" } : Jvm.MethodName)) ∈ lw_all := lw_g (lw_at lw_m11 102 rfl) rfl
theorem q2648 : (Jvm.Cond.methodLink "ArcRecorder" (482 : Nat) ({ cls := "java/util/ArrayDeque", name := "removeLast", desc := "()Ljava/lang/Object;" } : Jvm.MethodName)) ∈ lw_all := lw_g (lw_at lw_m11 106 rfl) rfl
theorem q2663 : (Jvm.Cond.instanceMethod ({ cls := "ArcRecorder", name := "writeTrip", desc := "(I)I" } : Jvm.MethodName)) ∈ lw_all := lw_g (lw_at lw_m11 121 rfl) rfl
theorem q2664 : (Jvm.Cond.selects "ArcRecorder" ({ cls := "ArcRecorder", name := "writeTrip", desc := "(I)I" } : Jvm.MethodName) ({ cls := "ArcRecorder", name := "writeTrip", desc := "(I)I" } : Jvm.MethodName)) ∈ lw_all := lw_g (lw_at lw_m11 122 rfl) rfl
theorem q2665 : (Jvm.Cond.code ({ cls := "ArcRecorder", name := "writeTrip", desc := "(I)I" } : Jvm.MethodName) prog_1_method_76_code (4 : Nat) (Option.some Jvm.ClassFile.FieldType.int)) ∈ lw_all := lw_g (lw_at lw_m11 123 rfl) rfl
theorem q2666 : (Jvm.Cond.methodLink "ArcRecorder" (485 : Nat) ({ cls := "java/lang/StringBuilder", name := "setLength", desc := "(I)V" } : Jvm.MethodName)) ∈ lw_all := lw_g (lw_at lw_m11 124 rfl) rfl
theorem q2718 : (Jvm.Cond.classLink "ArcRecorder" (17 : Nat) "java/lang/String") ∈ lw_all := lw_g (lw_at lw_m11 176 rfl) rfl
theorem q2719 : (Jvm.Cond.methodLink "ArcRecorder" (489 : Nat) ({ cls := "java/lang/StringBuilder", name := "append", desc := "(Ljava/lang/String;)Ljava/lang/StringBuilder;" } : Jvm.MethodName)) ∈ lw_all := lw_g (lw_at lw_m11 177 rfl) rfl
theorem q2720 : (Jvm.Cond.methodLink "ArcRecorder" (492 : Nat) ({ cls := "java/lang/StringBuilder", name := "append", desc := "(I)Ljava/lang/StringBuilder;" } : Jvm.MethodName)) ∈ lw_all := lw_g (lw_at lw_m11 178 rfl) rfl
theorem q2721 : (Jvm.Cond.methodLink "ArcRecorder" (495 : Nat) ({ cls := "java/lang/StringBuilder", name := "length", desc := "()I" } : Jvm.MethodName)) ∈ lw_all := lw_g (lw_at lw_m11 179 rfl) rfl
theorem q2726 : (Jvm.Cond.instanceMethod ({ cls := "ArcRecorder", name := "outputByte", desc := "(I)I" } : Jvm.MethodName)) ∈ lw_all := lw_g (lw_at lw_m11 184 rfl) rfl
theorem q2727 : (Jvm.Cond.selects "ArcRecorder" ({ cls := "ArcRecorder", name := "outputByte", desc := "(I)I" } : Jvm.MethodName) ({ cls := "ArcRecorder", name := "outputByte", desc := "(I)I" } : Jvm.MethodName)) ∈ lw_all := lw_g (lw_at lw_m11 185 rfl) rfl
theorem q2728 : (Jvm.Cond.code ({ cls := "ArcRecorder", name := "outputByte", desc := "(I)I" } : Jvm.MethodName) prog_1_method_77_code (2 : Nat) (Option.some Jvm.ClassFile.FieldType.int)) ∈ lw_all := lw_g (lw_at lw_m11 186 rfl) rfl
theorem q2729 : (Jvm.Cond.methodLink "ArcRecorder" (496 : Nat) ({ cls := "java/lang/StringBuilder", name := "charAt", desc := "(I)C" } : Jvm.MethodName)) ∈ lw_all := lw_g (lw_at lw_m11 187 rfl) rfl
theorem q3478 : (Jvm.Cond.castable "ArcRecorder" "java/lang/Object") ∈ lw_tbl := lw_at lw_m14 216 rfl
theorem in_X1 : ∀ w ∈ wsX10, w ∈ lw_all := lw_in wsX10 [886, 888, 890, 892, 894, 896, 898] (by decide +kernel) (by decide +kernel)
/-! X2.ArcRecorder_State -/
def RX2 : String := "ArcRecorder$State"
def TX2 : u_T := fun k => match k with
  | 0 => ("ArcRecorder$State", "plant", "LArcRecorder$Plant;", true)
  | 1 => ("ArcRecorder$State", "branches", "Ljava/util/ArrayList;", true)
  | 2 => ("ArcRecorder$State", "nuisances", "Ljava/util/ArrayList;", true)
  | 3 => ("ArcRecorder$State", "switches", "Ljava/util/LinkedList;", true)
  | 4 => ("ArcRecorder$State", "memory", "Ljava/util/ArrayDeque;", true)
  | 5 => ("ArcRecorder$State", "on", "[Z", true)
  | 6 => ("ArcRecorder$State", "hits", "[I", true)
  | 7 => ("ArcRecorder$State", "starts", "[I", true)
  | 8 => ("ArcRecorder$State", "parts", "[F", true)
  | 9 => ("ArcRecorder$State", "features", "[LArcRecorder$Feature;", true)
  | 10 => ("ArcRecorder$State", "window", "I", false)
  | 11 => ("ArcRecorder$State", "count", "I", false)
  | 12 => ("ArcRecorder$State", "time", "I", false)
  | _ => ("ArcRecorder$State", "x", "J", false)
def tyX2 : Nat → FieldType := fun k => match k with
  | 0 => .object "ArcRecorder$Plant"
  | 1 => .object "java/util/ArrayList"
  | 2 => .object "java/util/ArrayList"
  | 3 => .object "java/util/LinkedList"
  | 4 => .object "java/util/ArrayDeque"
  | 5 => .array .boolean
  | 6 => .array .int
  | 7 => .array .int
  | 8 => .array .float
  | 9 => .array (.object "ArcRecorder$Feature")
  | 10 => .int
  | 11 => .int
  | 12 => .int
  | _ => .long
abbrev wsX20 : List Cond := u_ws RX2 TX2 14
theorem nmX2 : ∀ a, a < 14 → ∀ b, b < 14 → a ≠ b → (TX2 a).2.1 ≠ (TX2 b).2.1 := by decide +kernel
theorem tyX2_ok : ∀ k, k < 14 → parseFieldDescriptor (TX2 k).2.2.1 = some (tyX2 k) := by decide +kernel
abbrev cX2_init : ByteArray := prog_20_method_1_code
def yX2_init : MethodName := ⟨RX2, "<init>", "(LArcRecorder$Plant;)V"⟩
abbrev cX2_find : ByteArray := prog_20_method_15_code
def yX2_find : MethodName := ⟨RX2, "find", "(Ljava/lang/String;)I"⟩
abbrev cX2_findNuisance : ByteArray := prog_20_method_14_code
def yX2_findNuisance : MethodName := ⟨RX2, "findNuisance", "(Ljava/lang/String;)I"⟩
abbrev cX2_init_2 : ByteArray := prog_20_method_2_code
def yX2_init_2 : MethodName := ⟨RX2, "<init>", "(LArcRecorder$State;)V"⟩
abbrev cX2_step : ByteArray := prog_20_method_12_code
def yX2_step : MethodName := ⟨RX2, "step", "()I"⟩
abbrev cX2_doSwitches : ByteArray := prog_20_method_11_code
def yX2_doSwitches : MethodName := ⟨RX2, "doSwitches", "()V"⟩
abbrev cX2_drawArcs : ByteArray := prog_20_method_4_code
def yX2_drawArcs : MethodName := ⟨RX2, "drawArcs", "()V"⟩
abbrev cX2_draw : ByteArray := prog_20_method_3_code
def yX2_draw : MethodName := ⟨RX2, "draw", "()I"⟩
abbrev cX2_goOn : ByteArray := prog_20_method_9_code
def yX2_goOn : MethodName := ⟨RX2, "goOn", "(I)V"⟩
abbrev cX2_layRow : ByteArray := prog_20_method_5_code
def yX2_layRow : MethodName := ⟨RX2, "layRow", "(I)V"⟩
abbrev cX2_findFeatures : ByteArray := prog_20_method_6_code
def yX2_findFeatures : MethodName := ⟨RX2, "findFeatures", "(LArcRecorder$Branch;)V"⟩
abbrev cX2_match : ByteArray := prog_20_method_7_code
def yX2_match : MethodName := ⟨RX2, "match", "(LArcRecorder$Branch;)V"⟩
abbrev cX2_causeOf : ByteArray := prog_20_method_8_code
def yX2_causeOf : MethodName := ⟨RX2, "causeOf", "(LArcRecorder$Branch;)I"⟩
abbrev cX2_trip : ByteArray := prog_20_method_10_code
def yX2_trip : MethodName := ⟨RX2, "trip", "(III)V"⟩
abbrev cX2_tripIn : ByteArray := prog_20_method_13_code
def yX2_tripIn : MethodName := ⟨RX2, "tripIn", "(II)I"⟩
theorem q144 : (Jvm.Cond.initialized "ArcRecorder$State") ∈ lw_all := lw_g (lw_at lw_m1 2 rfl) rfl
theorem q209 : (Jvm.Cond.instantiable "ArcRecorder$State" (14 : Nat)) ∈ lw_all := lw_g (lw_at lw_m1 67 rfl) rfl
theorem q572 : (Jvm.Cond.fieldLinkNest "ArcRecorder$State" (88 : Nat) "ArcRecorder$Plant" "samples" "I" "ArcRecorder") ∈ lw_tbl := lw_at lw_m2 190 rfl
theorem q576 : (Jvm.Cond.fieldLinkNest "ArcRecorder$State" (70 : Nat) "ArcRecorder$Plant" "window" "I" "ArcRecorder") ∈ lw_tbl := lw_at lw_m2 194 rfl
theorem q579 : (Jvm.Cond.fieldLinkNest "ArcRecorder$State" (77 : Nat) "ArcRecorder$Plant" "count" "I" "ArcRecorder") ∈ lw_tbl := lw_at lw_m2 197 rfl
theorem q582 : (Jvm.Cond.fieldLinkNest "ArcRecorder$State" (183 : Nat) "ArcRecorder$Plant" "shape" "[F" "ArcRecorder") ∈ lw_tbl := lw_at lw_m2 200 rfl
theorem q585 : (Jvm.Cond.fieldLinkNest "ArcRecorder$State" (81 : Nat) "ArcRecorder$Plant" "branches" "Ljava/util/ArrayList;" "ArcRecorder") ∈ lw_tbl := lw_at lw_m2 203 rfl
theorem q589 : (Jvm.Cond.fieldLinkNest "ArcRecorder$State" (252 : Nat) "ArcRecorder$Plant" "rated" "[I" "ArcRecorder") ∈ lw_tbl := lw_at lw_m2 207 rfl
theorem q593 : (Jvm.Cond.fieldLinkNest "ArcRecorder$State" (157 : Nat) "ArcRecorder$Plant" "loads" "Ljava/util/ArrayList;" "ArcRecorder") ∈ lw_tbl := lw_at lw_m2 211 rfl
theorem q597 : (Jvm.Cond.fieldLinkNest "ArcRecorder$State" (207 : Nat) "ArcRecorder$Plant" "signatures" "Ljava/util/ArrayList;" "ArcRecorder") ∈ lw_tbl := lw_at lw_m2 215 rfl
theorem q619 : (Jvm.Cond.instanceMethod ({ cls := "ArcRecorder$State", name := "<init>", desc := "(LArcRecorder$Plant;)V" } : Jvm.MethodName)) ∈ lw_all := lw_g (lw_at lw_m2 237 rfl) rfl
theorem q620 : (Jvm.Cond.code ({ cls := "ArcRecorder$State", name := "<init>", desc := "(LArcRecorder$Plant;)V" } : Jvm.MethodName) prog_20_method_1_code (3 : Nat) (Option.none : Option Jvm.ClassFile.FieldType)) ∈ lw_all := lw_g (lw_at lw_m2 238 rfl) rfl
theorem q621 : (Jvm.Cond.methodLink "ArcRecorder$State" (3 : Nat) ({ cls := "java/lang/Object", name := "<init>", desc := "()V" } : Jvm.MethodName)) ∈ lw_all := lw_g (lw_at lw_m2 239 rfl) rfl
theorem q622 : (Jvm.Cond.classLink "ArcRecorder$State" (9 : Nat) "java/util/ArrayList") ∈ lw_all := lw_g (lw_at lw_m3 0 rfl) rfl
theorem q623 : (Jvm.Cond.methodLink "ArcRecorder$State" (11 : Nat) ({ cls := "java/util/ArrayList", name := "<init>", desc := "(I)V" } : Jvm.MethodName)) ∈ lw_all := lw_g (lw_at lw_m3 1 rfl) rfl
theorem q624 : (Jvm.Cond.classLink "ArcRecorder$State" (23 : Nat) "java/util/LinkedList") ∈ lw_all := lw_g (lw_at lw_m3 2 rfl) rfl
theorem q626 : (Jvm.Cond.methodLink "ArcRecorder$State" (25 : Nat) ({ cls := "java/util/LinkedList", name := "<init>", desc := "()V" } : Jvm.MethodName)) ∈ lw_all := lw_g (lw_at lw_m3 4 rfl) rfl
theorem q645 : (Jvm.Cond.classLink "ArcRecorder$State" (30 : Nat) "java/util/ArrayDeque") ∈ lw_all := lw_g (lw_at lw_m3 23 rfl) rfl
theorem q647 : (Jvm.Cond.methodLink "ArcRecorder$State" (32 : Nat) ({ cls := "java/util/ArrayDeque", name := "<init>", desc := "()V" } : Jvm.MethodName)) ∈ lw_all := lw_g (lw_at lw_m3 25 rfl) rfl
theorem q664 : (Jvm.Cond.methodLink "ArcRecorder$State" (52 : Nat) ({ cls := "ArcRecorder$Feature", name := "values", desc := "()[LArcRecorder$Feature;" } : Jvm.MethodName)) ∈ lw_all := lw_g (lw_at lw_m3 42 rfl) rfl
theorem q675 : (Jvm.Cond.methodLink "ArcRecorder$State" (82 : Nat) ({ cls := "java/util/ArrayList", name := "size", desc := "()I" } : Jvm.MethodName)) ∈ lw_all := lw_g (lw_at lw_m3 53 rfl) rfl
theorem q679 : (Jvm.Cond.classLink "ArcRecorder$State" (86 : Nat) "ArcRecorder$Branch") ∈ lw_all := lw_g (lw_at lw_m3 57 rfl) rfl
theorem q681 : (Jvm.Cond.methodLink "ArcRecorder$State" (91 : Nat) ({ cls := "ArcRecorder$Branch", name := "<init>", desc := "(I)V" } : Jvm.MethodName)) ∈ lw_all := lw_g (lw_at lw_m3 59 rfl) rfl
theorem q687 : (Jvm.Cond.fieldLinkNest "ArcRecorder$State" (180 : Nat) "ArcRecorder$Branch" "row" "[F" "ArcRecorder") ∈ lw_tbl := lw_at lw_m3 65 rfl
theorem q690 : (Jvm.Cond.fieldLinkNest "ArcRecorder$State" (190 : Nat) "ArcRecorder$Branch" "found" "[F" "ArcRecorder") ∈ lw_tbl := lw_at lw_m3 68 rfl
theorem q693 : (Jvm.Cond.fieldLinkNest "ArcRecorder$State" (167 : Nat) "ArcRecorder$Branch" "state" "I" "ArcRecorder") ∈ lw_tbl := lw_at lw_m3 71 rfl
theorem q696 : (Jvm.Cond.fieldLinkNest "ArcRecorder$State" (274 : Nat) "ArcRecorder$Branch" "trips" "I" "ArcRecorder") ∈ lw_tbl := lw_at lw_m3 74 rfl
theorem q699 : (Jvm.Cond.fieldLinkNest "ArcRecorder$State" (246 : Nat) "ArcRecorder$Branch" "since" "I" "ArcRecorder") ∈ lw_tbl := lw_at lw_m3 77 rfl
theorem q701 : (Jvm.Cond.fieldLinkNest "ArcRecorder$State" (201 : Nat) "ArcRecorder$Branch" "matched" "I" "ArcRecorder") ∈ lw_tbl := lw_at lw_m3 79 rfl
theorem q704 : (Jvm.Cond.fieldLinkNest "ArcRecorder$State" (204 : Nat) "ArcRecorder$Branch" "hidden" "I" "ArcRecorder") ∈ lw_tbl := lw_at lw_m3 82 rfl
theorem q707 : (Jvm.Cond.fieldLinkNest "ArcRecorder$State" (249 : Nat) "ArcRecorder$Branch" "halfWaves" "I" "ArcRecorder") ∈ lw_tbl := lw_at lw_m3 85 rfl
theorem q710 : (Jvm.Cond.fieldLinkNest "ArcRecorder$State" (243 : Nat) "ArcRecorder$Branch" "bits" "J" "ArcRecorder") ∈ lw_tbl := lw_at lw_m3 88 rfl
theorem q712 : (Jvm.Cond.fieldLinkNest "ArcRecorder$State" (237 : Nat) "ArcRecorder$Branch" "isTested" "Z" "ArcRecorder") ∈ lw_tbl := lw_at lw_m3 90 rfl
theorem q715 : (Jvm.Cond.fieldLinkNest "ArcRecorder$State" (240 : Nat) "ArcRecorder$Branch" "isSuspect" "Z" "ArcRecorder") ∈ lw_tbl := lw_at lw_m3 93 rfl
theorem q718 : (Jvm.Cond.fieldLinkNest "ArcRecorder$State" (193 : Nat) "ArcRecorder$Branch" "before" "F" "ArcRecorder") ∈ lw_tbl := lw_at lw_m3 96 rfl
theorem q745 : (Jvm.Cond.methodLink "ArcRecorder$State" (92 : Nat) ({ cls := "java/util/ArrayList", name := "add", desc := "(Ljava/lang/Object;)Z" } : Jvm.MethodName)) ∈ lw_all := lw_g (lw_at lw_m3 123 rfl) rfl
theorem q787 : (Jvm.Cond.selects "ArcRecorder$State" ({ cls := "java/lang/Object", name := "getClass", desc := "()Ljava/lang/Class;" } : Jvm.MethodName) ({ cls := "java/lang/Object", name := "getClass", desc := "()Ljava/lang/Class;" } : Jvm.MethodName)) ∈ lw_all := lw_g (lw_at lw_m3 165 rfl) rfl
theorem q817 : (Jvm.Cond.fieldLink "ArcRecorder$State" (66 : Nat) "ArcRecorder$State" "plant" "LArcRecorder$Plant;") ∈ lw_all := lw_g (lw_at lw_m3 195 rfl) rfl
theorem q819 : (Jvm.Cond.fieldLink "ArcRecorder$State" (14 : Nat) "ArcRecorder$State" "branches" "Ljava/util/ArrayList;") ∈ lw_all := lw_g (lw_at lw_m3 197 rfl) rfl
theorem q821 : (Jvm.Cond.fieldLink "ArcRecorder$State" (20 : Nat) "ArcRecorder$State" "nuisances" "Ljava/util/ArrayList;") ∈ lw_all := lw_g (lw_at lw_m3 199 rfl) rfl
theorem q824 : (Jvm.Cond.fieldLink "ArcRecorder$State" (26 : Nat) "ArcRecorder$State" "switches" "Ljava/util/LinkedList;") ∈ lw_all := lw_g (lw_at lw_m3 202 rfl) rfl
theorem q827 : (Jvm.Cond.fieldLink "ArcRecorder$State" (33 : Nat) "ArcRecorder$State" "memory" "Ljava/util/ArrayDeque;") ∈ lw_all := lw_g (lw_at lw_m3 205 rfl) rfl
theorem q829 : (Jvm.Cond.fieldLink "ArcRecorder$State" (37 : Nat) "ArcRecorder$State" "on" "[Z") ∈ lw_all := lw_g (lw_at lw_m3 207 rfl) rfl
theorem q831 : (Jvm.Cond.fieldLink "ArcRecorder$State" (41 : Nat) "ArcRecorder$State" "hits" "[I") ∈ lw_all := lw_g (lw_at lw_m3 209 rfl) rfl
theorem q833 : (Jvm.Cond.fieldLink "ArcRecorder$State" (45 : Nat) "ArcRecorder$State" "starts" "[I") ∈ lw_all := lw_g (lw_at lw_m3 211 rfl) rfl
theorem q834 : (Jvm.Cond.fieldLink "ArcRecorder$State" (48 : Nat) "ArcRecorder$State" "parts" "[F") ∈ lw_all := lw_g (lw_at lw_m3 212 rfl) rfl
theorem q835 : (Jvm.Cond.fieldLink "ArcRecorder$State" (58 : Nat) "ArcRecorder$State" "features" "[LArcRecorder$Feature;") ∈ lw_all := lw_g (lw_at lw_m3 213 rfl) rfl
theorem q836 : (Jvm.Cond.fieldLink "ArcRecorder$State" (76 : Nat) "ArcRecorder$State" "window" "I") ∈ lw_all := lw_g (lw_at lw_m3 214 rfl) rfl
theorem q838 : (Jvm.Cond.fieldLink "ArcRecorder$State" (80 : Nat) "ArcRecorder$State" "count" "I") ∈ lw_all := lw_g (lw_at lw_m3 216 rfl) rfl
theorem q840 : (Jvm.Cond.fieldLink "ArcRecorder$State" (144 : Nat) "ArcRecorder$State" "time" "I") ∈ lw_all := lw_g (lw_at lw_m3 218 rfl) rfl
theorem q842 : (Jvm.Cond.fieldLink "ArcRecorder$State" (62 : Nat) "ArcRecorder$State" "x" "J") ∈ lw_all := lw_g (lw_at lw_m3 220 rfl) rfl
theorem q844 : (Jvm.Cond.laysFinal "ArcRecorder$State" "ArcRecorder$State" "plant" "LArcRecorder$Plant;") ∈ lw_all := lw_g (lw_at lw_m3 222 rfl) rfl
theorem q845 : (Jvm.Cond.soleField "ArcRecorder$State" "plant") ∈ lw_all := lw_g (lw_at lw_m3 223 rfl) rfl
theorem q846 : (Jvm.Cond.laysFinal "ArcRecorder$State" "ArcRecorder$State" "branches" "Ljava/util/ArrayList;") ∈ lw_all := lw_g (lw_at lw_m3 224 rfl) rfl
theorem q847 : (Jvm.Cond.soleField "ArcRecorder$State" "branches") ∈ lw_all := lw_g (lw_at lw_m3 225 rfl) rfl
theorem q848 : (Jvm.Cond.laysFinal "ArcRecorder$State" "ArcRecorder$State" "nuisances" "Ljava/util/ArrayList;") ∈ lw_all := lw_g (lw_at lw_m3 226 rfl) rfl
theorem q849 : (Jvm.Cond.soleField "ArcRecorder$State" "nuisances") ∈ lw_all := lw_g (lw_at lw_m3 227 rfl) rfl
theorem q850 : (Jvm.Cond.laysFinal "ArcRecorder$State" "ArcRecorder$State" "switches" "Ljava/util/LinkedList;") ∈ lw_all := lw_g (lw_at lw_m3 228 rfl) rfl
theorem q851 : (Jvm.Cond.soleField "ArcRecorder$State" "switches") ∈ lw_all := lw_g (lw_at lw_m3 229 rfl) rfl
theorem q852 : (Jvm.Cond.laysFinal "ArcRecorder$State" "ArcRecorder$State" "memory" "Ljava/util/ArrayDeque;") ∈ lw_all := lw_g (lw_at lw_m3 230 rfl) rfl
theorem q853 : (Jvm.Cond.soleField "ArcRecorder$State" "memory") ∈ lw_all := lw_g (lw_at lw_m3 231 rfl) rfl
theorem q854 : (Jvm.Cond.laysFinal "ArcRecorder$State" "ArcRecorder$State" "on" "[Z") ∈ lw_all := lw_g (lw_at lw_m3 232 rfl) rfl
theorem q855 : (Jvm.Cond.soleField "ArcRecorder$State" "on") ∈ lw_all := lw_g (lw_at lw_m3 233 rfl) rfl
theorem q856 : (Jvm.Cond.laysFinal "ArcRecorder$State" "ArcRecorder$State" "hits" "[I") ∈ lw_all := lw_g (lw_at lw_m3 234 rfl) rfl
theorem q857 : (Jvm.Cond.soleField "ArcRecorder$State" "hits") ∈ lw_all := lw_g (lw_at lw_m3 235 rfl) rfl
theorem q858 : (Jvm.Cond.laysFinal "ArcRecorder$State" "ArcRecorder$State" "starts" "[I") ∈ lw_all := lw_g (lw_at lw_m3 236 rfl) rfl
theorem q859 : (Jvm.Cond.soleField "ArcRecorder$State" "starts") ∈ lw_all := lw_g (lw_at lw_m3 237 rfl) rfl
theorem q860 : (Jvm.Cond.laysFinal "ArcRecorder$State" "ArcRecorder$State" "parts" "[F") ∈ lw_all := lw_g (lw_at lw_m3 238 rfl) rfl
theorem q861 : (Jvm.Cond.soleField "ArcRecorder$State" "parts") ∈ lw_all := lw_g (lw_at lw_m3 239 rfl) rfl
theorem q862 : (Jvm.Cond.laysFinal "ArcRecorder$State" "ArcRecorder$State" "features" "[LArcRecorder$Feature;") ∈ lw_all := lw_g (lw_at lw_m4 0 rfl) rfl
theorem q863 : (Jvm.Cond.soleField "ArcRecorder$State" "features") ∈ lw_all := lw_g (lw_at lw_m4 1 rfl) rfl
theorem q864 : (Jvm.Cond.lays "ArcRecorder$State" "ArcRecorder$State" "window" "I") ∈ lw_all := lw_g (lw_at lw_m4 2 rfl) rfl
theorem q865 : (Jvm.Cond.soleField "ArcRecorder$State" "window") ∈ lw_all := lw_g (lw_at lw_m4 3 rfl) rfl
theorem q866 : (Jvm.Cond.lays "ArcRecorder$State" "ArcRecorder$State" "count" "I") ∈ lw_all := lw_g (lw_at lw_m4 4 rfl) rfl
theorem q867 : (Jvm.Cond.soleField "ArcRecorder$State" "count") ∈ lw_all := lw_g (lw_at lw_m4 5 rfl) rfl
theorem q868 : (Jvm.Cond.lays "ArcRecorder$State" "ArcRecorder$State" "time" "I") ∈ lw_all := lw_g (lw_at lw_m4 6 rfl) rfl
theorem q869 : (Jvm.Cond.soleField "ArcRecorder$State" "time") ∈ lw_all := lw_g (lw_at lw_m4 7 rfl) rfl
theorem q870 : (Jvm.Cond.lays "ArcRecorder$State" "ArcRecorder$State" "x" "J") ∈ lw_all := lw_g (lw_at lw_m4 8 rfl) rfl
theorem q871 : (Jvm.Cond.soleField "ArcRecorder$State" "x") ∈ lw_all := lw_g (lw_at lw_m4 9 rfl) rfl
theorem q872 : (Jvm.Cond.superclass "ArcRecorder$State" "java/lang/Object") ∈ lw_all := lw_g (lw_at lw_m4 10 rfl) rfl
theorem q1232 : (Jvm.Cond.selects "ArcRecorder$State" ({ cls := "java/lang/Object", name := "equals", desc := "(Ljava/lang/Object;)Z" } : Jvm.MethodName) ({ cls := "java/lang/Object", name := "equals", desc := "(Ljava/lang/Object;)Z" } : Jvm.MethodName)) ∈ lw_all := lw_g (lw_at lw_m5 130 rfl) rfl
theorem q1298 : (Jvm.Cond.fieldLinkNest "ArcRecorder$State" (164 : Nat) "ArcRecorder$Load" "branch" "I" "ArcRecorder") ∈ lw_tbl := lw_at lw_m5 196 rfl
theorem q1346 : (Jvm.Cond.fieldLinkNest "ArcRecorder$State" (176 : Nat) "ArcRecorder$Arc" "gap" "I" "ArcRecorder") ∈ lw_tbl := lw_at lw_m6 4 rfl
theorem q1348 : (Jvm.Cond.fieldLinkNest "ArcRecorder$State" (173 : Nat) "ArcRecorder$Arc" "out" "I" "ArcRecorder") ∈ lw_tbl := lw_at lw_m6 6 rfl
theorem q1382 : (Jvm.Cond.fieldLinkNest "ArcRecorder$State" (303 : Nat) "ArcRecorder$Pattern" "name" "Ljava/lang/String;" "ArcRecorder") ∈ lw_tbl := lw_at lw_m6 40 rfl
theorem q1384 : (Jvm.Cond.fieldLinkNest "ArcRecorder$State" (220 : Nat) "ArcRecorder$Pattern" "isAlways" "Z" "ArcRecorder") ∈ lw_tbl := lw_at lw_m6 42 rfl
theorem q1432 : (Jvm.Cond.fieldLinkNest "ArcRecorder$State" (105 : Nat) "ArcRecorder$Nuisance" "pattern" "LArcRecorder$Pattern;" "ArcRecorder") ∈ lw_tbl := lw_at lw_m6 90 rfl
theorem q1435 : (Jvm.Cond.fieldLinkNest "ArcRecorder$State" (109 : Nat) "ArcRecorder$Nuisance" "hits" "I" "ArcRecorder") ∈ lw_tbl := lw_at lw_m6 93 rfl
theorem q1455 : (Jvm.Cond.fieldLinkNest "ArcRecorder$State" (282 : Nat) "ArcRecorder$Switch" "time" "I" "ArcRecorder") ∈ lw_tbl := lw_at lw_m6 113 rfl
theorem q1458 : (Jvm.Cond.fieldLinkNest "ArcRecorder$State" (283 : Nat) "ArcRecorder$Switch" "load" "I" "ArcRecorder") ∈ lw_tbl := lw_at lw_m6 116 rfl
theorem q1461 : (Jvm.Cond.fieldLinkNest "ArcRecorder$State" (286 : Nat) "ArcRecorder$Switch" "on" "Z" "ArcRecorder") ∈ lw_tbl := lw_at lw_m6 119 rfl
theorem q1603 : (Jvm.Cond.instanceMethod ({ cls := "ArcRecorder$State", name := "find", desc := "(Ljava/lang/String;)I" } : Jvm.MethodName)) ∈ lw_all := lw_g (lw_at lw_m7 21 rfl) rfl
theorem q1604 : (Jvm.Cond.selects "ArcRecorder$State" ({ cls := "ArcRecorder$State", name := "find", desc := "(Ljava/lang/String;)I" } : Jvm.MethodName) ({ cls := "ArcRecorder$State", name := "find", desc := "(Ljava/lang/String;)I" } : Jvm.MethodName)) ∈ lw_all := lw_g (lw_at lw_m7 22 rfl) rfl
theorem q1605 : (Jvm.Cond.code ({ cls := "ArcRecorder$State", name := "find", desc := "(Ljava/lang/String;)I" } : Jvm.MethodName) prog_20_method_15_code (3 : Nat) (Option.some Jvm.ClassFile.FieldType.int)) ∈ lw_all := lw_g (lw_at lw_m7 23 rfl) rfl
theorem q1606 : (Jvm.Cond.methodLink "ArcRecorder$State" (312 : Nat) ({ cls := "java/util/ArrayList", name := "indexOf", desc := "(Ljava/lang/Object;)I" } : Jvm.MethodName)) ∈ lw_all := lw_g (lw_at lw_m7 24 rfl) rfl
theorem q1607 : (Jvm.Cond.methodLink "ArcRecorder$State" (316 : Nat) ({ cls := "ArcRecorder$Plant", name := "findLoad", desc := "(Ljava/lang/String;)I" } : Jvm.MethodName)) ∈ lw_all := lw_g (lw_at lw_m7 25 rfl) rfl
theorem q1608 : (Jvm.Cond.methodLink "ArcRecorder$State" (320 : Nat) ({ cls := "ArcRecorder$Plant", name := "findSignature", desc := "(Ljava/lang/String;)I" } : Jvm.MethodName)) ∈ lw_all := lw_g (lw_at lw_m7 26 rfl) rfl
theorem q1609 : (Jvm.Cond.methodLink "ArcRecorder$State" (323 : Nat) ({ cls := "ArcRecorder$State", name := "findNuisance", desc := "(Ljava/lang/String;)I" } : Jvm.MethodName)) ∈ lw_all := lw_g (lw_at lw_m7 27 rfl) rfl
theorem q1610 : (Jvm.Cond.instanceMethod ({ cls := "ArcRecorder$State", name := "findNuisance", desc := "(Ljava/lang/String;)I" } : Jvm.MethodName)) ∈ lw_all := lw_g (lw_at lw_m7 28 rfl) rfl
theorem q1611 : (Jvm.Cond.selects "ArcRecorder$State" ({ cls := "ArcRecorder$State", name := "findNuisance", desc := "(Ljava/lang/String;)I" } : Jvm.MethodName) ({ cls := "ArcRecorder$State", name := "findNuisance", desc := "(Ljava/lang/String;)I" } : Jvm.MethodName)) ∈ lw_all := lw_g (lw_at lw_m7 29 rfl) rfl
theorem q1612 : (Jvm.Cond.code ({ cls := "ArcRecorder$State", name := "findNuisance", desc := "(Ljava/lang/String;)I" } : Jvm.MethodName) prog_20_method_14_code (3 : Nat) (Option.some Jvm.ClassFile.FieldType.int)) ∈ lw_all := lw_g (lw_at lw_m7 30 rfl) rfl
theorem q1613 : (Jvm.Cond.methodLink "ArcRecorder$State" (96 : Nat) ({ cls := "java/util/ArrayList", name := "get", desc := "(I)Ljava/lang/Object;" } : Jvm.MethodName)) ∈ lw_all := lw_g (lw_at lw_m7 31 rfl) rfl
theorem q1614 : (Jvm.Cond.classLink "ArcRecorder$State" (103 : Nat) "ArcRecorder$Nuisance") ∈ lw_all := lw_g (lw_at lw_m7 32 rfl) rfl
theorem q1615 : (Jvm.Cond.methodLink "ArcRecorder$State" (307 : Nat) ({ cls := "java/lang/String", name := "equals", desc := "(Ljava/lang/Object;)Z" } : Jvm.MethodName)) ∈ lw_all := lw_g (lw_at lw_m7 33 rfl) rfl
theorem q1629 : (Jvm.Cond.instanceMethod ({ cls := "ArcRecorder$State", name := "<init>", desc := "(LArcRecorder$State;)V" } : Jvm.MethodName)) ∈ lw_all := lw_g (lw_at lw_m7 47 rfl) rfl
theorem q1630 : (Jvm.Cond.code ({ cls := "ArcRecorder$State", name := "<init>", desc := "(LArcRecorder$State;)V" } : Jvm.MethodName) prog_20_method_2_code (4 : Nat) (Option.none : Option Jvm.ClassFile.FieldType)) ∈ lw_all := lw_g (lw_at lw_m7 48 rfl) rfl
theorem q1631 : (Jvm.Cond.methodLink "ArcRecorder$State" (100 : Nat) ({ cls := "ArcRecorder$Branch", name := "<init>", desc := "(LArcRecorder$Branch;)V" } : Jvm.MethodName)) ∈ lw_all := lw_g (lw_at lw_m7 49 rfl) rfl
theorem q1639 : (Jvm.Cond.methodLink "ArcRecorder$State" (111 : Nat) ({ cls := "ArcRecorder$Nuisance", name := "<init>", desc := "(LArcRecorder$Pattern;I)V" } : Jvm.MethodName)) ∈ lw_all := lw_g (lw_at lw_m7 57 rfl) rfl
theorem q1640 : (Jvm.Cond.methodLink "ArcRecorder$State" (114 : Nat) ({ cls := "java/util/LinkedList", name := "iterator", desc := "()Ljava/util/Iterator;" } : Jvm.MethodName)) ∈ lw_all := lw_g (lw_at lw_m7 58 rfl) rfl
theorem q1761 : (Jvm.Cond.interfaceEntry "ArcRecorder$State" (118 : Nat)) ∈ lw_tbl := lw_at lw_m7 179 rfl
theorem q1762 : (Jvm.Cond.methodLink "ArcRecorder$State" (118 : Nat) ({ cls := "java/util/Iterator", name := "hasNext", desc := "()Z" } : Jvm.MethodName)) ∈ lw_all := lw_g (lw_at lw_m7 180 rfl) rfl
theorem q1796 : (Jvm.Cond.interfaceEntry "ArcRecorder$State" (124 : Nat)) ∈ lw_tbl := lw_at lw_m7 214 rfl
theorem q1797 : (Jvm.Cond.methodLink "ArcRecorder$State" (124 : Nat) ({ cls := "java/util/Iterator", name := "next", desc := "()Ljava/lang/Object;" } : Jvm.MethodName)) ∈ lw_all := lw_g (lw_at lw_m7 215 rfl) rfl
theorem q1913 : (Jvm.Cond.classLink "ArcRecorder$State" (128 : Nat) "ArcRecorder$Switch") ∈ lw_all := lw_g (lw_at lw_m8 91 rfl) rfl
theorem q1914 : (Jvm.Cond.methodLink "ArcRecorder$State" (130 : Nat) ({ cls := "java/util/LinkedList", name := "addLast", desc := "(Ljava/lang/Object;)V" } : Jvm.MethodName)) ∈ lw_all := lw_g (lw_at lw_m8 92 rfl) rfl
theorem q1915 : (Jvm.Cond.methodLink "ArcRecorder$State" (134 : Nat) ({ cls := "java/util/ArrayDeque", name := "iterator", desc := "()Ljava/util/Iterator;" } : Jvm.MethodName)) ∈ lw_all := lw_g (lw_at lw_m8 93 rfl) rfl
theorem q1939 : (Jvm.Cond.classLink "ArcRecorder$State" (135 : Nat) "ArcRecorder$Trip") ∈ lw_all := lw_g (lw_at lw_m8 117 rfl) rfl
theorem q1940 : (Jvm.Cond.methodLink "ArcRecorder$State" (137 : Nat) ({ cls := "java/util/ArrayDeque", name := "addLast", desc := "(Ljava/lang/Object;)V" } : Jvm.MethodName)) ∈ lw_all := lw_g (lw_at lw_m8 118 rfl) rfl
theorem q1941 : (Jvm.Cond.methodLink "ArcRecorder$State" (138 : Nat) ({ cls := "java/lang/System", name := "arraycopy", desc := "(Ljava/lang/Object;ILjava/lang/Object;II)V" } : Jvm.MethodName)) ∈ lw_all := lw_g (lw_at lw_m8 119 rfl) rfl
theorem q2167 : (Jvm.Cond.instanceMethod ({ cls := "ArcRecorder$State", name := "step", desc := "()I" } : Jvm.MethodName)) ∈ lw_all := lw_g (lw_at lw_m9 105 rfl) rfl
theorem q2168 : (Jvm.Cond.selects "ArcRecorder$State" ({ cls := "ArcRecorder$State", name := "step", desc := "()I" } : Jvm.MethodName) ({ cls := "ArcRecorder$State", name := "step", desc := "()I" } : Jvm.MethodName)) ∈ lw_all := lw_g (lw_at lw_m9 106 rfl) rfl
theorem q2169 : (Jvm.Cond.code ({ cls := "ArcRecorder$State", name := "step", desc := "()I" } : Jvm.MethodName) prog_20_method_12_code (3 : Nat) (Option.some Jvm.ClassFile.FieldType.int)) ∈ lw_all := lw_g (lw_at lw_m9 107 rfl) rfl
theorem q2170 : (Jvm.Cond.methodLink "ArcRecorder$State" (291 : Nat) ({ cls := "ArcRecorder$State", name := "doSwitches", desc := "()V" } : Jvm.MethodName)) ∈ lw_all := lw_g (lw_at lw_m9 108 rfl) rfl
theorem q2171 : (Jvm.Cond.privateMethod ({ cls := "ArcRecorder$State", name := "doSwitches", desc := "()V" } : Jvm.MethodName)) ∈ lw_tbl := lw_at lw_m9 109 rfl
theorem q2172 : (Jvm.Cond.instanceMethod ({ cls := "ArcRecorder$State", name := "doSwitches", desc := "()V" } : Jvm.MethodName)) ∈ lw_all := lw_g (lw_at lw_m9 110 rfl) rfl
theorem q2173 : (Jvm.Cond.code ({ cls := "ArcRecorder$State", name := "doSwitches", desc := "()V" } : Jvm.MethodName) prog_20_method_11_code (2 : Nat) (Option.none : Option Jvm.ClassFile.FieldType)) ∈ lw_all := lw_g (lw_at lw_m9 111 rfl) rfl
theorem q2174 : (Jvm.Cond.methodLink "ArcRecorder$State" (280 : Nat) ({ cls := "java/util/LinkedList", name := "size", desc := "()I" } : Jvm.MethodName)) ∈ lw_all := lw_g (lw_at lw_m9 112 rfl) rfl
theorem q2175 : (Jvm.Cond.methodLink "ArcRecorder$State" (281 : Nat) ({ cls := "java/util/LinkedList", name := "get", desc := "(I)Ljava/lang/Object;" } : Jvm.MethodName)) ∈ lw_all := lw_g (lw_at lw_m9 113 rfl) rfl
theorem q2176 : (Jvm.Cond.methodLink "ArcRecorder$State" (288 : Nat) ({ cls := "java/util/LinkedList", name := "remove", desc := "(I)Ljava/lang/Object;" } : Jvm.MethodName)) ∈ lw_all := lw_g (lw_at lw_m9 114 rfl) rfl
theorem q2184 : (Jvm.Cond.methodLink "ArcRecorder$State" (294 : Nat) ({ cls := "ArcRecorder$State", name := "drawArcs", desc := "()V" } : Jvm.MethodName)) ∈ lw_all := lw_g (lw_at lw_m9 122 rfl) rfl
theorem q2185 : (Jvm.Cond.privateMethod ({ cls := "ArcRecorder$State", name := "drawArcs", desc := "()V" } : Jvm.MethodName)) ∈ lw_tbl := lw_at lw_m9 123 rfl
theorem q2186 : (Jvm.Cond.instanceMethod ({ cls := "ArcRecorder$State", name := "drawArcs", desc := "()V" } : Jvm.MethodName)) ∈ lw_all := lw_g (lw_at lw_m9 124 rfl) rfl
theorem q2187 : (Jvm.Cond.code ({ cls := "ArcRecorder$State", name := "drawArcs", desc := "()V" } : Jvm.MethodName) prog_20_method_4_code (6 : Nat) (Option.none : Option Jvm.ClassFile.FieldType)) ∈ lw_all := lw_g (lw_at lw_m9 125 rfl) rfl
theorem q2188 : (Jvm.Cond.classLink "ArcRecorder$State" (160 : Nat) "ArcRecorder$Load") ∈ lw_all := lw_g (lw_at lw_m9 126 rfl) rfl
theorem q2189 : (Jvm.Cond.classLink "ArcRecorder$State" (162 : Nat) "ArcRecorder$Arc") ∈ lw_all := lw_g (lw_at lw_m9 127 rfl) rfl
theorem q2190 : (Jvm.Cond.methodLink "ArcRecorder$State" (170 : Nat) ({ cls := "ArcRecorder$State", name := "draw", desc := "()I" } : Jvm.MethodName)) ∈ lw_all := lw_g (lw_at lw_m9 128 rfl) rfl
theorem q2191 : (Jvm.Cond.privateMethod ({ cls := "ArcRecorder$State", name := "draw", desc := "()I" } : Jvm.MethodName)) ∈ lw_tbl := lw_at lw_m9 129 rfl
theorem q2192 : (Jvm.Cond.instanceMethod ({ cls := "ArcRecorder$State", name := "draw", desc := "()I" } : Jvm.MethodName)) ∈ lw_all := lw_g (lw_at lw_m9 130 rfl) rfl
theorem q2193 : (Jvm.Cond.code ({ cls := "ArcRecorder$State", name := "draw", desc := "()I" } : Jvm.MethodName) prog_20_method_3_code (1 : Nat) (Option.some Jvm.ClassFile.FieldType.int)) ∈ lw_all := lw_g (lw_at lw_m9 131 rfl) rfl
theorem q2194 : (Jvm.Cond.constantLong "ArcRecorder$State" (147 : Nat) (1103515245 : Int64)) ∈ lw_all := lw_g (lw_at lw_m9 132 rfl) rfl
theorem q2195 : (Jvm.Cond.constantLong "ArcRecorder$State" (149 : Nat) (12345 : Int64)) ∈ lw_all := lw_g (lw_at lw_m9 133 rfl) rfl
theorem q2196 : (Jvm.Cond.constantLong "ArcRecorder$State" (151 : Nat) (2147483648 : Int64)) ∈ lw_all := lw_g (lw_at lw_m9 134 rfl) rfl
theorem q2197 : (Jvm.Cond.constantLong "ArcRecorder$State" (153 : Nat) (65536 : Int64)) ∈ lw_all := lw_g (lw_at lw_m9 135 rfl) rfl
theorem q2198 : (Jvm.Cond.constantLong "ArcRecorder$State" (155 : Nat) (100 : Int64)) ∈ lw_all := lw_g (lw_at lw_m9 136 rfl) rfl
theorem q2199 : (Jvm.Cond.constantFloat "ArcRecorder$State" (179 : Nat) (1120403456 : UInt32)) ∈ lw_all := lw_g (lw_at lw_m9 137 rfl) rfl
theorem q2200 : (Jvm.Cond.methodLink "ArcRecorder$State" (297 : Nat) ({ cls := "ArcRecorder$State", name := "goOn", desc := "(I)V" } : Jvm.MethodName)) ∈ lw_all := lw_g (lw_at lw_m9 138 rfl) rfl
theorem q2201 : (Jvm.Cond.privateMethod ({ cls := "ArcRecorder$State", name := "goOn", desc := "(I)V" } : Jvm.MethodName)) ∈ lw_tbl := lw_at lw_m9 139 rfl
theorem q2202 : (Jvm.Cond.instanceMethod ({ cls := "ArcRecorder$State", name := "goOn", desc := "(I)V" } : Jvm.MethodName)) ∈ lw_all := lw_g (lw_at lw_m9 140 rfl) rfl
theorem q2203 : (Jvm.Cond.code ({ cls := "ArcRecorder$State", name := "goOn", desc := "(I)V" } : Jvm.MethodName) prog_20_method_9_code (4 : Nat) (Option.none : Option Jvm.ClassFile.FieldType)) ∈ lw_all := lw_g (lw_at lw_m9 141 rfl) rfl
theorem q2204 : (Jvm.Cond.methodLink "ArcRecorder$State" (224 : Nat) ({ cls := "ArcRecorder$State", name := "layRow", desc := "(I)V" } : Jvm.MethodName)) ∈ lw_all := lw_g (lw_at lw_m9 142 rfl) rfl
theorem q2205 : (Jvm.Cond.privateMethod ({ cls := "ArcRecorder$State", name := "layRow", desc := "(I)V" } : Jvm.MethodName)) ∈ lw_tbl := lw_at lw_m9 143 rfl
theorem q2206 : (Jvm.Cond.instanceMethod ({ cls := "ArcRecorder$State", name := "layRow", desc := "(I)V" } : Jvm.MethodName)) ∈ lw_all := lw_g (lw_at lw_m9 144 rfl) rfl
theorem q2207 : (Jvm.Cond.code ({ cls := "ArcRecorder$State", name := "layRow", desc := "(I)V" } : Jvm.MethodName) prog_20_method_5_code (6 : Nat) (Option.none : Option Jvm.ClassFile.FieldType)) ∈ lw_all := lw_g (lw_at lw_m9 145 rfl) rfl
theorem q2208 : (Jvm.Cond.methodLink "ArcRecorder$State" (186 : Nat) ({ cls := "ArcRecorder$Load", name := "at", desc := "([FIIF)F" } : Jvm.MethodName)) ∈ lw_all := lw_g (lw_at lw_m9 146 rfl) rfl
theorem q2225 : (Jvm.Cond.methodLink "ArcRecorder$State" (227 : Nat) ({ cls := "ArcRecorder$State", name := "findFeatures", desc := "(LArcRecorder$Branch;)V" } : Jvm.MethodName)) ∈ lw_all := lw_g (lw_at lw_m9 163 rfl) rfl
theorem q2226 : (Jvm.Cond.privateMethod ({ cls := "ArcRecorder$State", name := "findFeatures", desc := "(LArcRecorder$Branch;)V" } : Jvm.MethodName)) ∈ lw_tbl := lw_at lw_m9 164 rfl
theorem q2227 : (Jvm.Cond.instanceMethod ({ cls := "ArcRecorder$State", name := "findFeatures", desc := "(LArcRecorder$Branch;)V" } : Jvm.MethodName)) ∈ lw_all := lw_g (lw_at lw_m9 165 rfl) rfl
theorem q2228 : (Jvm.Cond.code ({ cls := "ArcRecorder$State", name := "findFeatures", desc := "(LArcRecorder$Branch;)V" } : Jvm.MethodName) prog_20_method_6_code (3 : Nat) (Option.none : Option Jvm.ClassFile.FieldType)) ∈ lw_all := lw_g (lw_at lw_m9 166 rfl) rfl
theorem q2229 : (Jvm.Cond.methodLink "ArcRecorder$State" (197 : Nat) ({ cls := "ArcRecorder$Feature", name := "of", desc := "([F[FF)F" } : Jvm.MethodName)) ∈ lw_all := lw_g (lw_at lw_m9 167 rfl) rfl
theorem q2276 : (Jvm.Cond.methodLink "ArcRecorder$State" (230 : Nat) ({ cls := "ArcRecorder$State", name := "match", desc := "(LArcRecorder$Branch;)V" } : Jvm.MethodName)) ∈ lw_all := lw_g (lw_at lw_m9 214 rfl) rfl
theorem q2277 : (Jvm.Cond.privateMethod ({ cls := "ArcRecorder$State", name := "match", desc := "(LArcRecorder$Branch;)V" } : Jvm.MethodName)) ∈ lw_tbl := lw_at lw_m9 215 rfl
theorem q2278 : (Jvm.Cond.instanceMethod ({ cls := "ArcRecorder$State", name := "match", desc := "(LArcRecorder$Branch;)V" } : Jvm.MethodName)) ∈ lw_all := lw_g (lw_at lw_m9 216 rfl) rfl
theorem q2279 : (Jvm.Cond.code ({ cls := "ArcRecorder$State", name := "match", desc := "(LArcRecorder$Branch;)V" } : Jvm.MethodName) prog_20_method_7_code (3 : Nat) (Option.none : Option Jvm.ClassFile.FieldType)) ∈ lw_all := lw_g (lw_at lw_m9 217 rfl) rfl
theorem q2280 : (Jvm.Cond.classLink "ArcRecorder$State" (210 : Nat) "ArcRecorder$Pattern") ∈ lw_all := lw_g (lw_at lw_m9 218 rfl) rfl
theorem q2281 : (Jvm.Cond.methodLink "ArcRecorder$State" (212 : Nat) ({ cls := "ArcRecorder$Pattern", name := "matches", desc := "([F)Z" } : Jvm.MethodName)) ∈ lw_all := lw_g (lw_at lw_m9 219 rfl) rfl
theorem q2292 : (Jvm.Cond.methodLink "ArcRecorder$State" (233 : Nat) ({ cls := "ArcRecorder$State", name := "causeOf", desc := "(LArcRecorder$Branch;)I" } : Jvm.MethodName)) ∈ lw_all := lw_g (lw_at lw_m9 230 rfl) rfl
theorem q2293 : (Jvm.Cond.privateMethod ({ cls := "ArcRecorder$State", name := "causeOf", desc := "(LArcRecorder$Branch;)I" } : Jvm.MethodName)) ∈ lw_tbl := lw_at lw_m9 231 rfl
theorem q2294 : (Jvm.Cond.instanceMethod ({ cls := "ArcRecorder$State", name := "causeOf", desc := "(LArcRecorder$Branch;)I" } : Jvm.MethodName)) ∈ lw_all := lw_g (lw_at lw_m9 232 rfl) rfl
theorem q2295 : (Jvm.Cond.code ({ cls := "ArcRecorder$State", name := "causeOf", desc := "(LArcRecorder$Branch;)I" } : Jvm.MethodName) prog_20_method_8_code (3 : Nat) (Option.some Jvm.ClassFile.FieldType.int)) ∈ lw_all := lw_g (lw_at lw_m9 233 rfl) rfl
theorem q2296 : (Jvm.Cond.methodLinkNest "ArcRecorder$State" (216 : Nat) ({ cls := "ArcRecorder", name := "has", desc := "(II)Z" } : Jvm.MethodName) "ArcRecorder") ∈ lw_tbl := lw_at lw_m9 234 rfl
theorem q2299 : (Jvm.Cond.methodLink "ArcRecorder$State" (255 : Nat) ({ cls := "ArcRecorder$State", name := "trip", desc := "(III)V" } : Jvm.MethodName)) ∈ lw_all := lw_g (lw_at lw_m9 237 rfl) rfl
theorem q2300 : (Jvm.Cond.privateMethod ({ cls := "ArcRecorder$State", name := "trip", desc := "(III)V" } : Jvm.MethodName)) ∈ lw_tbl := lw_at lw_m9 238 rfl
theorem q2301 : (Jvm.Cond.instanceMethod ({ cls := "ArcRecorder$State", name := "trip", desc := "(III)V" } : Jvm.MethodName)) ∈ lw_all := lw_g (lw_at lw_m9 239 rfl) rfl
theorem q2302 : (Jvm.Cond.code ({ cls := "ArcRecorder$State", name := "trip", desc := "(III)V" } : Jvm.MethodName) prog_20_method_10_code (8 : Nat) (Option.none : Option Jvm.ClassFile.FieldType)) ∈ lw_all := lw_g (lw_at lw_m10 0 rfl) rfl
theorem q2303 : (Jvm.Cond.methodLink "ArcRecorder$State" (259 : Nat) ({ cls := "ArcRecorder$Branch", name := "suspects", desc := "(I)I" } : Jvm.MethodName)) ∈ lw_all := lw_g (lw_at lw_m10 1 rfl) rfl
theorem q2311 : (Jvm.Cond.methodLink "ArcRecorder$State" (263 : Nat) ({ cls := "ArcRecorder$Branch", name := "was", desc := "(I)Z" } : Jvm.MethodName)) ∈ lw_all := lw_g (lw_at lw_m10 9 rfl) rfl
theorem q2312 : (Jvm.Cond.methodLink "ArcRecorder$State" (267 : Nat) ({ cls := "java/util/ArrayDeque", name := "size", desc := "()I" } : Jvm.MethodName)) ∈ lw_all := lw_g (lw_at lw_m10 10 rfl) rfl
theorem q2313 : (Jvm.Cond.methodLink "ArcRecorder$State" (268 : Nat) ({ cls := "java/util/ArrayDeque", name := "removeFirst", desc := "()Ljava/lang/Object;" } : Jvm.MethodName)) ∈ lw_all := lw_g (lw_at lw_m10 11 rfl) rfl
theorem q2315 : (Jvm.Cond.methodLink "ArcRecorder$State" (271 : Nat) ({ cls := "ArcRecorder$Trip", name := "<init>", desc := "(IIIIF[I)V" } : Jvm.MethodName)) ∈ lw_all := lw_g (lw_at lw_m10 13 rfl) rfl
theorem q2344 : (Jvm.Cond.methodLink "ArcRecorder$State" (277 : Nat) ({ cls := "ArcRecorder$Branch", name := "forgetWindow", desc := "()V" } : Jvm.MethodName)) ∈ lw_all := lw_g (lw_at lw_m10 42 rfl) rfl
theorem q2590 : (Jvm.Cond.instanceMethod ({ cls := "ArcRecorder$State", name := "tripIn", desc := "(II)I" } : Jvm.MethodName)) ∈ lw_all := lw_g (lw_at lw_m11 48 rfl) rfl
theorem q2591 : (Jvm.Cond.selects "ArcRecorder$State" ({ cls := "ArcRecorder$State", name := "tripIn", desc := "(II)I" } : Jvm.MethodName) ({ cls := "ArcRecorder$State", name := "tripIn", desc := "(II)I" } : Jvm.MethodName)) ∈ lw_all := lw_g (lw_at lw_m11 49 rfl) rfl
theorem q2592 : (Jvm.Cond.code ({ cls := "ArcRecorder$State", name := "tripIn", desc := "(II)I" } : Jvm.MethodName) prog_20_method_13_code (4 : Nat) (Option.some Jvm.ClassFile.FieldType.int)) ∈ lw_all := lw_g (lw_at lw_m11 50 rfl) rfl
theorem q2593 : (Jvm.Cond.methodLink "ArcRecorder$State" (300 : Nat) ({ cls := "ArcRecorder$State", name := "step", desc := "()I" } : Jvm.MethodName)) ∈ lw_all := lw_g (lw_at lw_m11 51 rfl) rfl
theorem q3479 : (Jvm.Cond.castable "ArcRecorder$State" "java/lang/Object") ∈ lw_tbl := lw_at lw_m14 217 rfl
theorem in_X2 : ∀ w ∈ wsX20, w ∈ lw_all := lw_in wsX20 [844, 846, 848, 850, 852, 854, 856, 858, 860, 862, 864, 866, 868, 870] (by decide +kernel) (by decide +kernel)
/-! X3.ArcRecorder_Plant -/
def RX3 : String := "ArcRecorder$Plant"
def TX3 : u_T := fun k => match k with
  | 0 => ("ArcRecorder$Plant", "samples", "I", false)
  | 1 => ("ArcRecorder$Plant", "window", "I", false)
  | 2 => ("ArcRecorder$Plant", "count", "I", false)
  | 3 => ("ArcRecorder$Plant", "shape", "[F", false)
  | 4 => ("ArcRecorder$Plant", "branches", "Ljava/util/ArrayList;", true)
  | 5 => ("ArcRecorder$Plant", "rated", "[I", true)
  | 6 => ("ArcRecorder$Plant", "loads", "Ljava/util/ArrayList;", true)
  | _ => ("ArcRecorder$Plant", "signatures", "Ljava/util/ArrayList;", true)
def tyX3 : Nat → FieldType := fun k => match k with
  | 0 => .int
  | 1 => .int
  | 2 => .int
  | 3 => .array .float
  | 4 => .object "java/util/ArrayList"
  | 5 => .array .int
  | 6 => .object "java/util/ArrayList"
  | _ => .object "java/util/ArrayList"
abbrev wsX30 : List Cond := u_ws RX3 TX3 8
theorem nmX3 : ∀ a, a < 8 → ∀ b, b < 8 → a ≠ b → (TX3 a).2.1 ≠ (TX3 b).2.1 := by decide +kernel
theorem tyX3_ok : ∀ k, k < 8 → parseFieldDescriptor (TX3 k).2.2.1 = some (tyX3 k) := by decide +kernel
abbrev cX3_init : ByteArray := prog_19_method_1_code
def yX3_init : MethodName := ⟨RX3, "<init>", "()V"⟩
abbrev cX3_findLoad : ByteArray := prog_19_method_3_code
def yX3_findLoad : MethodName := ⟨RX3, "findLoad", "(Ljava/lang/String;)I"⟩
abbrev cX3_findSignature : ByteArray := prog_19_method_4_code
def yX3_findSignature : MethodName := ⟨RX3, "findSignature", "(Ljava/lang/String;)I"⟩
abbrev cX3_lay : ByteArray := prog_19_method_2_code
def yX3_lay : MethodName := ⟨RX3, "lay", "()V"⟩
theorem q145 : (Jvm.Cond.initialized "ArcRecorder$Plant") ∈ lw_all := lw_g (lw_at lw_m1 3 rfl) rfl
theorem q211 : (Jvm.Cond.instantiable "ArcRecorder$Plant" (8 : Nat)) ∈ lw_all := lw_g (lw_at lw_m1 69 rfl) rfl
theorem q213 : (Jvm.Cond.instanceMethod ({ cls := "ArcRecorder$Plant", name := "<init>", desc := "()V" } : Jvm.MethodName)) ∈ lw_all := lw_g (lw_at lw_m1 71 rfl) rfl
theorem q214 : (Jvm.Cond.code ({ cls := "ArcRecorder$Plant", name := "<init>", desc := "()V" } : Jvm.MethodName) prog_19_method_1_code (1 : Nat) (Option.none : Option Jvm.ClassFile.FieldType)) ∈ lw_all := lw_g (lw_at lw_m1 72 rfl) rfl
theorem q215 : (Jvm.Cond.methodLink "ArcRecorder$Plant" (3 : Nat) ({ cls := "java/lang/Object", name := "<init>", desc := "()V" } : Jvm.MethodName)) ∈ lw_all := lw_g (lw_at lw_m1 73 rfl) rfl
theorem q216 : (Jvm.Cond.classLink "ArcRecorder$Plant" (25 : Nat) "java/util/ArrayList") ∈ lw_all := lw_g (lw_at lw_m1 74 rfl) rfl
theorem q218 : (Jvm.Cond.methodLink "ArcRecorder$Plant" (27 : Nat) ({ cls := "java/util/ArrayList", name := "<init>", desc := "(I)V" } : Jvm.MethodName)) ∈ lw_all := lw_g (lw_at lw_m1 76 rfl) rfl
theorem q571 : (Jvm.Cond.fieldLink "ArcRecorder$Plant" (9 : Nat) "ArcRecorder$Plant" "samples" "I") ∈ lw_all := lw_g (lw_at lw_m2 189 rfl) rfl
theorem q575 : (Jvm.Cond.fieldLink "ArcRecorder$Plant" (15 : Nat) "ArcRecorder$Plant" "window" "I") ∈ lw_all := lw_g (lw_at lw_m2 193 rfl) rfl
theorem q578 : (Jvm.Cond.fieldLink "ArcRecorder$Plant" (18 : Nat) "ArcRecorder$Plant" "count" "I") ∈ lw_all := lw_g (lw_at lw_m2 196 rfl) rfl
theorem q581 : (Jvm.Cond.fieldLink "ArcRecorder$Plant" (21 : Nat) "ArcRecorder$Plant" "shape" "[F") ∈ lw_all := lw_g (lw_at lw_m2 199 rfl) rfl
theorem q584 : (Jvm.Cond.fieldLink "ArcRecorder$Plant" (30 : Nat) "ArcRecorder$Plant" "branches" "Ljava/util/ArrayList;") ∈ lw_all := lw_g (lw_at lw_m2 202 rfl) rfl
theorem q588 : (Jvm.Cond.fieldLink "ArcRecorder$Plant" (34 : Nat) "ArcRecorder$Plant" "rated" "[I") ∈ lw_all := lw_g (lw_at lw_m2 206 rfl) rfl
theorem q592 : (Jvm.Cond.fieldLink "ArcRecorder$Plant" (38 : Nat) "ArcRecorder$Plant" "loads" "Ljava/util/ArrayList;") ∈ lw_all := lw_g (lw_at lw_m2 210 rfl) rfl
theorem q596 : (Jvm.Cond.fieldLink "ArcRecorder$Plant" (41 : Nat) "ArcRecorder$Plant" "signatures" "Ljava/util/ArrayList;") ∈ lw_all := lw_g (lw_at lw_m2 214 rfl) rfl
theorem q600 : (Jvm.Cond.lays "ArcRecorder$Plant" "ArcRecorder$Plant" "samples" "I") ∈ lw_all := lw_g (lw_at lw_m2 218 rfl) rfl
theorem q601 : (Jvm.Cond.soleField "ArcRecorder$Plant" "samples") ∈ lw_all := lw_g (lw_at lw_m2 219 rfl) rfl
theorem q602 : (Jvm.Cond.lays "ArcRecorder$Plant" "ArcRecorder$Plant" "window" "I") ∈ lw_all := lw_g (lw_at lw_m2 220 rfl) rfl
theorem q603 : (Jvm.Cond.soleField "ArcRecorder$Plant" "window") ∈ lw_all := lw_g (lw_at lw_m2 221 rfl) rfl
theorem q604 : (Jvm.Cond.lays "ArcRecorder$Plant" "ArcRecorder$Plant" "count" "I") ∈ lw_all := lw_g (lw_at lw_m2 222 rfl) rfl
theorem q605 : (Jvm.Cond.soleField "ArcRecorder$Plant" "count") ∈ lw_all := lw_g (lw_at lw_m2 223 rfl) rfl
theorem q606 : (Jvm.Cond.lays "ArcRecorder$Plant" "ArcRecorder$Plant" "shape" "[F") ∈ lw_all := lw_g (lw_at lw_m2 224 rfl) rfl
theorem q607 : (Jvm.Cond.soleField "ArcRecorder$Plant" "shape") ∈ lw_all := lw_g (lw_at lw_m2 225 rfl) rfl
theorem q608 : (Jvm.Cond.laysFinal "ArcRecorder$Plant" "ArcRecorder$Plant" "branches" "Ljava/util/ArrayList;") ∈ lw_all := lw_g (lw_at lw_m2 226 rfl) rfl
theorem q609 : (Jvm.Cond.soleField "ArcRecorder$Plant" "branches") ∈ lw_all := lw_g (lw_at lw_m2 227 rfl) rfl
theorem q610 : (Jvm.Cond.laysFinal "ArcRecorder$Plant" "ArcRecorder$Plant" "rated" "[I") ∈ lw_all := lw_g (lw_at lw_m2 228 rfl) rfl
theorem q611 : (Jvm.Cond.soleField "ArcRecorder$Plant" "rated") ∈ lw_all := lw_g (lw_at lw_m2 229 rfl) rfl
theorem q612 : (Jvm.Cond.laysFinal "ArcRecorder$Plant" "ArcRecorder$Plant" "loads" "Ljava/util/ArrayList;") ∈ lw_all := lw_g (lw_at lw_m2 230 rfl) rfl
theorem q613 : (Jvm.Cond.soleField "ArcRecorder$Plant" "loads") ∈ lw_all := lw_g (lw_at lw_m2 231 rfl) rfl
theorem q614 : (Jvm.Cond.laysFinal "ArcRecorder$Plant" "ArcRecorder$Plant" "signatures" "Ljava/util/ArrayList;") ∈ lw_all := lw_g (lw_at lw_m2 232 rfl) rfl
theorem q615 : (Jvm.Cond.soleField "ArcRecorder$Plant" "signatures") ∈ lw_all := lw_g (lw_at lw_m2 233 rfl) rfl
theorem q616 : (Jvm.Cond.superclass "ArcRecorder$Plant" "java/lang/Object") ∈ lw_all := lw_g (lw_at lw_m2 234 rfl) rfl
theorem q786 : (Jvm.Cond.selects "ArcRecorder$Plant" ({ cls := "java/lang/Object", name := "getClass", desc := "()Ljava/lang/Class;" } : Jvm.MethodName) ({ cls := "java/lang/Object", name := "getClass", desc := "()Ljava/lang/Class;" } : Jvm.MethodName)) ∈ lw_all := lw_g (lw_at lw_m3 164 rfl) rfl
theorem q1231 : (Jvm.Cond.selects "ArcRecorder$Plant" ({ cls := "java/lang/Object", name := "equals", desc := "(Ljava/lang/Object;)Z" } : Jvm.MethodName) ({ cls := "java/lang/Object", name := "equals", desc := "(Ljava/lang/Object;)Z" } : Jvm.MethodName)) ∈ lw_all := lw_g (lw_at lw_m5 129 rfl) rfl
theorem q1248 : (Jvm.Cond.instanceMethod ({ cls := "ArcRecorder$Plant", name := "findLoad", desc := "(Ljava/lang/String;)I" } : Jvm.MethodName)) ∈ lw_all := lw_g (lw_at lw_m5 146 rfl) rfl
theorem q1249 : (Jvm.Cond.selects "ArcRecorder$Plant" ({ cls := "ArcRecorder$Plant", name := "findLoad", desc := "(Ljava/lang/String;)I" } : Jvm.MethodName) ({ cls := "ArcRecorder$Plant", name := "findLoad", desc := "(Ljava/lang/String;)I" } : Jvm.MethodName)) ∈ lw_all := lw_g (lw_at lw_m5 147 rfl) rfl
theorem q1250 : (Jvm.Cond.code ({ cls := "ArcRecorder$Plant", name := "findLoad", desc := "(Ljava/lang/String;)I" } : Jvm.MethodName) prog_19_method_3_code (3 : Nat) (Option.some Jvm.ClassFile.FieldType.int)) ∈ lw_all := lw_g (lw_at lw_m5 148 rfl) rfl
theorem q1251 : (Jvm.Cond.methodLink "ArcRecorder$Plant" (45 : Nat) ({ cls := "java/util/ArrayList", name := "size", desc := "()I" } : Jvm.MethodName)) ∈ lw_all := lw_g (lw_at lw_m5 149 rfl) rfl
theorem q1252 : (Jvm.Cond.methodLink "ArcRecorder$Plant" (49 : Nat) ({ cls := "java/util/ArrayList", name := "get", desc := "(I)Ljava/lang/Object;" } : Jvm.MethodName)) ∈ lw_all := lw_g (lw_at lw_m5 150 rfl) rfl
theorem q1264 : (Jvm.Cond.classLink "ArcRecorder$Plant" (53 : Nat) "ArcRecorder$Load") ∈ lw_all := lw_g (lw_at lw_m5 162 rfl) rfl
theorem q1265 : (Jvm.Cond.methodLink "ArcRecorder$Plant" (59 : Nat) ({ cls := "java/lang/String", name := "equals", desc := "(Ljava/lang/Object;)Z" } : Jvm.MethodName)) ∈ lw_all := lw_g (lw_at lw_m5 163 rfl) rfl
theorem q1267 : (Jvm.Cond.instanceMethod ({ cls := "ArcRecorder$Plant", name := "findSignature", desc := "(Ljava/lang/String;)I" } : Jvm.MethodName)) ∈ lw_all := lw_g (lw_at lw_m5 165 rfl) rfl
theorem q1268 : (Jvm.Cond.selects "ArcRecorder$Plant" ({ cls := "ArcRecorder$Plant", name := "findSignature", desc := "(Ljava/lang/String;)I" } : Jvm.MethodName) ({ cls := "ArcRecorder$Plant", name := "findSignature", desc := "(Ljava/lang/String;)I" } : Jvm.MethodName)) ∈ lw_all := lw_g (lw_at lw_m5 166 rfl) rfl
theorem q1269 : (Jvm.Cond.code ({ cls := "ArcRecorder$Plant", name := "findSignature", desc := "(Ljava/lang/String;)I" } : Jvm.MethodName) prog_19_method_4_code (3 : Nat) (Option.some Jvm.ClassFile.FieldType.int)) ∈ lw_all := lw_g (lw_at lw_m5 167 rfl) rfl
theorem q1270 : (Jvm.Cond.classLink "ArcRecorder$Plant" (65 : Nat) "ArcRecorder$Pattern") ∈ lw_all := lw_g (lw_at lw_m5 168 rfl) rfl
theorem q1296 : (Jvm.Cond.fieldLinkNest "ArcRecorder$Plant" (55 : Nat) "ArcRecorder$Load" "name" "Ljava/lang/String;" "ArcRecorder") ∈ lw_tbl := lw_at lw_m5 194 rfl
theorem q1380 : (Jvm.Cond.fieldLinkNest "ArcRecorder$Plant" (67 : Nat) "ArcRecorder$Pattern" "name" "Ljava/lang/String;" "ArcRecorder") ∈ lw_tbl := lw_at lw_m6 38 rfl
theorem q1470 : (Jvm.Cond.instanceMethod ({ cls := "ArcRecorder$Plant", name := "lay", desc := "()V" } : Jvm.MethodName)) ∈ lw_all := lw_g (lw_at lw_m6 128 rfl) rfl
theorem q1471 : (Jvm.Cond.selects "ArcRecorder$Plant" ({ cls := "ArcRecorder$Plant", name := "lay", desc := "()V" } : Jvm.MethodName) ({ cls := "ArcRecorder$Plant", name := "lay", desc := "()V" } : Jvm.MethodName)) ∈ lw_all := lw_g (lw_at lw_m6 129 rfl) rfl
theorem q1472 : (Jvm.Cond.code ({ cls := "ArcRecorder$Plant", name := "lay", desc := "()V" } : Jvm.MethodName) prog_19_method_2_code (3 : Nat) (Option.none : Option Jvm.ClassFile.FieldType)) ∈ lw_all := lw_g (lw_at lw_m6 130 rfl) rfl
theorem q1473 : (Jvm.Cond.constantFloat "ArcRecorder$Plant" (44 : Nat) (1082130432 : UInt32)) ∈ lw_all := lw_g (lw_at lw_m6 131 rfl) rfl
theorem q3480 : (Jvm.Cond.castable "ArcRecorder$Plant" "java/lang/Object") ∈ lw_tbl := lw_at lw_m14 218 rfl
theorem in_X3 : ∀ w ∈ wsX30, w ∈ lw_all := lw_in wsX30 [600, 602, 604, 606, 608, 610, 612, 614] (by decide +kernel) (by decide +kernel)
/-! X4.ArcRecorder_Feature -/
def RX4 : String := "ArcRecorder$Feature"
abbrev cX4_values : ByteArray := prog_5_method_1_code
def yX4_values : MethodName := ⟨RX4, "values", "()[LArcRecorder$Feature;"⟩
theorem q169 : (Jvm.Cond.initialized "ArcRecorder$Feature") ∈ lw_all := lw_g (lw_at lw_m1 27 rfl) rfl
theorem q665 : (Jvm.Cond.static ({ cls := "ArcRecorder$Feature", name := "values", desc := "()[LArcRecorder$Feature;" } : Jvm.MethodName)) ∈ lw_all := lw_g (lw_at lw_m3 43 rfl) rfl
theorem q666 : (Jvm.Cond.code ({ cls := "ArcRecorder$Feature", name := "values", desc := "()[LArcRecorder$Feature;" } : Jvm.MethodName) prog_5_method_1_code (0 : Nat) (Option.some (Jvm.ClassFile.FieldType.array (Jvm.ClassFile.FieldType.object "ArcRecorder$Feature")))) ∈ lw_all := lw_g (lw_at lw_m3 44 rfl) rfl
theorem q667 : (Jvm.Cond.fieldLink "ArcRecorder$Feature" (22 : Nat) "ArcRecorder$Feature" "$VALUES" "[LArcRecorder$Feature;") ∈ lw_all := lw_g (lw_at lw_m3 45 rfl) rfl
theorem q668 : (Jvm.Cond.laysStatic "ArcRecorder$Feature" "$VALUES" "[LArcRecorder$Feature;") ∈ lw_tbl := lw_at lw_m3 46 rfl
theorem q669 : (Jvm.Cond.methodLink "ArcRecorder$Feature" (26 : Nat) ({ cls := "[LArcRecorder$Feature;", name := "clone", desc := "()Ljava/lang/Object;" } : Jvm.MethodName)) ∈ lw_all := lw_g (lw_at lw_m3 47 rfl) rfl
theorem q674 : (Jvm.Cond.classLink "ArcRecorder$Feature" (27 : Nat) "[LArcRecorder$Feature;") ∈ lw_all := lw_g (lw_at lw_m3 52 rfl) rfl
theorem q2230 : (Jvm.Cond.declares ({ cls := "ArcRecorder$Feature", name := "of", desc := "([F[FF)F" } : Jvm.MethodName)) ∈ lw_tbl := lw_at lw_m9 168 rfl
theorem q2231 : (Jvm.Cond.sameMethod "ArcRecorder$Feature" "ArcRecorder$Feature" "of" "([F[FF)F") ∈ lw_all := lw_g (lw_at lw_m9 169 rfl) rfl
theorem q2247 : (Jvm.Cond.laysStatic "ArcRecorder$Feature" "PEAK" "LArcRecorder$Feature;") ∈ lw_tbl := lw_at lw_m9 185 rfl
theorem q2249 : (Jvm.Cond.sameMethod "ArcRecorder$Feature" "java/lang/Enum" "ordinal" "()I") ∈ lw_all := lw_g (lw_at lw_m9 187 rfl) rfl
theorem q2270 : (Jvm.Cond.laysStatic "ArcRecorder$Feature" "MEAN" "LArcRecorder$Feature;") ∈ lw_tbl := lw_at lw_m9 208 rfl
theorem q3477 : (Jvm.Cond.castable "ArcRecorder$Feature" "java/lang/Object") ∈ lw_tbl := lw_at lw_m14 215 rfl
theorem q3546 : (Jvm.Cond.laysStatic "ArcRecorder$Feature" "FLAT" "LArcRecorder$Feature;") ∈ lw_tbl := lw_at lw_m15 44 rfl
theorem q3547 : (Jvm.Cond.laysStatic "ArcRecorder$Feature" "STEEP" "LArcRecorder$Feature;") ∈ lw_tbl := lw_at lw_m15 45 rfl
theorem q3548 : (Jvm.Cond.laysStatic "ArcRecorder$Feature" "CHANGE" "LArcRecorder$Feature;") ∈ lw_tbl := lw_at lw_m15 46 rfl
theorem q3549 : (Jvm.Cond.laysStatic "ArcRecorder$Feature" "ENERGY" "LArcRecorder$Feature;") ∈ lw_tbl := lw_at lw_m15 47 rfl
/-! X5.ArcRecorder_Branch -/
def RX5 : String := "ArcRecorder$Branch"
def TX5 : u_T := fun k => match k with
  | 0 => ("ArcRecorder$Branch", "row", "[F", true)
  | 1 => ("ArcRecorder$Branch", "found", "[F", true)
  | 2 => ("ArcRecorder$Branch", "state", "I", false)
  | 3 => ("ArcRecorder$Branch", "trips", "I", false)
  | 4 => ("ArcRecorder$Branch", "since", "I", false)
  | 5 => ("ArcRecorder$Branch", "matched", "I", false)
  | 6 => ("ArcRecorder$Branch", "hidden", "I", false)
  | 7 => ("ArcRecorder$Branch", "halfWaves", "I", false)
  | 8 => ("ArcRecorder$Branch", "bits", "J", false)
  | 9 => ("ArcRecorder$Branch", "isTested", "Z", false)
  | 10 => ("ArcRecorder$Branch", "isSuspect", "Z", false)
  | _ => ("ArcRecorder$Branch", "before", "F", false)
def tyX5 : Nat → FieldType := fun k => match k with
  | 0 => .array .float
  | 1 => .array .float
  | 2 => .int
  | 3 => .int
  | 4 => .int
  | 5 => .int
  | 6 => .int
  | 7 => .int
  | 8 => .long
  | 9 => .boolean
  | 10 => .boolean
  | _ => .float
abbrev wsX50 : List Cond := u_ws RX5 TX5 12
theorem nmX5 : ∀ a, a < 12 → ∀ b, b < 12 → a ≠ b → (TX5 a).2.1 ≠ (TX5 b).2.1 := by decide +kernel
theorem tyX5_ok : ∀ k, k < 12 → parseFieldDescriptor (TX5 k).2.2.1 = some (tyX5 k) := by decide +kernel
abbrev cX5_init : ByteArray := prog_3_method_1_code
def yX5_init : MethodName := ⟨RX5, "<init>", "(I)V"⟩
abbrev cX5_init_2 : ByteArray := prog_3_method_2_code
def yX5_init_2 : MethodName := ⟨RX5, "<init>", "(LArcRecorder$Branch;)V"⟩
abbrev cX5_forgetWindow : ByteArray := prog_3_method_6_code
def yX5_forgetWindow : MethodName := ⟨RX5, "forgetWindow", "()V"⟩
abbrev cX5_suspects : ByteArray := prog_3_method_4_code
def yX5_suspects : MethodName := ⟨RX5, "suspects", "(I)I"⟩
abbrev cX5_was : ByteArray := prog_3_method_3_code
def yX5_was : MethodName := ⟨RX5, "was", "(I)Z"⟩
abbrev cX5_margin : ByteArray := prog_3_method_5_code
def yX5_margin : MethodName := ⟨RX5, "margin", "(II)I"⟩
theorem q170 : (Jvm.Cond.initialized "ArcRecorder$Branch") ∈ lw_all := lw_g (lw_at lw_m1 28 rfl) rfl
theorem q680 : (Jvm.Cond.instantiable "ArcRecorder$Branch" (12 : Nat)) ∈ lw_all := lw_g (lw_at lw_m3 58 rfl) rfl
theorem q682 : (Jvm.Cond.instanceMethod ({ cls := "ArcRecorder$Branch", name := "<init>", desc := "(I)V" } : Jvm.MethodName)) ∈ lw_all := lw_g (lw_at lw_m3 60 rfl) rfl
theorem q683 : (Jvm.Cond.code ({ cls := "ArcRecorder$Branch", name := "<init>", desc := "(I)V" } : Jvm.MethodName) prog_3_method_1_code (2 : Nat) (Option.none : Option Jvm.ClassFile.FieldType)) ∈ lw_all := lw_g (lw_at lw_m3 61 rfl) rfl
theorem q684 : (Jvm.Cond.methodLink "ArcRecorder$Branch" (3 : Nat) ({ cls := "java/lang/Object", name := "<init>", desc := "()V" } : Jvm.MethodName)) ∈ lw_all := lw_g (lw_at lw_m3 62 rfl) rfl
theorem q685 : (Jvm.Cond.constantFloat "ArcRecorder$Branch" (9 : Nat) (3212836864 : UInt32)) ∈ lw_all := lw_g (lw_at lw_m3 63 rfl) rfl
theorem q686 : (Jvm.Cond.fieldLink "ArcRecorder$Branch" (16 : Nat) "ArcRecorder$Branch" "row" "[F") ∈ lw_all := lw_g (lw_at lw_m3 64 rfl) rfl
theorem q689 : (Jvm.Cond.fieldLink "ArcRecorder$Branch" (20 : Nat) "ArcRecorder$Branch" "found" "[F") ∈ lw_all := lw_g (lw_at lw_m3 67 rfl) rfl
theorem q692 : (Jvm.Cond.fieldLink "ArcRecorder$Branch" (28 : Nat) "ArcRecorder$Branch" "state" "I") ∈ lw_all := lw_g (lw_at lw_m3 70 rfl) rfl
theorem q695 : (Jvm.Cond.fieldLink "ArcRecorder$Branch" (32 : Nat) "ArcRecorder$Branch" "trips" "I") ∈ lw_all := lw_g (lw_at lw_m3 73 rfl) rfl
theorem q698 : (Jvm.Cond.fieldLink "ArcRecorder$Branch" (35 : Nat) "ArcRecorder$Branch" "since" "I") ∈ lw_all := lw_g (lw_at lw_m3 76 rfl) rfl
theorem q700 : (Jvm.Cond.fieldLink "ArcRecorder$Branch" (38 : Nat) "ArcRecorder$Branch" "matched" "I") ∈ lw_all := lw_g (lw_at lw_m3 78 rfl) rfl
theorem q703 : (Jvm.Cond.fieldLink "ArcRecorder$Branch" (41 : Nat) "ArcRecorder$Branch" "hidden" "I") ∈ lw_all := lw_g (lw_at lw_m3 81 rfl) rfl
theorem q706 : (Jvm.Cond.fieldLink "ArcRecorder$Branch" (44 : Nat) "ArcRecorder$Branch" "halfWaves" "I") ∈ lw_all := lw_g (lw_at lw_m3 84 rfl) rfl
theorem q709 : (Jvm.Cond.fieldLink "ArcRecorder$Branch" (47 : Nat) "ArcRecorder$Branch" "bits" "J") ∈ lw_all := lw_g (lw_at lw_m3 87 rfl) rfl
theorem q711 : (Jvm.Cond.fieldLink "ArcRecorder$Branch" (51 : Nat) "ArcRecorder$Branch" "isTested" "Z") ∈ lw_all := lw_g (lw_at lw_m3 89 rfl) rfl
theorem q714 : (Jvm.Cond.fieldLink "ArcRecorder$Branch" (55 : Nat) "ArcRecorder$Branch" "isSuspect" "Z") ∈ lw_all := lw_g (lw_at lw_m3 92 rfl) rfl
theorem q717 : (Jvm.Cond.fieldLink "ArcRecorder$Branch" (10 : Nat) "ArcRecorder$Branch" "before" "F") ∈ lw_all := lw_g (lw_at lw_m3 95 rfl) rfl
theorem q719 : (Jvm.Cond.laysFinal "ArcRecorder$Branch" "ArcRecorder$Branch" "row" "[F") ∈ lw_all := lw_g (lw_at lw_m3 97 rfl) rfl
theorem q720 : (Jvm.Cond.soleField "ArcRecorder$Branch" "row") ∈ lw_all := lw_g (lw_at lw_m3 98 rfl) rfl
theorem q721 : (Jvm.Cond.laysFinal "ArcRecorder$Branch" "ArcRecorder$Branch" "found" "[F") ∈ lw_all := lw_g (lw_at lw_m3 99 rfl) rfl
theorem q722 : (Jvm.Cond.soleField "ArcRecorder$Branch" "found") ∈ lw_all := lw_g (lw_at lw_m3 100 rfl) rfl
theorem q723 : (Jvm.Cond.lays "ArcRecorder$Branch" "ArcRecorder$Branch" "state" "I") ∈ lw_all := lw_g (lw_at lw_m3 101 rfl) rfl
theorem q724 : (Jvm.Cond.soleField "ArcRecorder$Branch" "state") ∈ lw_all := lw_g (lw_at lw_m3 102 rfl) rfl
theorem q725 : (Jvm.Cond.lays "ArcRecorder$Branch" "ArcRecorder$Branch" "trips" "I") ∈ lw_all := lw_g (lw_at lw_m3 103 rfl) rfl
theorem q726 : (Jvm.Cond.soleField "ArcRecorder$Branch" "trips") ∈ lw_all := lw_g (lw_at lw_m3 104 rfl) rfl
theorem q727 : (Jvm.Cond.lays "ArcRecorder$Branch" "ArcRecorder$Branch" "since" "I") ∈ lw_all := lw_g (lw_at lw_m3 105 rfl) rfl
theorem q728 : (Jvm.Cond.soleField "ArcRecorder$Branch" "since") ∈ lw_all := lw_g (lw_at lw_m3 106 rfl) rfl
theorem q729 : (Jvm.Cond.lays "ArcRecorder$Branch" "ArcRecorder$Branch" "matched" "I") ∈ lw_all := lw_g (lw_at lw_m3 107 rfl) rfl
theorem q730 : (Jvm.Cond.soleField "ArcRecorder$Branch" "matched") ∈ lw_all := lw_g (lw_at lw_m3 108 rfl) rfl
theorem q731 : (Jvm.Cond.lays "ArcRecorder$Branch" "ArcRecorder$Branch" "hidden" "I") ∈ lw_all := lw_g (lw_at lw_m3 109 rfl) rfl
theorem q732 : (Jvm.Cond.soleField "ArcRecorder$Branch" "hidden") ∈ lw_all := lw_g (lw_at lw_m3 110 rfl) rfl
theorem q733 : (Jvm.Cond.lays "ArcRecorder$Branch" "ArcRecorder$Branch" "halfWaves" "I") ∈ lw_all := lw_g (lw_at lw_m3 111 rfl) rfl
theorem q734 : (Jvm.Cond.soleField "ArcRecorder$Branch" "halfWaves") ∈ lw_all := lw_g (lw_at lw_m3 112 rfl) rfl
theorem q735 : (Jvm.Cond.lays "ArcRecorder$Branch" "ArcRecorder$Branch" "bits" "J") ∈ lw_all := lw_g (lw_at lw_m3 113 rfl) rfl
theorem q736 : (Jvm.Cond.soleField "ArcRecorder$Branch" "bits") ∈ lw_all := lw_g (lw_at lw_m3 114 rfl) rfl
theorem q737 : (Jvm.Cond.lays "ArcRecorder$Branch" "ArcRecorder$Branch" "isTested" "Z") ∈ lw_all := lw_g (lw_at lw_m3 115 rfl) rfl
theorem q738 : (Jvm.Cond.soleField "ArcRecorder$Branch" "isTested") ∈ lw_all := lw_g (lw_at lw_m3 116 rfl) rfl
theorem q739 : (Jvm.Cond.lays "ArcRecorder$Branch" "ArcRecorder$Branch" "isSuspect" "Z") ∈ lw_all := lw_g (lw_at lw_m3 117 rfl) rfl
theorem q740 : (Jvm.Cond.soleField "ArcRecorder$Branch" "isSuspect") ∈ lw_all := lw_g (lw_at lw_m3 118 rfl) rfl
theorem q741 : (Jvm.Cond.lays "ArcRecorder$Branch" "ArcRecorder$Branch" "before" "F") ∈ lw_all := lw_g (lw_at lw_m3 119 rfl) rfl
theorem q742 : (Jvm.Cond.soleField "ArcRecorder$Branch" "before") ∈ lw_all := lw_g (lw_at lw_m3 120 rfl) rfl
theorem q743 : (Jvm.Cond.superclass "ArcRecorder$Branch" "java/lang/Object") ∈ lw_all := lw_g (lw_at lw_m3 121 rfl) rfl
theorem q772 : (Jvm.Cond.selects "ArcRecorder$Branch" ({ cls := "java/lang/Object", name := "getClass", desc := "()Ljava/lang/Class;" } : Jvm.MethodName) ({ cls := "java/lang/Object", name := "getClass", desc := "()Ljava/lang/Class;" } : Jvm.MethodName)) ∈ lw_all := lw_g (lw_at lw_m3 150 rfl) rfl
theorem q1215 : (Jvm.Cond.selects "ArcRecorder$Branch" ({ cls := "java/lang/Object", name := "equals", desc := "(Ljava/lang/Object;)Z" } : Jvm.MethodName) ({ cls := "java/lang/Object", name := "equals", desc := "(Ljava/lang/Object;)Z" } : Jvm.MethodName)) ∈ lw_all := lw_g (lw_at lw_m5 113 rfl) rfl
theorem q1632 : (Jvm.Cond.instanceMethod ({ cls := "ArcRecorder$Branch", name := "<init>", desc := "(LArcRecorder$Branch;)V" } : Jvm.MethodName)) ∈ lw_all := lw_g (lw_at lw_m7 50 rfl) rfl
theorem q1633 : (Jvm.Cond.code ({ cls := "ArcRecorder$Branch", name := "<init>", desc := "(LArcRecorder$Branch;)V" } : Jvm.MethodName) prog_3_method_2_code (2 : Nat) (Option.none : Option Jvm.ClassFile.FieldType)) ∈ lw_all := lw_g (lw_at lw_m7 51 rfl) rfl
theorem q1634 : (Jvm.Cond.methodLink "ArcRecorder$Branch" (23 : Nat) ({ cls := "[F", name := "clone", desc := "()Ljava/lang/Object;" } : Jvm.MethodName)) ∈ lw_all := lw_g (lw_at lw_m7 52 rfl) rfl
theorem q1638 : (Jvm.Cond.classLink "ArcRecorder$Branch" (24 : Nat) "[F") ∈ lw_all := lw_g (lw_at lw_m7 56 rfl) rfl
theorem q1945 : (Jvm.Cond.instanceMethod ({ cls := "ArcRecorder$Branch", name := "forgetWindow", desc := "()V" } : Jvm.MethodName)) ∈ lw_all := lw_g (lw_at lw_m8 123 rfl) rfl
theorem q1946 : (Jvm.Cond.selects "ArcRecorder$Branch" ({ cls := "ArcRecorder$Branch", name := "forgetWindow", desc := "()V" } : Jvm.MethodName) ({ cls := "ArcRecorder$Branch", name := "forgetWindow", desc := "()V" } : Jvm.MethodName)) ∈ lw_all := lw_g (lw_at lw_m8 124 rfl) rfl
theorem q1947 : (Jvm.Cond.code ({ cls := "ArcRecorder$Branch", name := "forgetWindow", desc := "()V" } : Jvm.MethodName) prog_3_method_6_code (1 : Nat) (Option.none : Option Jvm.ClassFile.FieldType)) ∈ lw_all := lw_g (lw_at lw_m8 125 rfl) rfl
theorem q2304 : (Jvm.Cond.instanceMethod ({ cls := "ArcRecorder$Branch", name := "suspects", desc := "(I)I" } : Jvm.MethodName)) ∈ lw_all := lw_g (lw_at lw_m10 2 rfl) rfl
theorem q2305 : (Jvm.Cond.selects "ArcRecorder$Branch" ({ cls := "ArcRecorder$Branch", name := "suspects", desc := "(I)I" } : Jvm.MethodName) ({ cls := "ArcRecorder$Branch", name := "suspects", desc := "(I)I" } : Jvm.MethodName)) ∈ lw_all := lw_g (lw_at lw_m10 3 rfl) rfl
theorem q2306 : (Jvm.Cond.code ({ cls := "ArcRecorder$Branch", name := "suspects", desc := "(I)I" } : Jvm.MethodName) prog_3_method_4_code (4 : Nat) (Option.some Jvm.ClassFile.FieldType.int)) ∈ lw_all := lw_g (lw_at lw_m10 4 rfl) rfl
theorem q2307 : (Jvm.Cond.methodLink "ArcRecorder$Branch" (58 : Nat) ({ cls := "ArcRecorder$Branch", name := "was", desc := "(I)Z" } : Jvm.MethodName)) ∈ lw_all := lw_g (lw_at lw_m10 5 rfl) rfl
theorem q2308 : (Jvm.Cond.instanceMethod ({ cls := "ArcRecorder$Branch", name := "was", desc := "(I)Z" } : Jvm.MethodName)) ∈ lw_all := lw_g (lw_at lw_m10 6 rfl) rfl
theorem q2309 : (Jvm.Cond.selects "ArcRecorder$Branch" ({ cls := "ArcRecorder$Branch", name := "was", desc := "(I)Z" } : Jvm.MethodName) ({ cls := "ArcRecorder$Branch", name := "was", desc := "(I)Z" } : Jvm.MethodName)) ∈ lw_all := lw_g (lw_at lw_m10 7 rfl) rfl
theorem q2310 : (Jvm.Cond.code ({ cls := "ArcRecorder$Branch", name := "was", desc := "(I)Z" } : Jvm.MethodName) prog_3_method_3_code (2 : Nat) (Option.some Jvm.ClassFile.FieldType.boolean)) ∈ lw_all := lw_g (lw_at lw_m10 8 rfl) rfl
theorem q2421 : (Jvm.Cond.instanceMethod ({ cls := "ArcRecorder$Branch", name := "margin", desc := "(II)I" } : Jvm.MethodName)) ∈ lw_all := lw_g (lw_at lw_m10 119 rfl) rfl
theorem q2422 : (Jvm.Cond.selects "ArcRecorder$Branch" ({ cls := "ArcRecorder$Branch", name := "margin", desc := "(II)I" } : Jvm.MethodName) ({ cls := "ArcRecorder$Branch", name := "margin", desc := "(II)I" } : Jvm.MethodName)) ∈ lw_all := lw_g (lw_at lw_m10 120 rfl) rfl
theorem q2423 : (Jvm.Cond.code ({ cls := "ArcRecorder$Branch", name := "margin", desc := "(II)I" } : Jvm.MethodName) prog_3_method_5_code (4 : Nat) (Option.some Jvm.ClassFile.FieldType.int)) ∈ lw_all := lw_g (lw_at lw_m10 121 rfl) rfl
theorem q2424 : (Jvm.Cond.methodLink "ArcRecorder$Branch" (62 : Nat) ({ cls := "ArcRecorder$Branch", name := "suspects", desc := "(I)I" } : Jvm.MethodName)) ∈ lw_all := lw_g (lw_at lw_m10 122 rfl) rfl
theorem q3493 : (Jvm.Cond.castable "ArcRecorder$Branch" "java/lang/Object") ∈ lw_tbl := lw_at lw_m14 231 rfl
theorem in_X5 : ∀ w ∈ wsX50, w ∈ lw_all := lw_in wsX50 [719, 721, 723, 725, 727, 729, 731, 733, 735, 737, 739, 741] (by decide +kernel) (by decide +kernel)
/-! X6.ArcRecorderModel -/
def RX6 : String := "ArcRecorderModel"
def TX6 : u_T := fun k => match k with
  | 0 => ("ArcRecorderModel", "thrown", "I", false)
  | 1 => ("ArcRecorderModel", "net", "[I", true)
  | 2 => ("ArcRecorderModel", "draft", "[I", true)
  | 3 => ("ArcRecorderModel", "row", "[I", false)
  | 4 => ("ArcRecorderModel", "real", "[F", true)
  | 5 => ("ArcRecorderModel", "input", "[B", true)
  | 6 => ("ArcRecorderModel", "inputSize", "I", false)
  | 7 => ("ArcRecorderModel", "size", "I", false)
  | 8 => ("ArcRecorderModel", "next", "I", false)
  | 9 => ("ArcRecorderModel", "start", "I", false)
  | 10 => ("ArcRecorderModel", "token", "I", false)
  | 11 => ("ArcRecorderModel", "value", "I", false)
  | 12 => ("ArcRecorderModel", "errorFound", "I", false)
  | 13 => ("ArcRecorderModel", "errorPlace", "I", false)
  | 14 => ("ArcRecorderModel", "isSeeded", "Z", false)
  | 15 => ("ArcRecorderModel", "isOut", "[Z", true)
  | 16 => ("ArcRecorderModel", "starts", "[I", true)
  | 17 => ("ArcRecorderModel", "parts", "[F", true)
  | 18 => ("ArcRecorderModel", "asked", "[F", true)
  | 19 => ("ArcRecorderModel", "aside", "[I", true)
  | 20 => ("ArcRecorderModel", "asideReal", "[F", true)
  | 21 => ("ArcRecorderModel", "past", "[I", true)
  | 22 => ("ArcRecorderModel", "pastReal", "[F", true)
  | 23 => ("ArcRecorderModel", "remembered", "I", false)
  | 24 => ("ArcRecorderModel", "output", "[B", true)
  | _ => ("ArcRecorderModel", "outputSize", "I", false)
def tyX6 : Nat → FieldType := fun k => match k with
  | 0 => .int
  | 1 => .array .int
  | 2 => .array .int
  | 3 => .array .int
  | 4 => .array .float
  | 5 => .array .byte
  | 6 => .int
  | 7 => .int
  | 8 => .int
  | 9 => .int
  | 10 => .int
  | 11 => .int
  | 12 => .int
  | 13 => .int
  | 14 => .boolean
  | 15 => .array .boolean
  | 16 => .array .int
  | 17 => .array .float
  | 18 => .array .float
  | 19 => .array .int
  | 20 => .array .float
  | 21 => .array .int
  | 22 => .array .float
  | 23 => .int
  | 24 => .array .byte
  | _ => .int
abbrev wsX60 : List Cond := u_ws RX6 TX6 26
theorem nmX6 : ∀ a, a < 26 → ∀ b, b < 26 → a ≠ b → (TX6 a).2.1 ≠ (TX6 b).2.1 := by decide +kernel
theorem tyX6_ok : ∀ k, k < 26 → parseFieldDescriptor (TX6 k).2.2.1 = some (tyX6 k) := by decide +kernel
abbrev cX6_thrown : ByteArray := prog_26_method_1_code
def yX6_thrown : MethodName := ⟨RX6, "thrown", "()I"⟩
abbrev cX6_init : ByteArray := prog_26_method_7_code
def yX6_init : MethodName := ⟨RX6, "<init>", "()V"⟩
abbrev cX6_append : ByteArray := prog_26_method_20_code
def yX6_append : MethodName := ⟨RX6, "append", "(IIIII)I"⟩
abbrev cX6_passes : ByteArray := prog_26_method_6_code
def yX6_passes : MethodName := ⟨RX6, "passes", "(Z)Z"⟩
abbrev cX6_passes4 : ByteArray := prog_26_method_3_code
def yX6_passes4 : MethodName := ⟨RX6, "passes4", "(ZZZZ)Z"⟩
abbrev cX6_appendFour : ByteArray := prog_26_method_19_code
def yX6_appendFour : MethodName := ⟨RX6, "appendFour", "(I)V"⟩
abbrev cX6_truncate : ByteArray := prog_26_method_21_code
def yX6_truncate : MethodName := ⟨RX6, "truncate", "(I)V"⟩
abbrev cX6_in : ByteArray := prog_26_method_2_code
def yX6_in : MethodName := ⟨RX6, "in", "(JJJ)Z"⟩
abbrev cX6_load : ByteArray := prog_26_method_61_code
def yX6_load : MethodName := ⟨RX6, "load", "()I"⟩
abbrev cX6_scan : ByteArray := prog_26_method_25_code
def yX6_scan : MethodName := ⟨RX6, "scan", "()V"⟩
abbrev cX6_byteAt : ByteArray := prog_26_method_24_code
def yX6_byteAt : MethodName := ⟨RX6, "byteAt", "(I)I"⟩
abbrev cX6_parseRecorder : ByteArray := prog_26_method_48_code
def yX6_parseRecorder : MethodName := ⟨RX6, "parseRecorder", "()V"⟩
abbrev cX6_word : ByteArray := prog_26_method_33_code
def yX6_word : MethodName := ⟨RX6, "word", "(Ljava/lang/String;)V"⟩
abbrev cX6_isText : ByteArray := prog_26_method_28_code
def yX6_isText : MethodName := ⟨RX6, "isText", "(Ljava/lang/String;)Z"⟩
abbrev cX6_good : ByteArray := prog_26_method_22_code
def yX6_good : MethodName := ⟨RX6, "good", "()Z"⟩
abbrev cX6_isWord : ByteArray := prog_26_method_27_code
def yX6_isWord : MethodName := ⟨RX6, "isWord", "(Ljava/lang/String;)Z"⟩
abbrev cX6_errs : ByteArray := prog_26_method_23_code
def yX6_errs : MethodName := ⟨RX6, "errs", "(I)V"⟩
abbrev cX6_goOn : ByteArray := prog_26_method_26_code
def yX6_goOn : MethodName := ⟨RX6, "goOn", "()V"⟩
abbrev cX6_number : ByteArray := prog_26_method_35_code
def yX6_number : MethodName := ⟨RX6, "number", "(II)I"⟩
abbrev cX6_numberBehind : ByteArray := prog_26_method_36_code
def yX6_numberBehind : MethodName := ⟨RX6, "numberBehind", "(Ljava/lang/String;II)I"⟩
abbrev cX6_semicolon : ByteArray := prog_26_method_47_code
def yX6_semicolon : MethodName := ⟨RX6, "semicolon", "()V"⟩
abbrev cX6_isSymbol : ByteArray := prog_26_method_29_code
def yX6_isSymbol : MethodName := ⟨RX6, "isSymbol", "(C)Z"⟩
abbrev cX6_parseStatement : ByteArray := prog_26_method_60_code
def yX6_parseStatement : MethodName := ⟨RX6, "parseStatement", "()V"⟩
abbrev cX6_kindHere : ByteArray := prog_26_method_31_code
def yX6_kindHere : MethodName := ⟨RX6, "kindHere", "()I"⟩
abbrev cX6_parseLoad : ByteArray := prog_26_method_52_code
def yX6_parseLoad : MethodName := ⟨RX6, "parseLoad", "(I)V"⟩
abbrev cX6_begins : ByteArray := prog_26_method_46_code
def yX6_begins : MethodName := ⟨RX6, "begins", "(ZI)Z"⟩
abbrev cX6_checkName : ByteArray := prog_26_method_44_code
def yX6_checkName : MethodName := ⟨RX6, "checkName", "()V"⟩
abbrev cX6_isKeyword : ByteArray := prog_26_method_32_code
def yX6_isKeyword : MethodName := ⟨RX6, "isKeyword", "()Z"⟩
abbrev cX6_featureHere : ByteArray := prog_26_method_30_code
def yX6_featureHere : MethodName := ⟨RX6, "featureHere", "()I"⟩
abbrev cX6_isTaken : ByteArray := prog_26_method_43_code
def yX6_isTaken : MethodName := ⟨RX6, "isTaken", "()Z"⟩
abbrev cX6_branchNamed : ByteArray := prog_26_method_39_code
def yX6_branchNamed : MethodName := ⟨RX6, "branchNamed", "()I"⟩
abbrev cX6_thingNamed : ByteArray := prog_26_method_38_code
def yX6_thingNamed : MethodName := ⟨RX6, "thingNamed", "(III)I"⟩
abbrev cX6_letter : ByteArray := prog_26_method_37_code
def yX6_letter : MethodName := ⟨RX6, "letter", "(I)I"⟩
abbrev cX6_loadNamed : ByteArray := prog_26_method_40_code
def yX6_loadNamed : MethodName := ⟨RX6, "loadNamed", "()I"⟩
abbrev cX6_signatureNamed : ByteArray := prog_26_method_41_code
def yX6_signatureNamed : MethodName := ⟨RX6, "signatureNamed", "()I"⟩
abbrev cX6_nuisanceNamed : ByteArray := prog_26_method_42_code
def yX6_nuisanceNamed : MethodName := ⟨RX6, "nuisanceNamed", "()I"⟩
abbrev cX6_keepName : ByteArray := prog_26_method_45_code
def yX6_keepName : MethodName := ⟨RX6, "keepName", "(I)V"⟩
abbrev cX6_setLoad : ByteArray := prog_26_method_51_code
def yX6_setLoad : MethodName := ⟨RX6, "setLoad", "(III)V"⟩
abbrev cX6_reference : ByteArray := prog_26_method_50_code
def yX6_reference : MethodName := ⟨RX6, "reference", "(I)I"⟩
abbrev cX6_parseBranch : ByteArray := prog_26_method_49_code
def yX6_parseBranch : MethodName := ⟨RX6, "parseBranch", "()V"⟩
abbrev cX6_setBranch : ByteArray := prog_26_method_9_code
def yX6_setBranch : MethodName := ⟨RX6, "setBranch", "(III)V"⟩
abbrev cX6_parseSeed : ByteArray := prog_26_method_59_code
def yX6_parseSeed : MethodName := ⟨RX6, "parseSeed", "()V"⟩
abbrev cX6_parseSignature : ByteArray := prog_26_method_55_code
def yX6_parseSignature : MethodName := ⟨RX6, "parseSignature", "()V"⟩
abbrev cX6_takes : ByteArray := prog_26_method_34_code
def yX6_takes : MethodName := ⟨RX6, "takes", "(Ljava/lang/String;)Z"⟩
abbrev cX6_parseTests : ByteArray := prog_26_method_54_code
def yX6_parseTests : MethodName := ⟨RX6, "parseTests", "(I)V"⟩
abbrev cX6_parseTest : ByteArray := prog_26_method_53_code
def yX6_parseTest : MethodName := ⟨RX6, "parseTest", "(I)V"⟩
abbrev cX6_parseNuisance : ByteArray := prog_26_method_56_code
def yX6_parseNuisance : MethodName := ⟨RX6, "parseNuisance", "()V"⟩
abbrev cX6_parsePlan : ByteArray := prog_26_method_58_code
def yX6_parsePlan : MethodName := ⟨RX6, "parsePlan", "()V"⟩
abbrev cX6_layPlan : ByteArray := prog_26_method_57_code
def yX6_layPlan : MethodName := ⟨RX6, "layPlan", "(III)V"⟩
abbrev cX6_remember : ByteArray := prog_26_method_139_code
def yX6_remember : MethodName := ⟨RX6, "remember", "()V"⟩
abbrev cX6_errorCode : ByteArray := prog_26_method_62_code
def yX6_errorCode : MethodName := ⟨RX6, "errorCode", "()I"⟩
abbrev cX6_errorPosition : ByteArray := prog_26_method_63_code
def yX6_errorPosition : MethodName := ⟨RX6, "errorPosition", "()I"⟩
abbrev cX6_find : ByteArray := prog_26_method_65_code
def yX6_find : MethodName := ⟨RX6, "find", "()I"⟩
abbrev cX6_looksAtWord : ByteArray := prog_26_method_64_code
def yX6_looksAtWord : MethodName := ⟨RX6, "looksAtWord", "()Z"⟩
abbrev cX6_count : ByteArray := prog_26_method_66_code
def yX6_count : MethodName := ⟨RX6, "count", "(I)I"⟩
abbrev cX6_now : ByteArray := prog_26_method_67_code
def yX6_now : MethodName := ⟨RX6, "now", "()I"⟩
abbrev cX6_rated : ByteArray := prog_26_method_68_code
def yX6_rated : MethodName := ⟨RX6, "rated", "(I)I"⟩
abbrev cX6_isBranch : ByteArray := prog_26_method_12_code
def yX6_isBranch : MethodName := ⟨RX6, "isBranch", "(I)Z"⟩
abbrev cX6_ofBranch : ByteArray := prog_26_method_8_code
def yX6_ofBranch : MethodName := ⟨RX6, "ofBranch", "(II)I"⟩
abbrev cX6_loadOf : ByteArray := prog_26_method_69_code
def yX6_loadOf : MethodName := ⟨RX6, "loadOf", "(II)I"⟩
abbrev cX6_isLoad : ByteArray := prog_26_method_13_code
def yX6_isLoad : MethodName := ⟨RX6, "isLoad", "(I)Z"⟩
abbrev cX6_passes2 : ByteArray := prog_26_method_5_code
def yX6_passes2 : MethodName := ⟨RX6, "passes2", "(ZZ)Z"⟩
abbrev cX6_ofLoad : ByteArray := prog_26_method_10_code
def yX6_ofLoad : MethodName := ⟨RX6, "ofLoad", "(II)I"⟩
abbrev cX6_isOn : ByteArray := prog_26_method_70_code
def yX6_isOn : MethodName := ⟨RX6, "isOn", "(I)Z"⟩
abbrev cX6_setOn : ByteArray := prog_26_method_71_code
def yX6_setOn : MethodName := ⟨RX6, "setOn", "(IZ)Z"⟩
abbrev cX6_plan : ByteArray := prog_26_method_72_code
def yX6_plan : MethodName := ⟨RX6, "plan", "(IIZ)I"⟩
abbrev cX6_passes3 : ByteArray := prog_26_method_4_code
def yX6_passes3 : MethodName := ⟨RX6, "passes3", "(ZZZ)Z"⟩
abbrev cX6_nextSwitch : ByteArray := prog_26_method_73_code
def yX6_nextSwitch : MethodName := ⟨RX6, "nextSwitch", "(I)I"⟩
abbrev cX6_state : ByteArray := prog_26_method_74_code
def yX6_state : MethodName := ⟨RX6, "state", "(I)I"⟩
abbrev cX6_run : ByteArray := prog_26_method_97_code
def yX6_run : MethodName := ⟨RX6, "run", "(I)I"⟩
abbrev cX6_pass : ByteArray := prog_26_method_95_code
def yX6_pass : MethodName := ⟨RX6, "pass", "()I"⟩
abbrev cX6_doSwitches : ByteArray := prog_26_method_75_code
def yX6_doSwitches : MethodName := ⟨RX6, "doSwitches", "()V"⟩
abbrev cX6_drawArcs : ByteArray := prog_26_method_77_code
def yX6_drawArcs : MethodName := ⟨RX6, "drawArcs", "()V"⟩
abbrev cX6_isClosed : ByteArray := prog_26_method_16_code
def yX6_isClosed : MethodName := ⟨RX6, "isClosed", "(I)Z"⟩
abbrev cX6_draw : ByteArray := prog_26_method_76_code
def yX6_draw : MethodName := ⟨RX6, "draw", "()I"⟩
abbrev cX6_passBranch : ByteArray := prog_26_method_94_code
def yX6_passBranch : MethodName := ⟨RX6, "passBranch", "(I)Z"⟩
abbrev cX6_laySamples : ByteArray := prog_26_method_83_code
def yX6_laySamples : MethodName := ⟨RX6, "laySamples", "(I)V"⟩
abbrev cX6_sampleNow : ByteArray := prog_26_method_81_code
def yX6_sampleNow : MethodName := ⟨RX6, "sampleNow", "(II)F"⟩
abbrev cX6_plainAt : ByteArray := prog_26_method_80_code
def yX6_plainAt : MethodName := ⟨RX6, "plainAt", "(II)F"⟩
abbrev cX6_shape : ByteArray := prog_26_method_78_code
def yX6_shape : MethodName := ⟨RX6, "shape", "(I)F"⟩
abbrev cX6_arcAt : ByteArray := prog_26_method_79_code
def yX6_arcAt : MethodName := ⟨RX6, "arcAt", "(IIIF)F"⟩
abbrev cX6_layFeatures : ByteArray := prog_26_method_84_code
def yX6_layFeatures : MethodName := ⟨RX6, "layFeatures", "(I)V"⟩
abbrev cX6_size : ByteArray := prog_26_method_82_code
def yX6_size : MethodName := ⟨RX6, "size", "(F)F"⟩
abbrev cX6_judge : ByteArray := prog_26_method_90_code
def yX6_judge : MethodName := ⟨RX6, "judge", "(I)V"⟩
abbrev cX6_featureOf : ByteArray := prog_26_method_11_code
def yX6_featureOf : MethodName := ⟨RX6, "featureOf", "(II)F"⟩
abbrev cX6_matchAll : ByteArray := prog_26_method_86_code
def yX6_matchAll : MethodName := ⟨RX6, "matchAll", "(II)I"⟩
abbrev cX6_holds : ByteArray := prog_26_method_85_code
def yX6_holds : MethodName := ⟨RX6, "holds", "(I)Z"⟩
abbrev cX6_firstOf : ByteArray := prog_26_method_88_code
def yX6_firstOf : MethodName := ⟨RX6, "firstOf", "(IZ)I"⟩
abbrev cX6_isAlwaysOne : ByteArray := prog_26_method_87_code
def yX6_isAlwaysOne : MethodName := ⟨RX6, "isAlwaysOne", "(I)Z"⟩
abbrev cX6_pushFlag : ByteArray := prog_26_method_89_code
def yX6_pushFlag : MethodName := ⟨RX6, "pushFlag", "(IZ)V"⟩
abbrev cX6_trip : ByteArray := prog_26_method_93_code
def yX6_trip : MethodName := ⟨RX6, "trip", "(II)V"⟩
abbrev cX6_windowOf : ByteArray := prog_26_method_91_code
def yX6_windowOf : MethodName := ⟨RX6, "windowOf", "(I)I"⟩
abbrev cX6_suspectsOf : ByteArray := prog_26_method_92_code
def yX6_suspectsOf : MethodName := ⟨RX6, "suspectsOf", "(II)I"⟩
abbrev cX6_bitCount : ByteArray := prog_26_method_96_code
def yX6_bitCount : MethodName := ⟨RX6, "bitCount", "(I)I"⟩
abbrev cX6_sample : ByteArray := prog_26_method_98_code
def yX6_sample : MethodName := ⟨RX6, "sample", "(II)F"⟩
abbrev cX6_hasHad : ByteArray := prog_26_method_17_code
def yX6_hasHad : MethodName := ⟨RX6, "hasHad", "(I)Z"⟩
abbrev cX6_feature : ByteArray := prog_26_method_100_code
def yX6_feature : MethodName := ⟨RX6, "feature", "(II)F"⟩
abbrev cX6_isFeature : ByteArray := prog_26_method_99_code
def yX6_isFeature : MethodName := ⟨RX6, "isFeature", "(I)Z"⟩
abbrev cX6_matching : ByteArray := prog_26_method_101_code
def yX6_matching : MethodName := ⟨RX6, "matching", "(I)I"⟩
abbrev cX6_hiding : ByteArray := prog_26_method_102_code
def yX6_hiding : MethodName := ⟨RX6, "hiding", "(I)I"⟩
abbrev cX6_isSuspect : ByteArray := prog_26_method_103_code
def yX6_isSuspect : MethodName := ⟨RX6, "isSuspect", "(I)Z"⟩
abbrev cX6_suspects : ByteArray := prog_26_method_104_code
def yX6_suspects : MethodName := ⟨RX6, "suspects", "(I)I"⟩
abbrev cX6_wasSuspect : ByteArray := prog_26_method_105_code
def yX6_wasSuspect : MethodName := ⟨RX6, "wasSuspect", "(II)Z"⟩
abbrev cX6_margin : ByteArray := prog_26_method_107_code
def yX6_margin : MethodName := ⟨RX6, "margin", "(I)I"⟩
abbrev cX6_marginOf : ByteArray := prog_26_method_106_code
def yX6_marginOf : MethodName := ⟨RX6, "marginOf", "(I)I"⟩
abbrev cX6_hits : ByteArray := prog_26_method_108_code
def yX6_hits : MethodName := ⟨RX6, "hits", "(I)I"⟩
abbrev cX6_isSignature : ByteArray := prog_26_method_14_code
def yX6_isSignature : MethodName := ⟨RX6, "isSignature", "(I)Z"⟩
abbrev cX6_isAlways : ByteArray := prog_26_method_109_code
def yX6_isAlways : MethodName := ⟨RX6, "isAlways", "(I)Z"⟩
abbrev cX6_nuisanceHits : ByteArray := prog_26_method_110_code
def yX6_nuisanceHits : MethodName := ⟨RX6, "nuisanceHits", "(I)I"⟩
abbrev cX6_isNuisance : ByteArray := prog_26_method_15_code
def yX6_isNuisance : MethodName := ⟨RX6, "isNuisance", "(I)Z"⟩
abbrev cX6_wouldMatch : ByteArray := prog_26_method_111_code
def yX6_wouldMatch : MethodName := ⟨RX6, "wouldMatch", "(IFFFFF)Z"⟩
abbrev cX6_learn : ByteArray := prog_26_method_113_code
def yX6_learn : MethodName := ⟨RX6, "learn", "(I)I"⟩
abbrev cX6_layTest : ByteArray := prog_26_method_112_code
def yX6_layTest : MethodName := ⟨RX6, "layTest", "(IIIII)V"⟩
abbrev cX6_forget : ByteArray := prog_26_method_114_code
def yX6_forget : MethodName := ⟨RX6, "forget", "(I)I"⟩
abbrev cX6_setLimits : ByteArray := prog_26_method_115_code
def yX6_setLimits : MethodName := ⟨RX6, "setLimits", "(II)I"⟩
abbrev cX6_reset : ByteArray := prog_26_method_116_code
def yX6_reset : MethodName := ⟨RX6, "reset", "(I)I"⟩
abbrev cX6_service : ByteArray := prog_26_method_117_code
def yX6_service : MethodName := ⟨RX6, "service", "(I)I"⟩
abbrev cX6_test : ByteArray := prog_26_method_118_code
def yX6_test : MethodName := ⟨RX6, "test", "(I)I"⟩
abbrev cX6_isTested : ByteArray := prog_26_method_119_code
def yX6_isTested : MethodName := ⟨RX6, "isTested", "(I)Z"⟩
abbrev cX6_losePower : ByteArray := prog_26_method_120_code
def yX6_losePower : MethodName := ⟨RX6, "losePower", "()I"⟩
abbrev cX6_trips : ByteArray := prog_26_method_121_code
def yX6_trips : MethodName := ⟨RX6, "trips", "(I)I"⟩
abbrev cX6_memoryCount : ByteArray := prog_26_method_122_code
def yX6_memoryCount : MethodName := ⟨RX6, "memoryCount", "()I"⟩
abbrev cX6_memory : ByteArray := prog_26_method_124_code
def yX6_memory : MethodName := ⟨RX6, "memory", "(II)I"⟩
abbrev cX6_isTrip : ByteArray := prog_26_method_18_code
def yX6_isTrip : MethodName := ⟨RX6, "isTrip", "(I)Z"⟩
abbrev cX6_ofTrip : ByteArray := prog_26_method_123_code
def yX6_ofTrip : MethodName := ⟨RX6, "ofTrip", "(II)I"⟩
abbrev cX6_named : ByteArray := prog_26_method_125_code
def yX6_named : MethodName := ⟨RX6, "named", "(II)I"⟩
abbrev cX6_peakOf : ByteArray := prog_26_method_126_code
def yX6_peakOf : MethodName := ⟨RX6, "peakOf", "(I)F"⟩
abbrev cX6_clearMemory : ByteArray := prog_26_method_127_code
def yX6_clearMemory : MethodName := ⟨RX6, "clearMemory", "()I"⟩
abbrev cX6_tripIn : ByteArray := prog_26_method_131_code
def yX6_tripIn : MethodName := ⟨RX6, "tripIn", "(I)I"⟩
abbrev cX6_beginThought : ByteArray := prog_26_method_128_code
def yX6_beginThought : MethodName := ⟨RX6, "beginThought", "()V"⟩
abbrev cX6_tripAfter : ByteArray := prog_26_method_130_code
def yX6_tripAfter : MethodName := ⟨RX6, "tripAfter", "(II)I"⟩
abbrev cX6_endThought : ByteArray := prog_26_method_129_code
def yX6_endThought : MethodName := ⟨RX6, "endThought", "()V"⟩
abbrev cX6_tripping : ByteArray := prog_26_method_132_code
def yX6_tripping : MethodName := ⟨RX6, "tripping", "(I)I"⟩
abbrev cX6_featureAfter : ByteArray := prog_26_method_133_code
def yX6_featureAfter : MethodName := ⟨RX6, "featureAfter", "(III)F"⟩
abbrev cX6_culprit : ByteArray := prog_26_method_134_code
def yX6_culprit : MethodName := ⟨RX6, "culprit", "(I)I"⟩
abbrev cX6_hitsAhead : ByteArray := prog_26_method_135_code
def yX6_hitsAhead : MethodName := ⟨RX6, "hitsAhead", "(I)I"⟩
abbrev cX6_largestCount : ByteArray := prog_26_method_136_code
def yX6_largestCount : MethodName := ⟨RX6, "largestCount", "(I)I"⟩
abbrev cX6_totalMean : ByteArray := prog_26_method_137_code
def yX6_totalMean : MethodName := ⟨RX6, "totalMean", "()F"⟩
abbrev cX6_loadSample : ByteArray := prog_26_method_138_code
def yX6_loadSample : MethodName := ⟨RX6, "loadSample", "(II)F"⟩
abbrev cX6_undo : ByteArray := prog_26_method_140_code
def yX6_undo : MethodName := ⟨RX6, "undo", "()I"⟩
abbrev cX6_undoCount : ByteArray := prog_26_method_141_code
def yX6_undoCount : MethodName := ⟨RX6, "undoCount", "()I"⟩
abbrev cX6_writeTrip : ByteArray := prog_26_method_144_code
def yX6_writeTrip : MethodName := ⟨RX6, "writeTrip", "(I)I"⟩
abbrev cX6_write : ByteArray := prog_26_method_142_code
def yX6_write : MethodName := ⟨RX6, "write", "(I)V"⟩
abbrev cX6_writeNumber : ByteArray := prog_26_method_143_code
def yX6_writeNumber : MethodName := ⟨RX6, "writeNumber", "(I)V"⟩
abbrev cX6_outputByte : ByteArray := prog_26_method_145_code
def yX6_outputByte : MethodName := ⟨RX6, "outputByte", "(I)I"⟩
theorem q171 : (Jvm.Cond.initialized "ArcRecorderModel") ∈ lw_all := lw_g (lw_at lw_m1 29 rfl) rfl
theorem q792 : (Jvm.Cond.selects "ArcRecorderModel" ({ cls := "java/lang/Object", name := "getClass", desc := "()Ljava/lang/Class;" } : Jvm.MethodName) ({ cls := "java/lang/Object", name := "getClass", desc := "()Ljava/lang/Class;" } : Jvm.MethodName)) ∈ lw_all := lw_g (lw_at lw_m3 170 rfl) rfl
theorem q1237 : (Jvm.Cond.selects "ArcRecorderModel" ({ cls := "java/lang/Object", name := "equals", desc := "(Ljava/lang/Object;)Z" } : Jvm.MethodName) ({ cls := "java/lang/Object", name := "equals", desc := "(Ljava/lang/Object;)Z" } : Jvm.MethodName)) ∈ lw_all := lw_g (lw_at lw_m5 135 rfl) rfl
theorem q2740 : (Jvm.Cond.instanceMethod ({ cls := "ArcRecorderModel", name := "thrown", desc := "()I" } : Jvm.MethodName)) ∈ lw_all := lw_g (lw_at lw_m11 198 rfl) rfl
theorem q2741 : (Jvm.Cond.selects "ArcRecorderModel" ({ cls := "ArcRecorderModel", name := "thrown", desc := "()I" } : Jvm.MethodName) ({ cls := "ArcRecorderModel", name := "thrown", desc := "()I" } : Jvm.MethodName)) ∈ lw_all := lw_g (lw_at lw_m11 199 rfl) rfl
theorem q2742 : (Jvm.Cond.code ({ cls := "ArcRecorderModel", name := "thrown", desc := "()I" } : Jvm.MethodName) prog_26_method_1_code (1 : Nat) (Option.some Jvm.ClassFile.FieldType.int)) ∈ lw_all := lw_g (lw_at lw_m11 200 rfl) rfl
theorem q2744 : (Jvm.Cond.instantiable "ArcRecorderModel" (26 : Nat)) ∈ lw_all := lw_g (lw_at lw_m11 202 rfl) rfl
theorem q2746 : (Jvm.Cond.instanceMethod ({ cls := "ArcRecorderModel", name := "<init>", desc := "()V" } : Jvm.MethodName)) ∈ lw_all := lw_g (lw_at lw_m11 204 rfl) rfl
theorem q2747 : (Jvm.Cond.code ({ cls := "ArcRecorderModel", name := "<init>", desc := "()V" } : Jvm.MethodName) prog_26_method_7_code (1 : Nat) (Option.none : Option Jvm.ClassFile.FieldType)) ∈ lw_all := lw_g (lw_at lw_m11 205 rfl) rfl
theorem q2748 : (Jvm.Cond.methodLink "ArcRecorderModel" (11 : Nat) ({ cls := "java/lang/Object", name := "<init>", desc := "()V" } : Jvm.MethodName)) ∈ lw_all := lw_g (lw_at lw_m11 206 rfl) rfl
theorem q2749 : (Jvm.Cond.fieldLink "ArcRecorderModel" (3 : Nat) "ArcRecorderModel" "thrown" "I") ∈ lw_all := lw_g (lw_at lw_m11 207 rfl) rfl
theorem q2750 : (Jvm.Cond.fieldLink "ArcRecorderModel" (17 : Nat) "ArcRecorderModel" "net" "[I") ∈ lw_all := lw_g (lw_at lw_m11 208 rfl) rfl
theorem q2751 : (Jvm.Cond.fieldLink "ArcRecorderModel" (21 : Nat) "ArcRecorderModel" "draft" "[I") ∈ lw_all := lw_g (lw_at lw_m11 209 rfl) rfl
theorem q2752 : (Jvm.Cond.fieldLink "ArcRecorderModel" (24 : Nat) "ArcRecorderModel" "row" "[I") ∈ lw_all := lw_g (lw_at lw_m11 210 rfl) rfl
theorem q2753 : (Jvm.Cond.fieldLink "ArcRecorderModel" (27 : Nat) "ArcRecorderModel" "real" "[F") ∈ lw_all := lw_g (lw_at lw_m11 211 rfl) rfl
theorem q2754 : (Jvm.Cond.fieldLink "ArcRecorderModel" (31 : Nat) "ArcRecorderModel" "input" "[B") ∈ lw_all := lw_g (lw_at lw_m11 212 rfl) rfl
theorem q2755 : (Jvm.Cond.fieldLink "ArcRecorderModel" (74 : Nat) "ArcRecorderModel" "inputSize" "I") ∈ lw_all := lw_g (lw_at lw_m11 213 rfl) rfl
theorem q2756 : (Jvm.Cond.fieldLink "ArcRecorderModel" (95 : Nat) "ArcRecorderModel" "size" "I") ∈ lw_all := lw_g (lw_at lw_m11 214 rfl) rfl
theorem q2757 : (Jvm.Cond.fieldLink "ArcRecorderModel" (98 : Nat) "ArcRecorderModel" "next" "I") ∈ lw_all := lw_g (lw_at lw_m11 215 rfl) rfl
theorem q2758 : (Jvm.Cond.fieldLink "ArcRecorderModel" (92 : Nat) "ArcRecorderModel" "start" "I") ∈ lw_all := lw_g (lw_at lw_m11 216 rfl) rfl
theorem q2759 : (Jvm.Cond.fieldLink "ArcRecorderModel" (105 : Nat) "ArcRecorderModel" "token" "I") ∈ lw_all := lw_g (lw_at lw_m11 217 rfl) rfl
theorem q2760 : (Jvm.Cond.fieldLink "ArcRecorderModel" (116 : Nat) "ArcRecorderModel" "value" "I") ∈ lw_all := lw_g (lw_at lw_m11 218 rfl) rfl
theorem q2761 : (Jvm.Cond.fieldLink "ArcRecorderModel" (85 : Nat) "ArcRecorderModel" "errorFound" "I") ∈ lw_all := lw_g (lw_at lw_m11 219 rfl) rfl
theorem q2762 : (Jvm.Cond.fieldLink "ArcRecorderModel" (35 : Nat) "ArcRecorderModel" "errorPlace" "I") ∈ lw_all := lw_g (lw_at lw_m11 220 rfl) rfl
theorem q2763 : (Jvm.Cond.fieldLink "ArcRecorderModel" (293 : Nat) "ArcRecorderModel" "isSeeded" "Z") ∈ lw_all := lw_g (lw_at lw_m11 221 rfl) rfl
theorem q2764 : (Jvm.Cond.fieldLink "ArcRecorderModel" (38 : Nat) "ArcRecorderModel" "isOut" "[Z") ∈ lw_all := lw_g (lw_at lw_m11 222 rfl) rfl
theorem q2765 : (Jvm.Cond.fieldLink "ArcRecorderModel" (42 : Nat) "ArcRecorderModel" "starts" "[I") ∈ lw_all := lw_g (lw_at lw_m11 223 rfl) rfl
theorem q2766 : (Jvm.Cond.fieldLink "ArcRecorderModel" (45 : Nat) "ArcRecorderModel" "parts" "[F") ∈ lw_all := lw_g (lw_at lw_m11 224 rfl) rfl
theorem q2767 : (Jvm.Cond.fieldLink "ArcRecorderModel" (48 : Nat) "ArcRecorderModel" "asked" "[F") ∈ lw_all := lw_g (lw_at lw_m11 225 rfl) rfl
theorem q2768 : (Jvm.Cond.fieldLink "ArcRecorderModel" (51 : Nat) "ArcRecorderModel" "aside" "[I") ∈ lw_all := lw_g (lw_at lw_m11 226 rfl) rfl
theorem q2769 : (Jvm.Cond.fieldLink "ArcRecorderModel" (54 : Nat) "ArcRecorderModel" "asideReal" "[F") ∈ lw_all := lw_g (lw_at lw_m11 227 rfl) rfl
theorem q2770 : (Jvm.Cond.fieldLink "ArcRecorderModel" (57 : Nat) "ArcRecorderModel" "past" "[I") ∈ lw_all := lw_g (lw_at lw_m11 228 rfl) rfl
theorem q2771 : (Jvm.Cond.fieldLink "ArcRecorderModel" (60 : Nat) "ArcRecorderModel" "pastReal" "[F") ∈ lw_all := lw_g (lw_at lw_m11 229 rfl) rfl
theorem q2772 : (Jvm.Cond.fieldLink "ArcRecorderModel" (483 : Nat) "ArcRecorderModel" "remembered" "I") ∈ lw_all := lw_g (lw_at lw_m11 230 rfl) rfl
theorem q2773 : (Jvm.Cond.fieldLink "ArcRecorderModel" (63 : Nat) "ArcRecorderModel" "output" "[B") ∈ lw_all := lw_g (lw_at lw_m11 231 rfl) rfl
theorem q2774 : (Jvm.Cond.fieldLink "ArcRecorderModel" (486 : Nat) "ArcRecorderModel" "outputSize" "I") ∈ lw_all := lw_g (lw_at lw_m11 232 rfl) rfl
theorem q2775 : (Jvm.Cond.lays "ArcRecorderModel" "ArcRecorderModel" "thrown" "I") ∈ lw_all := lw_g (lw_at lw_m11 233 rfl) rfl
theorem q2776 : (Jvm.Cond.soleField "ArcRecorderModel" "thrown") ∈ lw_all := lw_g (lw_at lw_m11 234 rfl) rfl
theorem q2777 : (Jvm.Cond.laysFinal "ArcRecorderModel" "ArcRecorderModel" "net" "[I") ∈ lw_all := lw_g (lw_at lw_m11 235 rfl) rfl
theorem q2778 : (Jvm.Cond.soleField "ArcRecorderModel" "net") ∈ lw_all := lw_g (lw_at lw_m11 236 rfl) rfl
theorem q2779 : (Jvm.Cond.laysFinal "ArcRecorderModel" "ArcRecorderModel" "draft" "[I") ∈ lw_all := lw_g (lw_at lw_m11 237 rfl) rfl
theorem q2780 : (Jvm.Cond.soleField "ArcRecorderModel" "draft") ∈ lw_all := lw_g (lw_at lw_m11 238 rfl) rfl
theorem q2781 : (Jvm.Cond.lays "ArcRecorderModel" "ArcRecorderModel" "row" "[I") ∈ lw_all := lw_g (lw_at lw_m11 239 rfl) rfl
theorem q2782 : (Jvm.Cond.soleField "ArcRecorderModel" "row") ∈ lw_all := lw_g (lw_at lw_m12 0 rfl) rfl
theorem q2783 : (Jvm.Cond.laysFinal "ArcRecorderModel" "ArcRecorderModel" "real" "[F") ∈ lw_all := lw_g (lw_at lw_m12 1 rfl) rfl
theorem q2784 : (Jvm.Cond.soleField "ArcRecorderModel" "real") ∈ lw_all := lw_g (lw_at lw_m12 2 rfl) rfl
theorem q2785 : (Jvm.Cond.laysFinal "ArcRecorderModel" "ArcRecorderModel" "input" "[B") ∈ lw_all := lw_g (lw_at lw_m12 3 rfl) rfl
theorem q2786 : (Jvm.Cond.soleField "ArcRecorderModel" "input") ∈ lw_all := lw_g (lw_at lw_m12 4 rfl) rfl
theorem q2787 : (Jvm.Cond.lays "ArcRecorderModel" "ArcRecorderModel" "inputSize" "I") ∈ lw_all := lw_g (lw_at lw_m12 5 rfl) rfl
theorem q2788 : (Jvm.Cond.soleField "ArcRecorderModel" "inputSize") ∈ lw_all := lw_g (lw_at lw_m12 6 rfl) rfl
theorem q2789 : (Jvm.Cond.lays "ArcRecorderModel" "ArcRecorderModel" "size" "I") ∈ lw_all := lw_g (lw_at lw_m12 7 rfl) rfl
theorem q2790 : (Jvm.Cond.soleField "ArcRecorderModel" "size") ∈ lw_all := lw_g (lw_at lw_m12 8 rfl) rfl
theorem q2791 : (Jvm.Cond.lays "ArcRecorderModel" "ArcRecorderModel" "next" "I") ∈ lw_all := lw_g (lw_at lw_m12 9 rfl) rfl
theorem q2792 : (Jvm.Cond.soleField "ArcRecorderModel" "next") ∈ lw_all := lw_g (lw_at lw_m12 10 rfl) rfl
theorem q2793 : (Jvm.Cond.lays "ArcRecorderModel" "ArcRecorderModel" "start" "I") ∈ lw_all := lw_g (lw_at lw_m12 11 rfl) rfl
theorem q2794 : (Jvm.Cond.soleField "ArcRecorderModel" "start") ∈ lw_all := lw_g (lw_at lw_m12 12 rfl) rfl
theorem q2795 : (Jvm.Cond.lays "ArcRecorderModel" "ArcRecorderModel" "token" "I") ∈ lw_all := lw_g (lw_at lw_m12 13 rfl) rfl
theorem q2796 : (Jvm.Cond.soleField "ArcRecorderModel" "token") ∈ lw_all := lw_g (lw_at lw_m12 14 rfl) rfl
theorem q2797 : (Jvm.Cond.lays "ArcRecorderModel" "ArcRecorderModel" "value" "I") ∈ lw_all := lw_g (lw_at lw_m12 15 rfl) rfl
theorem q2798 : (Jvm.Cond.soleField "ArcRecorderModel" "value") ∈ lw_all := lw_g (lw_at lw_m12 16 rfl) rfl
theorem q2799 : (Jvm.Cond.lays "ArcRecorderModel" "ArcRecorderModel" "errorFound" "I") ∈ lw_all := lw_g (lw_at lw_m12 17 rfl) rfl
theorem q2800 : (Jvm.Cond.soleField "ArcRecorderModel" "errorFound") ∈ lw_all := lw_g (lw_at lw_m12 18 rfl) rfl
theorem q2801 : (Jvm.Cond.lays "ArcRecorderModel" "ArcRecorderModel" "errorPlace" "I") ∈ lw_all := lw_g (lw_at lw_m12 19 rfl) rfl
theorem q2802 : (Jvm.Cond.soleField "ArcRecorderModel" "errorPlace") ∈ lw_all := lw_g (lw_at lw_m12 20 rfl) rfl
theorem q2803 : (Jvm.Cond.lays "ArcRecorderModel" "ArcRecorderModel" "isSeeded" "Z") ∈ lw_all := lw_g (lw_at lw_m12 21 rfl) rfl
theorem q2804 : (Jvm.Cond.soleField "ArcRecorderModel" "isSeeded") ∈ lw_all := lw_g (lw_at lw_m12 22 rfl) rfl
theorem q2805 : (Jvm.Cond.laysFinal "ArcRecorderModel" "ArcRecorderModel" "isOut" "[Z") ∈ lw_all := lw_g (lw_at lw_m12 23 rfl) rfl
theorem q2806 : (Jvm.Cond.soleField "ArcRecorderModel" "isOut") ∈ lw_all := lw_g (lw_at lw_m12 24 rfl) rfl
theorem q2807 : (Jvm.Cond.laysFinal "ArcRecorderModel" "ArcRecorderModel" "starts" "[I") ∈ lw_all := lw_g (lw_at lw_m12 25 rfl) rfl
theorem q2808 : (Jvm.Cond.soleField "ArcRecorderModel" "starts") ∈ lw_all := lw_g (lw_at lw_m12 26 rfl) rfl
theorem q2809 : (Jvm.Cond.laysFinal "ArcRecorderModel" "ArcRecorderModel" "parts" "[F") ∈ lw_all := lw_g (lw_at lw_m12 27 rfl) rfl
theorem q2810 : (Jvm.Cond.soleField "ArcRecorderModel" "parts") ∈ lw_all := lw_g (lw_at lw_m12 28 rfl) rfl
theorem q2811 : (Jvm.Cond.laysFinal "ArcRecorderModel" "ArcRecorderModel" "asked" "[F") ∈ lw_all := lw_g (lw_at lw_m12 29 rfl) rfl
theorem q2812 : (Jvm.Cond.soleField "ArcRecorderModel" "asked") ∈ lw_all := lw_g (lw_at lw_m12 30 rfl) rfl
theorem q2813 : (Jvm.Cond.laysFinal "ArcRecorderModel" "ArcRecorderModel" "aside" "[I") ∈ lw_all := lw_g (lw_at lw_m12 31 rfl) rfl
theorem q2814 : (Jvm.Cond.soleField "ArcRecorderModel" "aside") ∈ lw_all := lw_g (lw_at lw_m12 32 rfl) rfl
theorem q2815 : (Jvm.Cond.laysFinal "ArcRecorderModel" "ArcRecorderModel" "asideReal" "[F") ∈ lw_all := lw_g (lw_at lw_m12 33 rfl) rfl
theorem q2816 : (Jvm.Cond.soleField "ArcRecorderModel" "asideReal") ∈ lw_all := lw_g (lw_at lw_m12 34 rfl) rfl
theorem q2817 : (Jvm.Cond.laysFinal "ArcRecorderModel" "ArcRecorderModel" "past" "[I") ∈ lw_all := lw_g (lw_at lw_m12 35 rfl) rfl
theorem q2818 : (Jvm.Cond.soleField "ArcRecorderModel" "past") ∈ lw_all := lw_g (lw_at lw_m12 36 rfl) rfl
theorem q2819 : (Jvm.Cond.laysFinal "ArcRecorderModel" "ArcRecorderModel" "pastReal" "[F") ∈ lw_all := lw_g (lw_at lw_m12 37 rfl) rfl
theorem q2820 : (Jvm.Cond.soleField "ArcRecorderModel" "pastReal") ∈ lw_all := lw_g (lw_at lw_m12 38 rfl) rfl
theorem q2821 : (Jvm.Cond.lays "ArcRecorderModel" "ArcRecorderModel" "remembered" "I") ∈ lw_all := lw_g (lw_at lw_m12 39 rfl) rfl
theorem q2822 : (Jvm.Cond.soleField "ArcRecorderModel" "remembered") ∈ lw_all := lw_g (lw_at lw_m12 40 rfl) rfl
theorem q2823 : (Jvm.Cond.laysFinal "ArcRecorderModel" "ArcRecorderModel" "output" "[B") ∈ lw_all := lw_g (lw_at lw_m12 41 rfl) rfl
theorem q2824 : (Jvm.Cond.soleField "ArcRecorderModel" "output") ∈ lw_all := lw_g (lw_at lw_m12 42 rfl) rfl
theorem q2825 : (Jvm.Cond.lays "ArcRecorderModel" "ArcRecorderModel" "outputSize" "I") ∈ lw_all := lw_g (lw_at lw_m12 43 rfl) rfl
theorem q2826 : (Jvm.Cond.soleField "ArcRecorderModel" "outputSize") ∈ lw_all := lw_g (lw_at lw_m12 44 rfl) rfl
theorem q2827 : (Jvm.Cond.superclass "ArcRecorderModel" "java/lang/Object") ∈ lw_all := lw_g (lw_at lw_m12 45 rfl) rfl
theorem q2829 : (Jvm.Cond.instanceMethod ({ cls := "ArcRecorderModel", name := "append", desc := "(IIIII)I" } : Jvm.MethodName)) ∈ lw_all := lw_g (lw_at lw_m12 47 rfl) rfl
theorem q2830 : (Jvm.Cond.selects "ArcRecorderModel" ({ cls := "ArcRecorderModel", name := "append", desc := "(IIIII)I" } : Jvm.MethodName) ({ cls := "ArcRecorderModel", name := "append", desc := "(IIIII)I" } : Jvm.MethodName)) ∈ lw_all := lw_g (lw_at lw_m12 48 rfl) rfl
theorem q2831 : (Jvm.Cond.code ({ cls := "ArcRecorderModel", name := "append", desc := "(IIIII)I" } : Jvm.MethodName) prog_26_method_20_code (6 : Nat) (Option.some Jvm.ClassFile.FieldType.int)) ∈ lw_all := lw_g (lw_at lw_m12 49 rfl) rfl
theorem q2832 : (Jvm.Cond.methodLink "ArcRecorderModel" (77 : Nat) ({ cls := "ArcRecorderModel", name := "passes", desc := "(Z)Z" } : Jvm.MethodName)) ∈ lw_all := lw_g (lw_at lw_m12 50 rfl) rfl
theorem q2833 : (Jvm.Cond.privateMethod ({ cls := "ArcRecorderModel", name := "passes", desc := "(Z)Z" } : Jvm.MethodName)) ∈ lw_tbl := lw_at lw_m12 51 rfl
theorem q2834 : (Jvm.Cond.instanceMethod ({ cls := "ArcRecorderModel", name := "passes", desc := "(Z)Z" } : Jvm.MethodName)) ∈ lw_all := lw_g (lw_at lw_m12 52 rfl) rfl
theorem q2835 : (Jvm.Cond.code ({ cls := "ArcRecorderModel", name := "passes", desc := "(Z)Z" } : Jvm.MethodName) prog_26_method_6_code (2 : Nat) (Option.some Jvm.ClassFile.FieldType.boolean)) ∈ lw_all := lw_g (lw_at lw_m12 53 rfl) rfl
theorem q2836 : (Jvm.Cond.methodLink "ArcRecorderModel" (7 : Nat) ({ cls := "ArcRecorderModel", name := "passes4", desc := "(ZZZZ)Z" } : Jvm.MethodName)) ∈ lw_all := lw_g (lw_at lw_m12 54 rfl) rfl
theorem q2837 : (Jvm.Cond.privateMethod ({ cls := "ArcRecorderModel", name := "passes4", desc := "(ZZZZ)Z" } : Jvm.MethodName)) ∈ lw_tbl := lw_at lw_m12 55 rfl
theorem q2838 : (Jvm.Cond.instanceMethod ({ cls := "ArcRecorderModel", name := "passes4", desc := "(ZZZZ)Z" } : Jvm.MethodName)) ∈ lw_all := lw_g (lw_at lw_m12 56 rfl) rfl
theorem q2839 : (Jvm.Cond.code ({ cls := "ArcRecorderModel", name := "passes4", desc := "(ZZZZ)Z" } : Jvm.MethodName) prog_26_method_3_code (5 : Nat) (Option.some Jvm.ClassFile.FieldType.boolean)) ∈ lw_all := lw_g (lw_at lw_m12 57 rfl) rfl
theorem q2840 : (Jvm.Cond.methodLink "ArcRecorderModel" (81 : Nat) ({ cls := "ArcRecorderModel", name := "appendFour", desc := "(I)V" } : Jvm.MethodName)) ∈ lw_all := lw_g (lw_at lw_m12 58 rfl) rfl
theorem q2841 : (Jvm.Cond.privateMethod ({ cls := "ArcRecorderModel", name := "appendFour", desc := "(I)V" } : Jvm.MethodName)) ∈ lw_tbl := lw_at lw_m12 59 rfl
theorem q2842 : (Jvm.Cond.instanceMethod ({ cls := "ArcRecorderModel", name := "appendFour", desc := "(I)V" } : Jvm.MethodName)) ∈ lw_all := lw_g (lw_at lw_m12 60 rfl) rfl
theorem q2843 : (Jvm.Cond.code ({ cls := "ArcRecorderModel", name := "appendFour", desc := "(I)V" } : Jvm.MethodName) prog_26_method_19_code (3 : Nat) (Option.none : Option Jvm.ClassFile.FieldType)) ∈ lw_all := lw_g (lw_at lw_m12 61 rfl) rfl
theorem q2845 : (Jvm.Cond.instanceMethod ({ cls := "ArcRecorderModel", name := "truncate", desc := "(I)V" } : Jvm.MethodName)) ∈ lw_all := lw_g (lw_at lw_m12 63 rfl) rfl
theorem q2846 : (Jvm.Cond.selects "ArcRecorderModel" ({ cls := "ArcRecorderModel", name := "truncate", desc := "(I)V" } : Jvm.MethodName) ({ cls := "ArcRecorderModel", name := "truncate", desc := "(I)V" } : Jvm.MethodName)) ∈ lw_all := lw_g (lw_at lw_m12 64 rfl) rfl
theorem q2847 : (Jvm.Cond.code ({ cls := "ArcRecorderModel", name := "truncate", desc := "(I)V" } : Jvm.MethodName) prog_26_method_21_code (2 : Nat) (Option.none : Option Jvm.ClassFile.FieldType)) ∈ lw_all := lw_g (lw_at lw_m12 65 rfl) rfl
theorem q2848 : (Jvm.Cond.methodLink "ArcRecorderModel" (66 : Nat) ({ cls := "ArcRecorderModel", name := "in", desc := "(JJJ)Z" } : Jvm.MethodName)) ∈ lw_all := lw_g (lw_at lw_m12 66 rfl) rfl
theorem q2849 : (Jvm.Cond.static ({ cls := "ArcRecorderModel", name := "in", desc := "(JJJ)Z" } : Jvm.MethodName)) ∈ lw_all := lw_g (lw_at lw_m12 67 rfl) rfl
theorem q2850 : (Jvm.Cond.code ({ cls := "ArcRecorderModel", name := "in", desc := "(JJJ)Z" } : Jvm.MethodName) prog_26_method_2_code (6 : Nat) (Option.some Jvm.ClassFile.FieldType.boolean)) ∈ lw_all := lw_g (lw_at lw_m12 68 rfl) rfl
theorem q2852 : (Jvm.Cond.instanceMethod ({ cls := "ArcRecorderModel", name := "load", desc := "()I" } : Jvm.MethodName)) ∈ lw_all := lw_g (lw_at lw_m12 70 rfl) rfl
theorem q2853 : (Jvm.Cond.selects "ArcRecorderModel" ({ cls := "ArcRecorderModel", name := "load", desc := "()I" } : Jvm.MethodName) ({ cls := "ArcRecorderModel", name := "load", desc := "()I" } : Jvm.MethodName)) ∈ lw_all := lw_g (lw_at lw_m12 71 rfl) rfl
theorem q2854 : (Jvm.Cond.code ({ cls := "ArcRecorderModel", name := "load", desc := "()I" } : Jvm.MethodName) prog_26_method_61_code (2 : Nat) (Option.some Jvm.ClassFile.FieldType.int)) ∈ lw_all := lw_g (lw_at lw_m12 72 rfl) rfl
theorem q2855 : (Jvm.Cond.methodLink "ArcRecorderModel" (125 : Nat) ({ cls := "ArcRecorderModel", name := "scan", desc := "()V" } : Jvm.MethodName)) ∈ lw_all := lw_g (lw_at lw_m12 73 rfl) rfl
theorem q2856 : (Jvm.Cond.privateMethod ({ cls := "ArcRecorderModel", name := "scan", desc := "()V" } : Jvm.MethodName)) ∈ lw_tbl := lw_at lw_m12 74 rfl
theorem q2857 : (Jvm.Cond.instanceMethod ({ cls := "ArcRecorderModel", name := "scan", desc := "()V" } : Jvm.MethodName)) ∈ lw_all := lw_g (lw_at lw_m12 75 rfl) rfl
theorem q2858 : (Jvm.Cond.code ({ cls := "ArcRecorderModel", name := "scan", desc := "()V" } : Jvm.MethodName) prog_26_method_25_code (2 : Nat) (Option.none : Option Jvm.ClassFile.FieldType)) ∈ lw_all := lw_g (lw_at lw_m12 76 rfl) rfl
theorem q2859 : (Jvm.Cond.methodLink "ArcRecorderModel" (101 : Nat) ({ cls := "ArcRecorderModel", name := "byteAt", desc := "(I)I" } : Jvm.MethodName)) ∈ lw_all := lw_g (lw_at lw_m12 77 rfl) rfl
theorem q2860 : (Jvm.Cond.privateMethod ({ cls := "ArcRecorderModel", name := "byteAt", desc := "(I)I" } : Jvm.MethodName)) ∈ lw_tbl := lw_at lw_m12 78 rfl
theorem q2861 : (Jvm.Cond.instanceMethod ({ cls := "ArcRecorderModel", name := "byteAt", desc := "(I)I" } : Jvm.MethodName)) ∈ lw_all := lw_g (lw_at lw_m12 79 rfl) rfl
theorem q2862 : (Jvm.Cond.code ({ cls := "ArcRecorderModel", name := "byteAt", desc := "(I)I" } : Jvm.MethodName) prog_26_method_24_code (2 : Nat) (Option.some Jvm.ClassFile.FieldType.int)) ∈ lw_all := lw_g (lw_at lw_m12 80 rfl) rfl
theorem q2863 : (Jvm.Cond.constantLong "ArcRecorderModel" (108 : Nat) (97 : Int64)) ∈ lw_all := lw_g (lw_at lw_m12 81 rfl) rfl
theorem q2864 : (Jvm.Cond.constantLong "ArcRecorderModel" (110 : Nat) (122 : Int64)) ∈ lw_all := lw_g (lw_at lw_m12 82 rfl) rfl
theorem q2865 : (Jvm.Cond.constantLong "ArcRecorderModel" (112 : Nat) (48 : Int64)) ∈ lw_all := lw_g (lw_at lw_m12 83 rfl) rfl
theorem q2866 : (Jvm.Cond.constantLong "ArcRecorderModel" (114 : Nat) (57 : Int64)) ∈ lw_all := lw_g (lw_at lw_m12 84 rfl) rfl
theorem q2867 : (Jvm.Cond.constant "ArcRecorderModel" (119 : Nat) (999999 : Int32)) ∈ lw_all := lw_g (lw_at lw_m12 85 rfl) rfl
theorem q2868 : (Jvm.Cond.methodLink "ArcRecorderModel" (120 : Nat) ({ cls := "java/lang/Math", name := "min", desc := "(II)I" } : Jvm.MethodName)) ∈ lw_all := lw_g (lw_at lw_m12 86 rfl) rfl
theorem q2869 : (Jvm.Cond.methodLink "ArcRecorderModel" (315 : Nat) ({ cls := "ArcRecorderModel", name := "parseRecorder", desc := "()V" } : Jvm.MethodName)) ∈ lw_all := lw_g (lw_at lw_m12 87 rfl) rfl
theorem q2870 : (Jvm.Cond.privateMethod ({ cls := "ArcRecorderModel", name := "parseRecorder", desc := "()V" } : Jvm.MethodName)) ∈ lw_tbl := lw_at lw_m12 88 rfl
theorem q2871 : (Jvm.Cond.instanceMethod ({ cls := "ArcRecorderModel", name := "parseRecorder", desc := "()V" } : Jvm.MethodName)) ∈ lw_all := lw_g (lw_at lw_m12 89 rfl) rfl
theorem q2872 : (Jvm.Cond.code ({ cls := "ArcRecorderModel", name := "parseRecorder", desc := "()V" } : Jvm.MethodName) prog_26_method_48_code (1 : Nat) (Option.none : Option Jvm.ClassFile.FieldType)) ∈ lw_all := lw_g (lw_at lw_m12 90 rfl) rfl
theorem q2873 : (Jvm.Cond.stringRef "ArcRecorderModel" (162 : Nat) "recorder") ∈ lw_tbl := lw_at lw_m12 91 rfl
theorem q2874 : (Jvm.Cond.methodLink "ArcRecorderModel" (217 : Nat) ({ cls := "ArcRecorderModel", name := "word", desc := "(Ljava/lang/String;)V" } : Jvm.MethodName)) ∈ lw_all := lw_g (lw_at lw_m12 92 rfl) rfl
theorem q2875 : (Jvm.Cond.privateMethod ({ cls := "ArcRecorderModel", name := "word", desc := "(Ljava/lang/String;)V" } : Jvm.MethodName)) ∈ lw_tbl := lw_at lw_m12 93 rfl
theorem q2876 : (Jvm.Cond.instanceMethod ({ cls := "ArcRecorderModel", name := "word", desc := "(Ljava/lang/String;)V" } : Jvm.MethodName)) ∈ lw_all := lw_g (lw_at lw_m12 94 rfl) rfl
theorem q2877 : (Jvm.Cond.code ({ cls := "ArcRecorderModel", name := "word", desc := "(Ljava/lang/String;)V" } : Jvm.MethodName) prog_26_method_33_code (2 : Nat) (Option.none : Option Jvm.ClassFile.FieldType)) ∈ lw_all := lw_g (lw_at lw_m12 95 rfl) rfl
theorem q2878 : (Jvm.Cond.methodLink "ArcRecorderModel" (208 : Nat) ({ cls := "ArcRecorderModel", name := "isText", desc := "(Ljava/lang/String;)Z" } : Jvm.MethodName)) ∈ lw_all := lw_g (lw_at lw_m12 96 rfl) rfl
theorem q2879 : (Jvm.Cond.privateMethod ({ cls := "ArcRecorderModel", name := "isText", desc := "(Ljava/lang/String;)Z" } : Jvm.MethodName)) ∈ lw_tbl := lw_at lw_m12 97 rfl
theorem q2880 : (Jvm.Cond.instanceMethod ({ cls := "ArcRecorderModel", name := "isText", desc := "(Ljava/lang/String;)Z" } : Jvm.MethodName)) ∈ lw_all := lw_g (lw_at lw_m12 98 rfl) rfl
theorem q2881 : (Jvm.Cond.code ({ cls := "ArcRecorderModel", name := "isText", desc := "(Ljava/lang/String;)Z" } : Jvm.MethodName) prog_26_method_28_code (2 : Nat) (Option.some Jvm.ClassFile.FieldType.boolean)) ∈ lw_all := lw_g (lw_at lw_m12 99 rfl) rfl
theorem q2882 : (Jvm.Cond.methodLink "ArcRecorderModel" (88 : Nat) ({ cls := "ArcRecorderModel", name := "good", desc := "()Z" } : Jvm.MethodName)) ∈ lw_all := lw_g (lw_at lw_m12 100 rfl) rfl
theorem q2883 : (Jvm.Cond.privateMethod ({ cls := "ArcRecorderModel", name := "good", desc := "()Z" } : Jvm.MethodName)) ∈ lw_tbl := lw_at lw_m12 101 rfl
theorem q2884 : (Jvm.Cond.instanceMethod ({ cls := "ArcRecorderModel", name := "good", desc := "()Z" } : Jvm.MethodName)) ∈ lw_all := lw_g (lw_at lw_m12 102 rfl) rfl
theorem q2885 : (Jvm.Cond.code ({ cls := "ArcRecorderModel", name := "good", desc := "()Z" } : Jvm.MethodName) prog_26_method_22_code (1 : Nat) (Option.some Jvm.ClassFile.FieldType.boolean)) ∈ lw_all := lw_g (lw_at lw_m12 103 rfl) rfl
theorem q2886 : (Jvm.Cond.methodLink "ArcRecorderModel" (138 : Nat) ({ cls := "ArcRecorderModel", name := "isWord", desc := "(Ljava/lang/String;)Z" } : Jvm.MethodName)) ∈ lw_all := lw_g (lw_at lw_m12 104 rfl) rfl
theorem q2887 : (Jvm.Cond.privateMethod ({ cls := "ArcRecorderModel", name := "isWord", desc := "(Ljava/lang/String;)Z" } : Jvm.MethodName)) ∈ lw_tbl := lw_at lw_m12 105 rfl
theorem q2888 : (Jvm.Cond.instanceMethod ({ cls := "ArcRecorderModel", name := "isWord", desc := "(Ljava/lang/String;)Z" } : Jvm.MethodName)) ∈ lw_all := lw_g (lw_at lw_m12 106 rfl) rfl
theorem q2889 : (Jvm.Cond.code ({ cls := "ArcRecorderModel", name := "isWord", desc := "(Ljava/lang/String;)Z" } : Jvm.MethodName) prog_26_method_27_code (4 : Nat) (Option.some Jvm.ClassFile.FieldType.boolean)) ∈ lw_all := lw_g (lw_at lw_m12 107 rfl) rfl
theorem q2890 : (Jvm.Cond.methodLink "ArcRecorderModel" (128 : Nat) ({ cls := "java/lang/String", name := "length", desc := "()I" } : Jvm.MethodName)) ∈ lw_all := lw_g (lw_at lw_m12 108 rfl) rfl
theorem q2891 : (Jvm.Cond.methodLink "ArcRecorderModel" (134 : Nat) ({ cls := "java/lang/String", name := "charAt", desc := "(I)C" } : Jvm.MethodName)) ∈ lw_all := lw_g (lw_at lw_m12 109 rfl) rfl
theorem q2892 : (Jvm.Cond.methodLink "ArcRecorderModel" (211 : Nat) ({ cls := "ArcRecorderModel", name := "errs", desc := "(I)V" } : Jvm.MethodName)) ∈ lw_all := lw_g (lw_at lw_m12 110 rfl) rfl
theorem q2893 : (Jvm.Cond.privateMethod ({ cls := "ArcRecorderModel", name := "errs", desc := "(I)V" } : Jvm.MethodName)) ∈ lw_tbl := lw_at lw_m12 111 rfl
theorem q2894 : (Jvm.Cond.instanceMethod ({ cls := "ArcRecorderModel", name := "errs", desc := "(I)V" } : Jvm.MethodName)) ∈ lw_all := lw_g (lw_at lw_m12 112 rfl) rfl
theorem q2895 : (Jvm.Cond.code ({ cls := "ArcRecorderModel", name := "errs", desc := "(I)V" } : Jvm.MethodName) prog_26_method_23_code (2 : Nat) (Option.none : Option Jvm.ClassFile.FieldType)) ∈ lw_all := lw_g (lw_at lw_m12 113 rfl) rfl
theorem q2896 : (Jvm.Cond.methodLink "ArcRecorderModel" (214 : Nat) ({ cls := "ArcRecorderModel", name := "goOn", desc := "()V" } : Jvm.MethodName)) ∈ lw_all := lw_g (lw_at lw_m12 114 rfl) rfl
theorem q2897 : (Jvm.Cond.privateMethod ({ cls := "ArcRecorderModel", name := "goOn", desc := "()V" } : Jvm.MethodName)) ∈ lw_tbl := lw_at lw_m12 115 rfl
theorem q2898 : (Jvm.Cond.instanceMethod ({ cls := "ArcRecorderModel", name := "goOn", desc := "()V" } : Jvm.MethodName)) ∈ lw_all := lw_g (lw_at lw_m12 116 rfl) rfl
theorem q2899 : (Jvm.Cond.code ({ cls := "ArcRecorderModel", name := "goOn", desc := "()V" } : Jvm.MethodName) prog_26_method_26_code (1 : Nat) (Option.none : Option Jvm.ClassFile.FieldType)) ∈ lw_all := lw_g (lw_at lw_m12 117 rfl) rfl
theorem q2900 : (Jvm.Cond.stringRef "ArcRecorderModel" (164 : Nat) "samples") ∈ lw_tbl := lw_at lw_m12 118 rfl
theorem q2901 : (Jvm.Cond.methodLink "ArcRecorderModel" (221 : Nat) ({ cls := "ArcRecorderModel", name := "number", desc := "(II)I" } : Jvm.MethodName)) ∈ lw_all := lw_g (lw_at lw_m12 119 rfl) rfl
theorem q2902 : (Jvm.Cond.privateMethod ({ cls := "ArcRecorderModel", name := "number", desc := "(II)I" } : Jvm.MethodName)) ∈ lw_tbl := lw_at lw_m12 120 rfl
theorem q2903 : (Jvm.Cond.instanceMethod ({ cls := "ArcRecorderModel", name := "number", desc := "(II)I" } : Jvm.MethodName)) ∈ lw_all := lw_g (lw_at lw_m12 121 rfl) rfl
theorem q2904 : (Jvm.Cond.code ({ cls := "ArcRecorderModel", name := "number", desc := "(II)I" } : Jvm.MethodName) prog_26_method_35_code (4 : Nat) (Option.some Jvm.ClassFile.FieldType.int)) ∈ lw_all := lw_g (lw_at lw_m12 122 rfl) rfl
theorem q2905 : (Jvm.Cond.stringRef "ArcRecorderModel" (166 : Nat) "window") ∈ lw_tbl := lw_at lw_m12 123 rfl
theorem q2906 : (Jvm.Cond.methodLink "ArcRecorderModel" (259 : Nat) ({ cls := "ArcRecorderModel", name := "numberBehind", desc := "(Ljava/lang/String;II)I" } : Jvm.MethodName)) ∈ lw_all := lw_g (lw_at lw_m12 124 rfl) rfl
theorem q2907 : (Jvm.Cond.privateMethod ({ cls := "ArcRecorderModel", name := "numberBehind", desc := "(Ljava/lang/String;II)I" } : Jvm.MethodName)) ∈ lw_tbl := lw_at lw_m12 125 rfl
theorem q2908 : (Jvm.Cond.instanceMethod ({ cls := "ArcRecorderModel", name := "numberBehind", desc := "(Ljava/lang/String;II)I" } : Jvm.MethodName)) ∈ lw_all := lw_g (lw_at lw_m12 126 rfl) rfl
theorem q2909 : (Jvm.Cond.code ({ cls := "ArcRecorderModel", name := "numberBehind", desc := "(Ljava/lang/String;II)I" } : Jvm.MethodName) prog_26_method_36_code (4 : Nat) (Option.some Jvm.ClassFile.FieldType.int)) ∈ lw_all := lw_g (lw_at lw_m12 127 rfl) rfl
theorem q2910 : (Jvm.Cond.stringRef "ArcRecorderModel" (168 : Nat) "count") ∈ lw_tbl := lw_at lw_m12 128 rfl
theorem q2911 : (Jvm.Cond.methodLink "ArcRecorderModel" (263 : Nat) ({ cls := "ArcRecorderModel", name := "semicolon", desc := "()V" } : Jvm.MethodName)) ∈ lw_all := lw_g (lw_at lw_m12 129 rfl) rfl
theorem q2912 : (Jvm.Cond.privateMethod ({ cls := "ArcRecorderModel", name := "semicolon", desc := "()V" } : Jvm.MethodName)) ∈ lw_tbl := lw_at lw_m12 130 rfl
theorem q2913 : (Jvm.Cond.instanceMethod ({ cls := "ArcRecorderModel", name := "semicolon", desc := "()V" } : Jvm.MethodName)) ∈ lw_all := lw_g (lw_at lw_m12 131 rfl) rfl
theorem q2914 : (Jvm.Cond.code ({ cls := "ArcRecorderModel", name := "semicolon", desc := "()V" } : Jvm.MethodName) prog_26_method_47_code (1 : Nat) (Option.none : Option Jvm.ClassFile.FieldType)) ∈ lw_all := lw_g (lw_at lw_m12 132 rfl) rfl
theorem q2915 : (Jvm.Cond.methodLink "ArcRecorderModel" (255 : Nat) ({ cls := "ArcRecorderModel", name := "isSymbol", desc := "(C)Z" } : Jvm.MethodName)) ∈ lw_all := lw_g (lw_at lw_m12 133 rfl) rfl
theorem q2916 : (Jvm.Cond.privateMethod ({ cls := "ArcRecorderModel", name := "isSymbol", desc := "(C)Z" } : Jvm.MethodName)) ∈ lw_tbl := lw_at lw_m12 134 rfl
theorem q2917 : (Jvm.Cond.instanceMethod ({ cls := "ArcRecorderModel", name := "isSymbol", desc := "(C)Z" } : Jvm.MethodName)) ∈ lw_all := lw_g (lw_at lw_m12 135 rfl) rfl
theorem q2918 : (Jvm.Cond.code ({ cls := "ArcRecorderModel", name := "isSymbol", desc := "(C)Z" } : Jvm.MethodName) prog_26_method_29_code (2 : Nat) (Option.some Jvm.ClassFile.FieldType.boolean)) ∈ lw_all := lw_g (lw_at lw_m12 136 rfl) rfl
theorem q2919 : (Jvm.Cond.methodLink "ArcRecorderModel" (318 : Nat) ({ cls := "ArcRecorderModel", name := "parseStatement", desc := "()V" } : Jvm.MethodName)) ∈ lw_all := lw_g (lw_at lw_m12 137 rfl) rfl
theorem q2920 : (Jvm.Cond.privateMethod ({ cls := "ArcRecorderModel", name := "parseStatement", desc := "()V" } : Jvm.MethodName)) ∈ lw_tbl := lw_at lw_m12 138 rfl
theorem q2921 : (Jvm.Cond.instanceMethod ({ cls := "ArcRecorderModel", name := "parseStatement", desc := "()V" } : Jvm.MethodName)) ∈ lw_all := lw_g (lw_at lw_m12 139 rfl) rfl
theorem q2922 : (Jvm.Cond.code ({ cls := "ArcRecorderModel", name := "parseStatement", desc := "()V" } : Jvm.MethodName) prog_26_method_60_code (2 : Nat) (Option.none : Option Jvm.ClassFile.FieldType)) ∈ lw_all := lw_g (lw_at lw_m12 140 rfl) rfl
theorem q2923 : (Jvm.Cond.methodLink "ArcRecorderModel" (205 : Nat) ({ cls := "ArcRecorderModel", name := "kindHere", desc := "()I" } : Jvm.MethodName)) ∈ lw_all := lw_g (lw_at lw_m12 141 rfl) rfl
theorem q2924 : (Jvm.Cond.privateMethod ({ cls := "ArcRecorderModel", name := "kindHere", desc := "()I" } : Jvm.MethodName)) ∈ lw_tbl := lw_at lw_m12 142 rfl
theorem q2925 : (Jvm.Cond.instanceMethod ({ cls := "ArcRecorderModel", name := "kindHere", desc := "()I" } : Jvm.MethodName)) ∈ lw_all := lw_g (lw_at lw_m12 143 rfl) rfl
theorem q2926 : (Jvm.Cond.code ({ cls := "ArcRecorderModel", name := "kindHere", desc := "()I" } : Jvm.MethodName) prog_26_method_31_code (1 : Nat) (Option.some Jvm.ClassFile.FieldType.int)) ∈ lw_all := lw_g (lw_at lw_m12 144 rfl) rfl
theorem q2927 : (Jvm.Cond.stringRef "ArcRecorderModel" (154 : Nat) "heater") ∈ lw_tbl := lw_at lw_m12 145 rfl
theorem q2928 : (Jvm.Cond.stringRef "ArcRecorderModel" (156 : Nat) "motor") ∈ lw_tbl := lw_at lw_m12 146 rfl
theorem q2929 : (Jvm.Cond.stringRef "ArcRecorderModel" (158 : Nat) "dimmer") ∈ lw_tbl := lw_at lw_m12 147 rfl
theorem q2930 : (Jvm.Cond.stringRef "ArcRecorderModel" (160 : Nat) "arc") ∈ lw_tbl := lw_at lw_m12 148 rfl
theorem q2931 : (Jvm.Cond.methodLink "ArcRecorderModel" (297 : Nat) ({ cls := "ArcRecorderModel", name := "parseLoad", desc := "(I)V" } : Jvm.MethodName)) ∈ lw_all := lw_g (lw_at lw_m12 149 rfl) rfl
theorem q2932 : (Jvm.Cond.privateMethod ({ cls := "ArcRecorderModel", name := "parseLoad", desc := "(I)V" } : Jvm.MethodName)) ∈ lw_tbl := lw_at lw_m12 150 rfl
theorem q2933 : (Jvm.Cond.instanceMethod ({ cls := "ArcRecorderModel", name := "parseLoad", desc := "(I)V" } : Jvm.MethodName)) ∈ lw_all := lw_g (lw_at lw_m12 151 rfl) rfl
theorem q2934 : (Jvm.Cond.code ({ cls := "ArcRecorderModel", name := "parseLoad", desc := "(I)V" } : Jvm.MethodName) prog_26_method_52_code (4 : Nat) (Option.none : Option Jvm.ClassFile.FieldType)) ∈ lw_all := lw_g (lw_at lw_m12 152 rfl) rfl
theorem q2935 : (Jvm.Cond.methodLink "ArcRecorderModel" (266 : Nat) ({ cls := "ArcRecorderModel", name := "begins", desc := "(ZI)Z" } : Jvm.MethodName)) ∈ lw_all := lw_g (lw_at lw_m12 153 rfl) rfl
theorem q2936 : (Jvm.Cond.privateMethod ({ cls := "ArcRecorderModel", name := "begins", desc := "(ZI)Z" } : Jvm.MethodName)) ∈ lw_tbl := lw_at lw_m12 154 rfl
theorem q2937 : (Jvm.Cond.instanceMethod ({ cls := "ArcRecorderModel", name := "begins", desc := "(ZI)Z" } : Jvm.MethodName)) ∈ lw_all := lw_g (lw_at lw_m12 155 rfl) rfl
theorem q2938 : (Jvm.Cond.code ({ cls := "ArcRecorderModel", name := "begins", desc := "(ZI)Z" } : Jvm.MethodName) prog_26_method_46_code (3 : Nat) (Option.some Jvm.ClassFile.FieldType.boolean)) ∈ lw_all := lw_g (lw_at lw_m12 156 rfl) rfl
theorem q2939 : (Jvm.Cond.methodLink "ArcRecorderModel" (246 : Nat) ({ cls := "ArcRecorderModel", name := "checkName", desc := "()V" } : Jvm.MethodName)) ∈ lw_all := lw_g (lw_at lw_m12 157 rfl) rfl
theorem q2940 : (Jvm.Cond.privateMethod ({ cls := "ArcRecorderModel", name := "checkName", desc := "()V" } : Jvm.MethodName)) ∈ lw_tbl := lw_at lw_m12 158 rfl
theorem q2941 : (Jvm.Cond.instanceMethod ({ cls := "ArcRecorderModel", name := "checkName", desc := "()V" } : Jvm.MethodName)) ∈ lw_all := lw_g (lw_at lw_m12 159 rfl) rfl
theorem q2942 : (Jvm.Cond.code ({ cls := "ArcRecorderModel", name := "checkName", desc := "()V" } : Jvm.MethodName) prog_26_method_44_code (1 : Nat) (Option.none : Option Jvm.ClassFile.FieldType)) ∈ lw_all := lw_g (lw_at lw_m12 160 rfl) rfl
theorem q2943 : (Jvm.Cond.methodLink "ArcRecorderModel" (243 : Nat) ({ cls := "ArcRecorderModel", name := "isKeyword", desc := "()Z" } : Jvm.MethodName)) ∈ lw_all := lw_g (lw_at lw_m12 161 rfl) rfl
theorem q2944 : (Jvm.Cond.privateMethod ({ cls := "ArcRecorderModel", name := "isKeyword", desc := "()Z" } : Jvm.MethodName)) ∈ lw_tbl := lw_at lw_m12 162 rfl
theorem q2945 : (Jvm.Cond.instanceMethod ({ cls := "ArcRecorderModel", name := "isKeyword", desc := "()Z" } : Jvm.MethodName)) ∈ lw_all := lw_g (lw_at lw_m12 163 rfl) rfl
theorem q2946 : (Jvm.Cond.code ({ cls := "ArcRecorderModel", name := "isKeyword", desc := "()Z" } : Jvm.MethodName) prog_26_method_32_code (3 : Nat) (Option.some Jvm.ClassFile.FieldType.boolean)) ∈ lw_all := lw_g (lw_at lw_m12 164 rfl) rfl
theorem q2947 : (Jvm.Cond.stringRef "ArcRecorderModel" (170 : Nat) "branch") ∈ lw_tbl := lw_at lw_m12 165 rfl
theorem q2948 : (Jvm.Cond.stringRef "ArcRecorderModel" (172 : Nat) "rated") ∈ lw_tbl := lw_at lw_m12 166 rfl
theorem q2949 : (Jvm.Cond.stringRef "ArcRecorderModel" (174 : Nat) "of") ∈ lw_tbl := lw_at lw_m12 167 rfl
theorem q2950 : (Jvm.Cond.stringRef "ArcRecorderModel" (176 : Nat) "amps") ∈ lw_tbl := lw_at lw_m12 168 rfl
theorem q2951 : (Jvm.Cond.stringRef "ArcRecorderModel" (178 : Nat) "lag") ∈ lw_tbl := lw_at lw_m12 169 rfl
theorem q2952 : (Jvm.Cond.stringRef "ArcRecorderModel" (180 : Nat) "cut") ∈ lw_tbl := lw_at lw_m12 170 rfl
theorem q2953 : (Jvm.Cond.stringRef "ArcRecorderModel" (182 : Nat) "gap") ∈ lw_tbl := lw_at lw_m12 171 rfl
theorem q2954 : (Jvm.Cond.stringRef "ArcRecorderModel" (184 : Nat) "out") ∈ lw_tbl := lw_at lw_m12 172 rfl
theorem q2955 : (Jvm.Cond.stringRef "ArcRecorderModel" (186 : Nat) "seed") ∈ lw_tbl := lw_at lw_m12 173 rfl
theorem q2956 : (Jvm.Cond.stringRef "ArcRecorderModel" (188 : Nat) "signature") ∈ lw_tbl := lw_at lw_m12 174 rfl
theorem q2957 : (Jvm.Cond.stringRef "ArcRecorderModel" (190 : Nat) "always") ∈ lw_tbl := lw_at lw_m12 175 rfl
theorem q2958 : (Jvm.Cond.stringRef "ArcRecorderModel" (192 : Nat) "and") ∈ lw_tbl := lw_at lw_m12 176 rfl
theorem q2959 : (Jvm.Cond.stringRef "ArcRecorderModel" (194 : Nat) "nuisance") ∈ lw_tbl := lw_at lw_m12 177 rfl
theorem q2960 : (Jvm.Cond.stringRef "ArcRecorderModel" (196 : Nat) "at") ∈ lw_tbl := lw_at lw_m12 178 rfl
theorem q2961 : (Jvm.Cond.stringRef "ArcRecorderModel" (198 : Nat) "on") ∈ lw_tbl := lw_at lw_m12 179 rfl
theorem q2962 : (Jvm.Cond.stringRef "ArcRecorderModel" (200 : Nat) "off") ∈ lw_tbl := lw_at lw_m12 180 rfl
theorem q2963 : (Jvm.Cond.methodLink "ArcRecorderModel" (202 : Nat) ({ cls := "ArcRecorderModel", name := "featureHere", desc := "()I" } : Jvm.MethodName)) ∈ lw_all := lw_g (lw_at lw_m12 181 rfl) rfl
theorem q2964 : (Jvm.Cond.privateMethod ({ cls := "ArcRecorderModel", name := "featureHere", desc := "()I" } : Jvm.MethodName)) ∈ lw_tbl := lw_at lw_m12 182 rfl
theorem q2965 : (Jvm.Cond.instanceMethod ({ cls := "ArcRecorderModel", name := "featureHere", desc := "()I" } : Jvm.MethodName)) ∈ lw_all := lw_g (lw_at lw_m12 183 rfl) rfl
theorem q2966 : (Jvm.Cond.code ({ cls := "ArcRecorderModel", name := "featureHere", desc := "()I" } : Jvm.MethodName) prog_26_method_30_code (1 : Nat) (Option.some Jvm.ClassFile.FieldType.int)) ∈ lw_all := lw_g (lw_at lw_m12 184 rfl) rfl
theorem q2967 : (Jvm.Cond.stringRef "ArcRecorderModel" (142 : Nat) "peak") ∈ lw_tbl := lw_at lw_m12 185 rfl
theorem q2968 : (Jvm.Cond.stringRef "ArcRecorderModel" (144 : Nat) "mean") ∈ lw_tbl := lw_at lw_m12 186 rfl
theorem q2969 : (Jvm.Cond.stringRef "ArcRecorderModel" (146 : Nat) "flat") ∈ lw_tbl := lw_at lw_m12 187 rfl
theorem q2970 : (Jvm.Cond.stringRef "ArcRecorderModel" (148 : Nat) "steep") ∈ lw_tbl := lw_at lw_m12 188 rfl
theorem q2971 : (Jvm.Cond.stringRef "ArcRecorderModel" (150 : Nat) "change") ∈ lw_tbl := lw_at lw_m12 189 rfl
theorem q2972 : (Jvm.Cond.stringRef "ArcRecorderModel" (152 : Nat) "energy") ∈ lw_tbl := lw_at lw_m12 190 rfl
theorem q2973 : (Jvm.Cond.methodLink "ArcRecorderModel" (249 : Nat) ({ cls := "ArcRecorderModel", name := "isTaken", desc := "()Z" } : Jvm.MethodName)) ∈ lw_all := lw_g (lw_at lw_m12 191 rfl) rfl
theorem q2974 : (Jvm.Cond.privateMethod ({ cls := "ArcRecorderModel", name := "isTaken", desc := "()Z" } : Jvm.MethodName)) ∈ lw_tbl := lw_at lw_m12 192 rfl
theorem q2975 : (Jvm.Cond.instanceMethod ({ cls := "ArcRecorderModel", name := "isTaken", desc := "()Z" } : Jvm.MethodName)) ∈ lw_all := lw_g (lw_at lw_m12 193 rfl) rfl
theorem q2976 : (Jvm.Cond.code ({ cls := "ArcRecorderModel", name := "isTaken", desc := "()Z" } : Jvm.MethodName) prog_26_method_43_code (1 : Nat) (Option.some Jvm.ClassFile.FieldType.boolean)) ∈ lw_all := lw_g (lw_at lw_m12 194 rfl) rfl
theorem q2977 : (Jvm.Cond.methodLink "ArcRecorderModel" (231 : Nat) ({ cls := "ArcRecorderModel", name := "branchNamed", desc := "()I" } : Jvm.MethodName)) ∈ lw_all := lw_g (lw_at lw_m12 195 rfl) rfl
theorem q2978 : (Jvm.Cond.privateMethod ({ cls := "ArcRecorderModel", name := "branchNamed", desc := "()I" } : Jvm.MethodName)) ∈ lw_tbl := lw_at lw_m12 196 rfl
theorem q2979 : (Jvm.Cond.instanceMethod ({ cls := "ArcRecorderModel", name := "branchNamed", desc := "()I" } : Jvm.MethodName)) ∈ lw_all := lw_g (lw_at lw_m12 197 rfl) rfl
theorem q2980 : (Jvm.Cond.code ({ cls := "ArcRecorderModel", name := "branchNamed", desc := "()I" } : Jvm.MethodName) prog_26_method_39_code (1 : Nat) (Option.some Jvm.ClassFile.FieldType.int)) ∈ lw_all := lw_g (lw_at lw_m12 198 rfl) rfl
theorem q2981 : (Jvm.Cond.methodLink "ArcRecorderModel" (227 : Nat) ({ cls := "ArcRecorderModel", name := "thingNamed", desc := "(III)I" } : Jvm.MethodName)) ∈ lw_all := lw_g (lw_at lw_m12 199 rfl) rfl
theorem q2982 : (Jvm.Cond.privateMethod ({ cls := "ArcRecorderModel", name := "thingNamed", desc := "(III)I" } : Jvm.MethodName)) ∈ lw_tbl := lw_at lw_m12 200 rfl
theorem q2983 : (Jvm.Cond.instanceMethod ({ cls := "ArcRecorderModel", name := "thingNamed", desc := "(III)I" } : Jvm.MethodName)) ∈ lw_all := lw_g (lw_at lw_m12 201 rfl) rfl
theorem q2984 : (Jvm.Cond.code ({ cls := "ArcRecorderModel", name := "thingNamed", desc := "(III)I" } : Jvm.MethodName) prog_26_method_38_code (7 : Nat) (Option.some Jvm.ClassFile.FieldType.int)) ∈ lw_all := lw_g (lw_at lw_m12 202 rfl) rfl
theorem q2985 : (Jvm.Cond.methodLink "ArcRecorderModel" (224 : Nat) ({ cls := "ArcRecorderModel", name := "letter", desc := "(I)I" } : Jvm.MethodName)) ∈ lw_all := lw_g (lw_at lw_m12 203 rfl) rfl
theorem q2986 : (Jvm.Cond.privateMethod ({ cls := "ArcRecorderModel", name := "letter", desc := "(I)I" } : Jvm.MethodName)) ∈ lw_tbl := lw_at lw_m12 204 rfl
theorem q2987 : (Jvm.Cond.instanceMethod ({ cls := "ArcRecorderModel", name := "letter", desc := "(I)I" } : Jvm.MethodName)) ∈ lw_all := lw_g (lw_at lw_m12 205 rfl) rfl
theorem q2988 : (Jvm.Cond.code ({ cls := "ArcRecorderModel", name := "letter", desc := "(I)I" } : Jvm.MethodName) prog_26_method_37_code (2 : Nat) (Option.some Jvm.ClassFile.FieldType.int)) ∈ lw_all := lw_g (lw_at lw_m12 206 rfl) rfl
theorem q2989 : (Jvm.Cond.methodLink "ArcRecorderModel" (234 : Nat) ({ cls := "ArcRecorderModel", name := "loadNamed", desc := "()I" } : Jvm.MethodName)) ∈ lw_all := lw_g (lw_at lw_m12 207 rfl) rfl
theorem q2990 : (Jvm.Cond.privateMethod ({ cls := "ArcRecorderModel", name := "loadNamed", desc := "()I" } : Jvm.MethodName)) ∈ lw_tbl := lw_at lw_m12 208 rfl
theorem q2991 : (Jvm.Cond.instanceMethod ({ cls := "ArcRecorderModel", name := "loadNamed", desc := "()I" } : Jvm.MethodName)) ∈ lw_all := lw_g (lw_at lw_m12 209 rfl) rfl
theorem q2992 : (Jvm.Cond.code ({ cls := "ArcRecorderModel", name := "loadNamed", desc := "()I" } : Jvm.MethodName) prog_26_method_40_code (1 : Nat) (Option.some Jvm.ClassFile.FieldType.int)) ∈ lw_all := lw_g (lw_at lw_m12 210 rfl) rfl
theorem q2993 : (Jvm.Cond.methodLink "ArcRecorderModel" (237 : Nat) ({ cls := "ArcRecorderModel", name := "signatureNamed", desc := "()I" } : Jvm.MethodName)) ∈ lw_all := lw_g (lw_at lw_m12 211 rfl) rfl
theorem q2994 : (Jvm.Cond.privateMethod ({ cls := "ArcRecorderModel", name := "signatureNamed", desc := "()I" } : Jvm.MethodName)) ∈ lw_tbl := lw_at lw_m12 212 rfl
theorem q2995 : (Jvm.Cond.instanceMethod ({ cls := "ArcRecorderModel", name := "signatureNamed", desc := "()I" } : Jvm.MethodName)) ∈ lw_all := lw_g (lw_at lw_m12 213 rfl) rfl
theorem q2996 : (Jvm.Cond.code ({ cls := "ArcRecorderModel", name := "signatureNamed", desc := "()I" } : Jvm.MethodName) prog_26_method_41_code (1 : Nat) (Option.some Jvm.ClassFile.FieldType.int)) ∈ lw_all := lw_g (lw_at lw_m12 214 rfl) rfl
theorem q2997 : (Jvm.Cond.methodLink "ArcRecorderModel" (240 : Nat) ({ cls := "ArcRecorderModel", name := "nuisanceNamed", desc := "()I" } : Jvm.MethodName)) ∈ lw_all := lw_g (lw_at lw_m12 215 rfl) rfl
theorem q2998 : (Jvm.Cond.privateMethod ({ cls := "ArcRecorderModel", name := "nuisanceNamed", desc := "()I" } : Jvm.MethodName)) ∈ lw_tbl := lw_at lw_m12 216 rfl
theorem q2999 : (Jvm.Cond.instanceMethod ({ cls := "ArcRecorderModel", name := "nuisanceNamed", desc := "()I" } : Jvm.MethodName)) ∈ lw_all := lw_g (lw_at lw_m12 217 rfl) rfl
theorem q3000 : (Jvm.Cond.code ({ cls := "ArcRecorderModel", name := "nuisanceNamed", desc := "()I" } : Jvm.MethodName) prog_26_method_42_code (1 : Nat) (Option.some Jvm.ClassFile.FieldType.int)) ∈ lw_all := lw_g (lw_at lw_m12 218 rfl) rfl
theorem q3001 : (Jvm.Cond.methodLink "ArcRecorderModel" (252 : Nat) ({ cls := "ArcRecorderModel", name := "keepName", desc := "(I)V" } : Jvm.MethodName)) ∈ lw_all := lw_g (lw_at lw_m12 219 rfl) rfl
theorem q3002 : (Jvm.Cond.privateMethod ({ cls := "ArcRecorderModel", name := "keepName", desc := "(I)V" } : Jvm.MethodName)) ∈ lw_tbl := lw_at lw_m12 220 rfl
theorem q3003 : (Jvm.Cond.instanceMethod ({ cls := "ArcRecorderModel", name := "keepName", desc := "(I)V" } : Jvm.MethodName)) ∈ lw_all := lw_g (lw_at lw_m12 221 rfl) rfl
theorem q3004 : (Jvm.Cond.code ({ cls := "ArcRecorderModel", name := "keepName", desc := "(I)V" } : Jvm.MethodName) prog_26_method_45_code (3 : Nat) (Option.none : Option Jvm.ClassFile.FieldType)) ∈ lw_all := lw_g (lw_at lw_m12 222 rfl) rfl
theorem q3005 : (Jvm.Cond.methodLink "ArcRecorderModel" (274 : Nat) ({ cls := "ArcRecorderModel", name := "setLoad", desc := "(III)V" } : Jvm.MethodName)) ∈ lw_all := lw_g (lw_at lw_m12 223 rfl) rfl
theorem q3006 : (Jvm.Cond.privateMethod ({ cls := "ArcRecorderModel", name := "setLoad", desc := "(III)V" } : Jvm.MethodName)) ∈ lw_tbl := lw_at lw_m12 224 rfl
theorem q3007 : (Jvm.Cond.instanceMethod ({ cls := "ArcRecorderModel", name := "setLoad", desc := "(III)V" } : Jvm.MethodName)) ∈ lw_all := lw_g (lw_at lw_m12 225 rfl) rfl
theorem q3008 : (Jvm.Cond.code ({ cls := "ArcRecorderModel", name := "setLoad", desc := "(III)V" } : Jvm.MethodName) prog_26_method_51_code (4 : Nat) (Option.none : Option Jvm.ClassFile.FieldType)) ∈ lw_all := lw_g (lw_at lw_m12 226 rfl) rfl
theorem q3009 : (Jvm.Cond.methodLink "ArcRecorderModel" (277 : Nat) ({ cls := "ArcRecorderModel", name := "reference", desc := "(I)I" } : Jvm.MethodName)) ∈ lw_all := lw_g (lw_at lw_m12 227 rfl) rfl
theorem q3010 : (Jvm.Cond.privateMethod ({ cls := "ArcRecorderModel", name := "reference", desc := "(I)I" } : Jvm.MethodName)) ∈ lw_tbl := lw_at lw_m12 228 rfl
theorem q3011 : (Jvm.Cond.instanceMethod ({ cls := "ArcRecorderModel", name := "reference", desc := "(I)I" } : Jvm.MethodName)) ∈ lw_all := lw_g (lw_at lw_m12 229 rfl) rfl
theorem q3012 : (Jvm.Cond.code ({ cls := "ArcRecorderModel", name := "reference", desc := "(I)I" } : Jvm.MethodName) prog_26_method_50_code (3 : Nat) (Option.some Jvm.ClassFile.FieldType.int)) ∈ lw_all := lw_g (lw_at lw_m12 230 rfl) rfl
theorem q3013 : (Jvm.Cond.methodLink "ArcRecorderModel" (300 : Nat) ({ cls := "ArcRecorderModel", name := "parseBranch", desc := "()V" } : Jvm.MethodName)) ∈ lw_all := lw_g (lw_at lw_m12 231 rfl) rfl
theorem q3014 : (Jvm.Cond.privateMethod ({ cls := "ArcRecorderModel", name := "parseBranch", desc := "()V" } : Jvm.MethodName)) ∈ lw_tbl := lw_at lw_m12 232 rfl
theorem q3015 : (Jvm.Cond.instanceMethod ({ cls := "ArcRecorderModel", name := "parseBranch", desc := "()V" } : Jvm.MethodName)) ∈ lw_all := lw_g (lw_at lw_m12 233 rfl) rfl
theorem q3016 : (Jvm.Cond.code ({ cls := "ArcRecorderModel", name := "parseBranch", desc := "()V" } : Jvm.MethodName) prog_26_method_49_code (2 : Nat) (Option.none : Option Jvm.ClassFile.FieldType)) ∈ lw_all := lw_g (lw_at lw_m12 234 rfl) rfl
theorem q3017 : (Jvm.Cond.methodLink "ArcRecorderModel" (270 : Nat) ({ cls := "ArcRecorderModel", name := "setBranch", desc := "(III)V" } : Jvm.MethodName)) ∈ lw_all := lw_g (lw_at lw_m12 235 rfl) rfl
theorem q3018 : (Jvm.Cond.privateMethod ({ cls := "ArcRecorderModel", name := "setBranch", desc := "(III)V" } : Jvm.MethodName)) ∈ lw_tbl := lw_at lw_m12 236 rfl
theorem q3019 : (Jvm.Cond.instanceMethod ({ cls := "ArcRecorderModel", name := "setBranch", desc := "(III)V" } : Jvm.MethodName)) ∈ lw_all := lw_g (lw_at lw_m12 237 rfl) rfl
theorem q3020 : (Jvm.Cond.code ({ cls := "ArcRecorderModel", name := "setBranch", desc := "(III)V" } : Jvm.MethodName) prog_26_method_9_code (4 : Nat) (Option.none : Option Jvm.ClassFile.FieldType)) ∈ lw_all := lw_g (lw_at lw_m12 238 rfl) rfl
theorem q3021 : (Jvm.Cond.methodLink "ArcRecorderModel" (303 : Nat) ({ cls := "ArcRecorderModel", name := "parseSeed", desc := "()V" } : Jvm.MethodName)) ∈ lw_all := lw_g (lw_at lw_m12 239 rfl) rfl
theorem q3022 : (Jvm.Cond.privateMethod ({ cls := "ArcRecorderModel", name := "parseSeed", desc := "()V" } : Jvm.MethodName)) ∈ lw_tbl := lw_at lw_m13 0 rfl
theorem q3023 : (Jvm.Cond.instanceMethod ({ cls := "ArcRecorderModel", name := "parseSeed", desc := "()V" } : Jvm.MethodName)) ∈ lw_all := lw_g (lw_at lw_m13 1 rfl) rfl
theorem q3024 : (Jvm.Cond.code ({ cls := "ArcRecorderModel", name := "parseSeed", desc := "()V" } : Jvm.MethodName) prog_26_method_59_code (1 : Nat) (Option.none : Option Jvm.ClassFile.FieldType)) ∈ lw_all := lw_g (lw_at lw_m13 2 rfl) rfl
theorem q3025 : (Jvm.Cond.constant "ArcRecorderModel" (280 : Nat) (99999 : Int32)) ∈ lw_all := lw_g (lw_at lw_m13 3 rfl) rfl
theorem q3026 : (Jvm.Cond.methodLink "ArcRecorderModel" (306 : Nat) ({ cls := "ArcRecorderModel", name := "parseSignature", desc := "()V" } : Jvm.MethodName)) ∈ lw_all := lw_g (lw_at lw_m13 4 rfl) rfl
theorem q3027 : (Jvm.Cond.privateMethod ({ cls := "ArcRecorderModel", name := "parseSignature", desc := "()V" } : Jvm.MethodName)) ∈ lw_tbl := lw_at lw_m13 5 rfl
theorem q3028 : (Jvm.Cond.instanceMethod ({ cls := "ArcRecorderModel", name := "parseSignature", desc := "()V" } : Jvm.MethodName)) ∈ lw_all := lw_g (lw_at lw_m13 6 rfl) rfl
theorem q3029 : (Jvm.Cond.code ({ cls := "ArcRecorderModel", name := "parseSignature", desc := "()V" } : Jvm.MethodName) prog_26_method_55_code (3 : Nat) (Option.none : Option Jvm.ClassFile.FieldType)) ∈ lw_all := lw_g (lw_at lw_m13 7 rfl) rfl
theorem q3030 : (Jvm.Cond.methodLink "ArcRecorderModel" (284 : Nat) ({ cls := "ArcRecorderModel", name := "takes", desc := "(Ljava/lang/String;)Z" } : Jvm.MethodName)) ∈ lw_all := lw_g (lw_at lw_m13 8 rfl) rfl
theorem q3031 : (Jvm.Cond.privateMethod ({ cls := "ArcRecorderModel", name := "takes", desc := "(Ljava/lang/String;)Z" } : Jvm.MethodName)) ∈ lw_tbl := lw_at lw_m13 9 rfl
theorem q3032 : (Jvm.Cond.instanceMethod ({ cls := "ArcRecorderModel", name := "takes", desc := "(Ljava/lang/String;)Z" } : Jvm.MethodName)) ∈ lw_all := lw_g (lw_at lw_m13 10 rfl) rfl
theorem q3033 : (Jvm.Cond.code ({ cls := "ArcRecorderModel", name := "takes", desc := "(Ljava/lang/String;)Z" } : Jvm.MethodName) prog_26_method_34_code (3 : Nat) (Option.some Jvm.ClassFile.FieldType.boolean)) ∈ lw_all := lw_g (lw_at lw_m13 11 rfl) rfl
theorem q3034 : (Jvm.Cond.methodLink "ArcRecorderModel" (287 : Nat) ({ cls := "ArcRecorderModel", name := "parseTests", desc := "(I)V" } : Jvm.MethodName)) ∈ lw_all := lw_g (lw_at lw_m13 12 rfl) rfl
theorem q3035 : (Jvm.Cond.privateMethod ({ cls := "ArcRecorderModel", name := "parseTests", desc := "(I)V" } : Jvm.MethodName)) ∈ lw_tbl := lw_at lw_m13 13 rfl
theorem q3036 : (Jvm.Cond.instanceMethod ({ cls := "ArcRecorderModel", name := "parseTests", desc := "(I)V" } : Jvm.MethodName)) ∈ lw_all := lw_g (lw_at lw_m13 14 rfl) rfl
theorem q3037 : (Jvm.Cond.code ({ cls := "ArcRecorderModel", name := "parseTests", desc := "(I)V" } : Jvm.MethodName) prog_26_method_54_code (2 : Nat) (Option.none : Option Jvm.ClassFile.FieldType)) ∈ lw_all := lw_g (lw_at lw_m13 15 rfl) rfl
theorem q3038 : (Jvm.Cond.methodLink "ArcRecorderModel" (281 : Nat) ({ cls := "ArcRecorderModel", name := "parseTest", desc := "(I)V" } : Jvm.MethodName)) ∈ lw_all := lw_g (lw_at lw_m13 16 rfl) rfl
theorem q3039 : (Jvm.Cond.privateMethod ({ cls := "ArcRecorderModel", name := "parseTest", desc := "(I)V" } : Jvm.MethodName)) ∈ lw_tbl := lw_at lw_m13 17 rfl
theorem q3040 : (Jvm.Cond.instanceMethod ({ cls := "ArcRecorderModel", name := "parseTest", desc := "(I)V" } : Jvm.MethodName)) ∈ lw_all := lw_g (lw_at lw_m13 18 rfl) rfl
theorem q3041 : (Jvm.Cond.code ({ cls := "ArcRecorderModel", name := "parseTest", desc := "(I)V" } : Jvm.MethodName) prog_26_method_53_code (6 : Nat) (Option.none : Option Jvm.ClassFile.FieldType)) ∈ lw_all := lw_g (lw_at lw_m13 19 rfl) rfl
theorem q3042 : (Jvm.Cond.methodLink "ArcRecorderModel" (309 : Nat) ({ cls := "ArcRecorderModel", name := "parseNuisance", desc := "()V" } : Jvm.MethodName)) ∈ lw_all := lw_g (lw_at lw_m13 20 rfl) rfl
theorem q3043 : (Jvm.Cond.privateMethod ({ cls := "ArcRecorderModel", name := "parseNuisance", desc := "()V" } : Jvm.MethodName)) ∈ lw_tbl := lw_at lw_m13 21 rfl
theorem q3044 : (Jvm.Cond.instanceMethod ({ cls := "ArcRecorderModel", name := "parseNuisance", desc := "()V" } : Jvm.MethodName)) ∈ lw_all := lw_g (lw_at lw_m13 22 rfl) rfl
theorem q3045 : (Jvm.Cond.code ({ cls := "ArcRecorderModel", name := "parseNuisance", desc := "()V" } : Jvm.MethodName) prog_26_method_56_code (3 : Nat) (Option.none : Option Jvm.ClassFile.FieldType)) ∈ lw_all := lw_g (lw_at lw_m13 23 rfl) rfl
theorem q3046 : (Jvm.Cond.methodLink "ArcRecorderModel" (312 : Nat) ({ cls := "ArcRecorderModel", name := "parsePlan", desc := "()V" } : Jvm.MethodName)) ∈ lw_all := lw_g (lw_at lw_m13 24 rfl) rfl
theorem q3047 : (Jvm.Cond.privateMethod ({ cls := "ArcRecorderModel", name := "parsePlan", desc := "()V" } : Jvm.MethodName)) ∈ lw_tbl := lw_at lw_m13 25 rfl
theorem q3048 : (Jvm.Cond.instanceMethod ({ cls := "ArcRecorderModel", name := "parsePlan", desc := "()V" } : Jvm.MethodName)) ∈ lw_all := lw_g (lw_at lw_m13 26 rfl) rfl
theorem q3049 : (Jvm.Cond.code ({ cls := "ArcRecorderModel", name := "parsePlan", desc := "()V" } : Jvm.MethodName) prog_26_method_58_code (4 : Nat) (Option.none : Option Jvm.ClassFile.FieldType)) ∈ lw_all := lw_g (lw_at lw_m13 27 rfl) rfl
theorem q3050 : (Jvm.Cond.methodLink "ArcRecorderModel" (290 : Nat) ({ cls := "ArcRecorderModel", name := "layPlan", desc := "(III)V" } : Jvm.MethodName)) ∈ lw_all := lw_g (lw_at lw_m13 28 rfl) rfl
theorem q3051 : (Jvm.Cond.privateMethod ({ cls := "ArcRecorderModel", name := "layPlan", desc := "(III)V" } : Jvm.MethodName)) ∈ lw_tbl := lw_at lw_m13 29 rfl
theorem q3052 : (Jvm.Cond.instanceMethod ({ cls := "ArcRecorderModel", name := "layPlan", desc := "(III)V" } : Jvm.MethodName)) ∈ lw_all := lw_g (lw_at lw_m13 30 rfl) rfl
theorem q3053 : (Jvm.Cond.code ({ cls := "ArcRecorderModel", name := "layPlan", desc := "(III)V" } : Jvm.MethodName) prog_26_method_57_code (5 : Nat) (Option.none : Option Jvm.ClassFile.FieldType)) ∈ lw_all := lw_g (lw_at lw_m13 31 rfl) rfl
theorem q3054 : (Jvm.Cond.methodLink "ArcRecorderModel" (321 : Nat) ({ cls := "ArcRecorderModel", name := "remember", desc := "()V" } : Jvm.MethodName)) ∈ lw_all := lw_g (lw_at lw_m13 32 rfl) rfl
theorem q3055 : (Jvm.Cond.privateMethod ({ cls := "ArcRecorderModel", name := "remember", desc := "()V" } : Jvm.MethodName)) ∈ lw_tbl := lw_at lw_m13 33 rfl
theorem q3056 : (Jvm.Cond.instanceMethod ({ cls := "ArcRecorderModel", name := "remember", desc := "()V" } : Jvm.MethodName)) ∈ lw_all := lw_g (lw_at lw_m13 34 rfl) rfl
theorem q3057 : (Jvm.Cond.code ({ cls := "ArcRecorderModel", name := "remember", desc := "()V" } : Jvm.MethodName) prog_26_method_139_code (2 : Nat) (Option.none : Option Jvm.ClassFile.FieldType)) ∈ lw_all := lw_g (lw_at lw_m13 35 rfl) rfl
theorem q3059 : (Jvm.Cond.instanceMethod ({ cls := "ArcRecorderModel", name := "errorCode", desc := "()I" } : Jvm.MethodName)) ∈ lw_all := lw_g (lw_at lw_m13 37 rfl) rfl
theorem q3060 : (Jvm.Cond.selects "ArcRecorderModel" ({ cls := "ArcRecorderModel", name := "errorCode", desc := "()I" } : Jvm.MethodName) ({ cls := "ArcRecorderModel", name := "errorCode", desc := "()I" } : Jvm.MethodName)) ∈ lw_all := lw_g (lw_at lw_m13 38 rfl) rfl
theorem q3061 : (Jvm.Cond.code ({ cls := "ArcRecorderModel", name := "errorCode", desc := "()I" } : Jvm.MethodName) prog_26_method_62_code (1 : Nat) (Option.some Jvm.ClassFile.FieldType.int)) ∈ lw_all := lw_g (lw_at lw_m13 39 rfl) rfl
theorem q3063 : (Jvm.Cond.instanceMethod ({ cls := "ArcRecorderModel", name := "errorPosition", desc := "()I" } : Jvm.MethodName)) ∈ lw_all := lw_g (lw_at lw_m13 41 rfl) rfl
theorem q3064 : (Jvm.Cond.selects "ArcRecorderModel" ({ cls := "ArcRecorderModel", name := "errorPosition", desc := "()I" } : Jvm.MethodName) ({ cls := "ArcRecorderModel", name := "errorPosition", desc := "()I" } : Jvm.MethodName)) ∈ lw_all := lw_g (lw_at lw_m13 42 rfl) rfl
theorem q3065 : (Jvm.Cond.code ({ cls := "ArcRecorderModel", name := "errorPosition", desc := "()I" } : Jvm.MethodName) prog_26_method_63_code (1 : Nat) (Option.some Jvm.ClassFile.FieldType.int)) ∈ lw_all := lw_g (lw_at lw_m13 43 rfl) rfl
theorem q3067 : (Jvm.Cond.instanceMethod ({ cls := "ArcRecorderModel", name := "find", desc := "()I" } : Jvm.MethodName)) ∈ lw_all := lw_g (lw_at lw_m13 45 rfl) rfl
theorem q3068 : (Jvm.Cond.selects "ArcRecorderModel" ({ cls := "ArcRecorderModel", name := "find", desc := "()I" } : Jvm.MethodName) ({ cls := "ArcRecorderModel", name := "find", desc := "()I" } : Jvm.MethodName)) ∈ lw_all := lw_g (lw_at lw_m13 46 rfl) rfl
theorem q3069 : (Jvm.Cond.code ({ cls := "ArcRecorderModel", name := "find", desc := "()I" } : Jvm.MethodName) prog_26_method_65_code (6 : Nat) (Option.some Jvm.ClassFile.FieldType.int)) ∈ lw_all := lw_g (lw_at lw_m13 47 rfl) rfl
theorem q3070 : (Jvm.Cond.methodLink "ArcRecorderModel" (324 : Nat) ({ cls := "ArcRecorderModel", name := "looksAtWord", desc := "()Z" } : Jvm.MethodName)) ∈ lw_all := lw_g (lw_at lw_m13 48 rfl) rfl
theorem q3071 : (Jvm.Cond.privateMethod ({ cls := "ArcRecorderModel", name := "looksAtWord", desc := "()Z" } : Jvm.MethodName)) ∈ lw_tbl := lw_at lw_m13 49 rfl
theorem q3072 : (Jvm.Cond.instanceMethod ({ cls := "ArcRecorderModel", name := "looksAtWord", desc := "()Z" } : Jvm.MethodName)) ∈ lw_all := lw_g (lw_at lw_m13 50 rfl) rfl
theorem q3073 : (Jvm.Cond.code ({ cls := "ArcRecorderModel", name := "looksAtWord", desc := "()Z" } : Jvm.MethodName) prog_26_method_64_code (3 : Nat) (Option.some Jvm.ClassFile.FieldType.boolean)) ∈ lw_all := lw_g (lw_at lw_m13 51 rfl) rfl
theorem q3075 : (Jvm.Cond.instanceMethod ({ cls := "ArcRecorderModel", name := "count", desc := "(I)I" } : Jvm.MethodName)) ∈ lw_all := lw_g (lw_at lw_m13 53 rfl) rfl
theorem q3076 : (Jvm.Cond.selects "ArcRecorderModel" ({ cls := "ArcRecorderModel", name := "count", desc := "(I)I" } : Jvm.MethodName) ({ cls := "ArcRecorderModel", name := "count", desc := "(I)I" } : Jvm.MethodName)) ∈ lw_all := lw_g (lw_at lw_m13 54 rfl) rfl
theorem q3077 : (Jvm.Cond.code ({ cls := "ArcRecorderModel", name := "count", desc := "(I)I" } : Jvm.MethodName) prog_26_method_66_code (2 : Nat) (Option.some Jvm.ClassFile.FieldType.int)) ∈ lw_all := lw_g (lw_at lw_m13 55 rfl) rfl
theorem q3078 : (Jvm.Cond.constantLong "ArcRecorderModel" (327 : Nat) (7 : Int64)) ∈ lw_all := lw_g (lw_at lw_m13 56 rfl) rfl
theorem q3080 : (Jvm.Cond.instanceMethod ({ cls := "ArcRecorderModel", name := "now", desc := "()I" } : Jvm.MethodName)) ∈ lw_all := lw_g (lw_at lw_m13 58 rfl) rfl
theorem q3081 : (Jvm.Cond.selects "ArcRecorderModel" ({ cls := "ArcRecorderModel", name := "now", desc := "()I" } : Jvm.MethodName) ({ cls := "ArcRecorderModel", name := "now", desc := "()I" } : Jvm.MethodName)) ∈ lw_all := lw_g (lw_at lw_m13 59 rfl) rfl
theorem q3082 : (Jvm.Cond.code ({ cls := "ArcRecorderModel", name := "now", desc := "()I" } : Jvm.MethodName) prog_26_method_67_code (1 : Nat) (Option.some Jvm.ClassFile.FieldType.int)) ∈ lw_all := lw_g (lw_at lw_m13 60 rfl) rfl
theorem q3084 : (Jvm.Cond.instanceMethod ({ cls := "ArcRecorderModel", name := "rated", desc := "(I)I" } : Jvm.MethodName)) ∈ lw_all := lw_g (lw_at lw_m13 62 rfl) rfl
theorem q3085 : (Jvm.Cond.selects "ArcRecorderModel" ({ cls := "ArcRecorderModel", name := "rated", desc := "(I)I" } : Jvm.MethodName) ({ cls := "ArcRecorderModel", name := "rated", desc := "(I)I" } : Jvm.MethodName)) ∈ lw_all := lw_g (lw_at lw_m13 63 rfl) rfl
theorem q3086 : (Jvm.Cond.code ({ cls := "ArcRecorderModel", name := "rated", desc := "(I)I" } : Jvm.MethodName) prog_26_method_68_code (2 : Nat) (Option.some Jvm.ClassFile.FieldType.int)) ∈ lw_all := lw_g (lw_at lw_m13 64 rfl) rfl
theorem q3087 : (Jvm.Cond.methodLink "ArcRecorderModel" (329 : Nat) ({ cls := "ArcRecorderModel", name := "isBranch", desc := "(I)Z" } : Jvm.MethodName)) ∈ lw_all := lw_g (lw_at lw_m13 65 rfl) rfl
theorem q3088 : (Jvm.Cond.privateMethod ({ cls := "ArcRecorderModel", name := "isBranch", desc := "(I)Z" } : Jvm.MethodName)) ∈ lw_tbl := lw_at lw_m13 66 rfl
theorem q3089 : (Jvm.Cond.instanceMethod ({ cls := "ArcRecorderModel", name := "isBranch", desc := "(I)Z" } : Jvm.MethodName)) ∈ lw_all := lw_g (lw_at lw_m13 67 rfl) rfl
theorem q3090 : (Jvm.Cond.code ({ cls := "ArcRecorderModel", name := "isBranch", desc := "(I)Z" } : Jvm.MethodName) prog_26_method_12_code (2 : Nat) (Option.some Jvm.ClassFile.FieldType.boolean)) ∈ lw_all := lw_g (lw_at lw_m13 68 rfl) rfl
theorem q3091 : (Jvm.Cond.methodLink "ArcRecorderModel" (70 : Nat) ({ cls := "ArcRecorderModel", name := "ofBranch", desc := "(II)I" } : Jvm.MethodName)) ∈ lw_all := lw_g (lw_at lw_m13 69 rfl) rfl
theorem q3092 : (Jvm.Cond.privateMethod ({ cls := "ArcRecorderModel", name := "ofBranch", desc := "(II)I" } : Jvm.MethodName)) ∈ lw_tbl := lw_at lw_m13 70 rfl
theorem q3093 : (Jvm.Cond.instanceMethod ({ cls := "ArcRecorderModel", name := "ofBranch", desc := "(II)I" } : Jvm.MethodName)) ∈ lw_all := lw_g (lw_at lw_m13 71 rfl) rfl
theorem q3094 : (Jvm.Cond.code ({ cls := "ArcRecorderModel", name := "ofBranch", desc := "(II)I" } : Jvm.MethodName) prog_26_method_8_code (3 : Nat) (Option.some Jvm.ClassFile.FieldType.int)) ∈ lw_all := lw_g (lw_at lw_m13 72 rfl) rfl
theorem q3096 : (Jvm.Cond.instanceMethod ({ cls := "ArcRecorderModel", name := "loadOf", desc := "(II)I" } : Jvm.MethodName)) ∈ lw_all := lw_g (lw_at lw_m13 74 rfl) rfl
theorem q3097 : (Jvm.Cond.selects "ArcRecorderModel" ({ cls := "ArcRecorderModel", name := "loadOf", desc := "(II)I" } : Jvm.MethodName) ({ cls := "ArcRecorderModel", name := "loadOf", desc := "(II)I" } : Jvm.MethodName)) ∈ lw_all := lw_g (lw_at lw_m13 75 rfl) rfl
theorem q3098 : (Jvm.Cond.code ({ cls := "ArcRecorderModel", name := "loadOf", desc := "(II)I" } : Jvm.MethodName) prog_26_method_69_code (3 : Nat) (Option.some Jvm.ClassFile.FieldType.int)) ∈ lw_all := lw_g (lw_at lw_m13 76 rfl) rfl
theorem q3099 : (Jvm.Cond.methodLink "ArcRecorderModel" (333 : Nat) ({ cls := "ArcRecorderModel", name := "isLoad", desc := "(I)Z" } : Jvm.MethodName)) ∈ lw_all := lw_g (lw_at lw_m13 77 rfl) rfl
theorem q3100 : (Jvm.Cond.privateMethod ({ cls := "ArcRecorderModel", name := "isLoad", desc := "(I)Z" } : Jvm.MethodName)) ∈ lw_tbl := lw_at lw_m13 78 rfl
theorem q3101 : (Jvm.Cond.instanceMethod ({ cls := "ArcRecorderModel", name := "isLoad", desc := "(I)Z" } : Jvm.MethodName)) ∈ lw_all := lw_g (lw_at lw_m13 79 rfl) rfl
theorem q3102 : (Jvm.Cond.code ({ cls := "ArcRecorderModel", name := "isLoad", desc := "(I)Z" } : Jvm.MethodName) prog_26_method_13_code (2 : Nat) (Option.some Jvm.ClassFile.FieldType.boolean)) ∈ lw_all := lw_g (lw_at lw_m13 80 rfl) rfl
theorem q3103 : (Jvm.Cond.constantLong "ArcRecorderModel" (336 : Nat) (4 : Int64)) ∈ lw_all := lw_g (lw_at lw_m13 81 rfl) rfl
theorem q3104 : (Jvm.Cond.methodLink "ArcRecorderModel" (338 : Nat) ({ cls := "ArcRecorderModel", name := "passes2", desc := "(ZZ)Z" } : Jvm.MethodName)) ∈ lw_all := lw_g (lw_at lw_m13 82 rfl) rfl
theorem q3105 : (Jvm.Cond.privateMethod ({ cls := "ArcRecorderModel", name := "passes2", desc := "(ZZ)Z" } : Jvm.MethodName)) ∈ lw_tbl := lw_at lw_m13 83 rfl
theorem q3106 : (Jvm.Cond.instanceMethod ({ cls := "ArcRecorderModel", name := "passes2", desc := "(ZZ)Z" } : Jvm.MethodName)) ∈ lw_all := lw_g (lw_at lw_m13 84 rfl) rfl
theorem q3107 : (Jvm.Cond.code ({ cls := "ArcRecorderModel", name := "passes2", desc := "(ZZ)Z" } : Jvm.MethodName) prog_26_method_5_code (3 : Nat) (Option.some Jvm.ClassFile.FieldType.boolean)) ∈ lw_all := lw_g (lw_at lw_m13 85 rfl) rfl
theorem q3108 : (Jvm.Cond.methodLink "ArcRecorderModel" (342 : Nat) ({ cls := "ArcRecorderModel", name := "ofLoad", desc := "(II)I" } : Jvm.MethodName)) ∈ lw_all := lw_g (lw_at lw_m13 86 rfl) rfl
theorem q3109 : (Jvm.Cond.privateMethod ({ cls := "ArcRecorderModel", name := "ofLoad", desc := "(II)I" } : Jvm.MethodName)) ∈ lw_tbl := lw_at lw_m13 87 rfl
theorem q3110 : (Jvm.Cond.instanceMethod ({ cls := "ArcRecorderModel", name := "ofLoad", desc := "(II)I" } : Jvm.MethodName)) ∈ lw_all := lw_g (lw_at lw_m13 88 rfl) rfl
theorem q3111 : (Jvm.Cond.code ({ cls := "ArcRecorderModel", name := "ofLoad", desc := "(II)I" } : Jvm.MethodName) prog_26_method_10_code (3 : Nat) (Option.some Jvm.ClassFile.FieldType.int)) ∈ lw_all := lw_g (lw_at lw_m13 89 rfl) rfl
theorem q3113 : (Jvm.Cond.instanceMethod ({ cls := "ArcRecorderModel", name := "isOn", desc := "(I)Z" } : Jvm.MethodName)) ∈ lw_all := lw_g (lw_at lw_m13 91 rfl) rfl
theorem q3114 : (Jvm.Cond.selects "ArcRecorderModel" ({ cls := "ArcRecorderModel", name := "isOn", desc := "(I)Z" } : Jvm.MethodName) ({ cls := "ArcRecorderModel", name := "isOn", desc := "(I)Z" } : Jvm.MethodName)) ∈ lw_all := lw_g (lw_at lw_m13 92 rfl) rfl
theorem q3115 : (Jvm.Cond.code ({ cls := "ArcRecorderModel", name := "isOn", desc := "(I)Z" } : Jvm.MethodName) prog_26_method_70_code (2 : Nat) (Option.some Jvm.ClassFile.FieldType.boolean)) ∈ lw_all := lw_g (lw_at lw_m13 93 rfl) rfl
theorem q3117 : (Jvm.Cond.instanceMethod ({ cls := "ArcRecorderModel", name := "setOn", desc := "(IZ)Z" } : Jvm.MethodName)) ∈ lw_all := lw_g (lw_at lw_m13 95 rfl) rfl
theorem q3118 : (Jvm.Cond.selects "ArcRecorderModel" ({ cls := "ArcRecorderModel", name := "setOn", desc := "(IZ)Z" } : Jvm.MethodName) ({ cls := "ArcRecorderModel", name := "setOn", desc := "(IZ)Z" } : Jvm.MethodName)) ∈ lw_all := lw_g (lw_at lw_m13 96 rfl) rfl
theorem q3119 : (Jvm.Cond.code ({ cls := "ArcRecorderModel", name := "setOn", desc := "(IZ)Z" } : Jvm.MethodName) prog_26_method_71_code (4 : Nat) (Option.some Jvm.ClassFile.FieldType.boolean)) ∈ lw_all := lw_g (lw_at lw_m13 97 rfl) rfl
theorem q3121 : (Jvm.Cond.instanceMethod ({ cls := "ArcRecorderModel", name := "plan", desc := "(IIZ)I" } : Jvm.MethodName)) ∈ lw_all := lw_g (lw_at lw_m13 99 rfl) rfl
theorem q3122 : (Jvm.Cond.selects "ArcRecorderModel" ({ cls := "ArcRecorderModel", name := "plan", desc := "(IIZ)I" } : Jvm.MethodName) ({ cls := "ArcRecorderModel", name := "plan", desc := "(IIZ)I" } : Jvm.MethodName)) ∈ lw_all := lw_g (lw_at lw_m13 100 rfl) rfl
theorem q3123 : (Jvm.Cond.code ({ cls := "ArcRecorderModel", name := "plan", desc := "(IIZ)I" } : Jvm.MethodName) prog_26_method_72_code (4 : Nat) (Option.some Jvm.ClassFile.FieldType.int)) ∈ lw_all := lw_g (lw_at lw_m13 101 rfl) rfl
theorem q3124 : (Jvm.Cond.constantLong "ArcRecorderModel" (345 : Nat) (100000 : Int64)) ∈ lw_all := lw_g (lw_at lw_m13 102 rfl) rfl
theorem q3125 : (Jvm.Cond.methodLink "ArcRecorderModel" (347 : Nat) ({ cls := "ArcRecorderModel", name := "passes3", desc := "(ZZZ)Z" } : Jvm.MethodName)) ∈ lw_all := lw_g (lw_at lw_m13 103 rfl) rfl
theorem q3126 : (Jvm.Cond.privateMethod ({ cls := "ArcRecorderModel", name := "passes3", desc := "(ZZZ)Z" } : Jvm.MethodName)) ∈ lw_tbl := lw_at lw_m13 104 rfl
theorem q3127 : (Jvm.Cond.instanceMethod ({ cls := "ArcRecorderModel", name := "passes3", desc := "(ZZZ)Z" } : Jvm.MethodName)) ∈ lw_all := lw_g (lw_at lw_m13 105 rfl) rfl
theorem q3128 : (Jvm.Cond.code ({ cls := "ArcRecorderModel", name := "passes3", desc := "(ZZZ)Z" } : Jvm.MethodName) prog_26_method_4_code (4 : Nat) (Option.some Jvm.ClassFile.FieldType.boolean)) ∈ lw_all := lw_g (lw_at lw_m13 106 rfl) rfl
theorem q3130 : (Jvm.Cond.instanceMethod ({ cls := "ArcRecorderModel", name := "nextSwitch", desc := "(I)I" } : Jvm.MethodName)) ∈ lw_all := lw_g (lw_at lw_m13 108 rfl) rfl
theorem q3131 : (Jvm.Cond.selects "ArcRecorderModel" ({ cls := "ArcRecorderModel", name := "nextSwitch", desc := "(I)I" } : Jvm.MethodName) ({ cls := "ArcRecorderModel", name := "nextSwitch", desc := "(I)I" } : Jvm.MethodName)) ∈ lw_all := lw_g (lw_at lw_m13 109 rfl) rfl
theorem q3132 : (Jvm.Cond.code ({ cls := "ArcRecorderModel", name := "nextSwitch", desc := "(I)I" } : Jvm.MethodName) prog_26_method_73_code (5 : Nat) (Option.some Jvm.ClassFile.FieldType.int)) ∈ lw_all := lw_g (lw_at lw_m13 110 rfl) rfl
theorem q3134 : (Jvm.Cond.instanceMethod ({ cls := "ArcRecorderModel", name := "state", desc := "(I)I" } : Jvm.MethodName)) ∈ lw_all := lw_g (lw_at lw_m13 112 rfl) rfl
theorem q3135 : (Jvm.Cond.selects "ArcRecorderModel" ({ cls := "ArcRecorderModel", name := "state", desc := "(I)I" } : Jvm.MethodName) ({ cls := "ArcRecorderModel", name := "state", desc := "(I)I" } : Jvm.MethodName)) ∈ lw_all := lw_g (lw_at lw_m13 113 rfl) rfl
theorem q3136 : (Jvm.Cond.code ({ cls := "ArcRecorderModel", name := "state", desc := "(I)I" } : Jvm.MethodName) prog_26_method_74_code (2 : Nat) (Option.some Jvm.ClassFile.FieldType.int)) ∈ lw_all := lw_g (lw_at lw_m13 114 rfl) rfl
theorem q3138 : (Jvm.Cond.instanceMethod ({ cls := "ArcRecorderModel", name := "run", desc := "(I)I" } : Jvm.MethodName)) ∈ lw_all := lw_g (lw_at lw_m13 116 rfl) rfl
theorem q3139 : (Jvm.Cond.selects "ArcRecorderModel" ({ cls := "ArcRecorderModel", name := "run", desc := "(I)I" } : Jvm.MethodName) ({ cls := "ArcRecorderModel", name := "run", desc := "(I)I" } : Jvm.MethodName)) ∈ lw_all := lw_g (lw_at lw_m13 117 rfl) rfl
theorem q3140 : (Jvm.Cond.code ({ cls := "ArcRecorderModel", name := "run", desc := "(I)I" } : Jvm.MethodName) prog_26_method_97_code (5 : Nat) (Option.some Jvm.ClassFile.FieldType.int)) ∈ lw_all := lw_g (lw_at lw_m13 118 rfl) rfl
theorem q3141 : (Jvm.Cond.constantLong "ArcRecorderModel" (434 : Nat) (500 : Int64)) ∈ lw_all := lw_g (lw_at lw_m13 119 rfl) rfl
theorem q3142 : (Jvm.Cond.constant "ArcRecorderModel" (436 : Nat) (100000 : Int32)) ∈ lw_all := lw_g (lw_at lw_m13 120 rfl) rfl
theorem q3143 : (Jvm.Cond.methodLink "ArcRecorderModel" (437 : Nat) ({ cls := "ArcRecorderModel", name := "pass", desc := "()I" } : Jvm.MethodName)) ∈ lw_all := lw_g (lw_at lw_m13 121 rfl) rfl
theorem q3144 : (Jvm.Cond.privateMethod ({ cls := "ArcRecorderModel", name := "pass", desc := "()I" } : Jvm.MethodName)) ∈ lw_tbl := lw_at lw_m13 122 rfl
theorem q3145 : (Jvm.Cond.instanceMethod ({ cls := "ArcRecorderModel", name := "pass", desc := "()I" } : Jvm.MethodName)) ∈ lw_all := lw_g (lw_at lw_m13 123 rfl) rfl
theorem q3146 : (Jvm.Cond.code ({ cls := "ArcRecorderModel", name := "pass", desc := "()I" } : Jvm.MethodName) prog_26_method_95_code (3 : Nat) (Option.some Jvm.ClassFile.FieldType.int)) ∈ lw_all := lw_g (lw_at lw_m13 124 rfl) rfl
theorem q3147 : (Jvm.Cond.methodLink "ArcRecorderModel" (425 : Nat) ({ cls := "ArcRecorderModel", name := "doSwitches", desc := "()V" } : Jvm.MethodName)) ∈ lw_all := lw_g (lw_at lw_m13 125 rfl) rfl
theorem q3148 : (Jvm.Cond.privateMethod ({ cls := "ArcRecorderModel", name := "doSwitches", desc := "()V" } : Jvm.MethodName)) ∈ lw_tbl := lw_at lw_m13 126 rfl
theorem q3149 : (Jvm.Cond.instanceMethod ({ cls := "ArcRecorderModel", name := "doSwitches", desc := "()V" } : Jvm.MethodName)) ∈ lw_all := lw_g (lw_at lw_m13 127 rfl) rfl
theorem q3150 : (Jvm.Cond.code ({ cls := "ArcRecorderModel", name := "doSwitches", desc := "()V" } : Jvm.MethodName) prog_26_method_75_code (5 : Nat) (Option.none : Option Jvm.ClassFile.FieldType)) ∈ lw_all := lw_g (lw_at lw_m13 128 rfl) rfl
theorem q3151 : (Jvm.Cond.methodLink "ArcRecorderModel" (428 : Nat) ({ cls := "ArcRecorderModel", name := "drawArcs", desc := "()V" } : Jvm.MethodName)) ∈ lw_all := lw_g (lw_at lw_m13 129 rfl) rfl
theorem q3152 : (Jvm.Cond.privateMethod ({ cls := "ArcRecorderModel", name := "drawArcs", desc := "()V" } : Jvm.MethodName)) ∈ lw_tbl := lw_at lw_m13 130 rfl
theorem q3153 : (Jvm.Cond.instanceMethod ({ cls := "ArcRecorderModel", name := "drawArcs", desc := "()V" } : Jvm.MethodName)) ∈ lw_all := lw_g (lw_at lw_m13 131 rfl) rfl
theorem q3154 : (Jvm.Cond.code ({ cls := "ArcRecorderModel", name := "drawArcs", desc := "()V" } : Jvm.MethodName) prog_26_method_77_code (2 : Nat) (Option.none : Option Jvm.ClassFile.FieldType)) ∈ lw_all := lw_g (lw_at lw_m13 132 rfl) rfl
theorem q3155 : (Jvm.Cond.methodLink "ArcRecorderModel" (358 : Nat) ({ cls := "ArcRecorderModel", name := "isClosed", desc := "(I)Z" } : Jvm.MethodName)) ∈ lw_all := lw_g (lw_at lw_m13 133 rfl) rfl
theorem q3156 : (Jvm.Cond.privateMethod ({ cls := "ArcRecorderModel", name := "isClosed", desc := "(I)Z" } : Jvm.MethodName)) ∈ lw_tbl := lw_at lw_m13 134 rfl
theorem q3157 : (Jvm.Cond.instanceMethod ({ cls := "ArcRecorderModel", name := "isClosed", desc := "(I)Z" } : Jvm.MethodName)) ∈ lw_all := lw_g (lw_at lw_m13 135 rfl) rfl
theorem q3158 : (Jvm.Cond.code ({ cls := "ArcRecorderModel", name := "isClosed", desc := "(I)Z" } : Jvm.MethodName) prog_26_method_16_code (2 : Nat) (Option.some Jvm.ClassFile.FieldType.boolean)) ∈ lw_all := lw_g (lw_at lw_m13 136 rfl) rfl
theorem q3159 : (Jvm.Cond.methodLink "ArcRecorderModel" (361 : Nat) ({ cls := "ArcRecorderModel", name := "draw", desc := "()I" } : Jvm.MethodName)) ∈ lw_all := lw_g (lw_at lw_m13 137 rfl) rfl
theorem q3160 : (Jvm.Cond.privateMethod ({ cls := "ArcRecorderModel", name := "draw", desc := "()I" } : Jvm.MethodName)) ∈ lw_tbl := lw_at lw_m13 138 rfl
theorem q3161 : (Jvm.Cond.instanceMethod ({ cls := "ArcRecorderModel", name := "draw", desc := "()I" } : Jvm.MethodName)) ∈ lw_all := lw_g (lw_at lw_m13 139 rfl) rfl
theorem q3162 : (Jvm.Cond.code ({ cls := "ArcRecorderModel", name := "draw", desc := "()I" } : Jvm.MethodName) prog_26_method_76_code (1 : Nat) (Option.some Jvm.ClassFile.FieldType.int)) ∈ lw_all := lw_g (lw_at lw_m13 140 rfl) rfl
theorem q3163 : (Jvm.Cond.constantLong "ArcRecorderModel" (351 : Nat) (1103515245 : Int64)) ∈ lw_all := lw_g (lw_at lw_m13 141 rfl) rfl
theorem q3164 : (Jvm.Cond.constantLong "ArcRecorderModel" (353 : Nat) (12345 : Int64)) ∈ lw_all := lw_g (lw_at lw_m13 142 rfl) rfl
theorem q3165 : (Jvm.Cond.constantLong "ArcRecorderModel" (355 : Nat) (2147483648 : Int64)) ∈ lw_all := lw_g (lw_at lw_m13 143 rfl) rfl
theorem q3166 : (Jvm.Cond.constant "ArcRecorderModel" (357 : Nat) (65536 : Int32)) ∈ lw_all := lw_g (lw_at lw_m13 144 rfl) rfl
theorem q3167 : (Jvm.Cond.constantFloat "ArcRecorderModel" (364 : Nat) (1120403456 : UInt32)) ∈ lw_all := lw_g (lw_at lw_m13 145 rfl) rfl
theorem q3168 : (Jvm.Cond.methodLink "ArcRecorderModel" (431 : Nat) ({ cls := "ArcRecorderModel", name := "passBranch", desc := "(I)Z" } : Jvm.MethodName)) ∈ lw_all := lw_g (lw_at lw_m13 146 rfl) rfl
theorem q3169 : (Jvm.Cond.privateMethod ({ cls := "ArcRecorderModel", name := "passBranch", desc := "(I)Z" } : Jvm.MethodName)) ∈ lw_tbl := lw_at lw_m13 147 rfl
theorem q3170 : (Jvm.Cond.instanceMethod ({ cls := "ArcRecorderModel", name := "passBranch", desc := "(I)Z" } : Jvm.MethodName)) ∈ lw_all := lw_g (lw_at lw_m13 148 rfl) rfl
theorem q3171 : (Jvm.Cond.code ({ cls := "ArcRecorderModel", name := "passBranch", desc := "(I)Z" } : Jvm.MethodName) prog_26_method_94_code (2 : Nat) (Option.some Jvm.ClassFile.FieldType.boolean)) ∈ lw_all := lw_g (lw_at lw_m13 149 rfl) rfl
theorem q3172 : (Jvm.Cond.methodLink "ArcRecorderModel" (408 : Nat) ({ cls := "ArcRecorderModel", name := "laySamples", desc := "(I)V" } : Jvm.MethodName)) ∈ lw_all := lw_g (lw_at lw_m13 150 rfl) rfl
theorem q3173 : (Jvm.Cond.privateMethod ({ cls := "ArcRecorderModel", name := "laySamples", desc := "(I)V" } : Jvm.MethodName)) ∈ lw_tbl := lw_at lw_m13 151 rfl
theorem q3174 : (Jvm.Cond.instanceMethod ({ cls := "ArcRecorderModel", name := "laySamples", desc := "(I)V" } : Jvm.MethodName)) ∈ lw_all := lw_g (lw_at lw_m13 152 rfl) rfl
theorem q3175 : (Jvm.Cond.code ({ cls := "ArcRecorderModel", name := "laySamples", desc := "(I)V" } : Jvm.MethodName) prog_26_method_83_code (5 : Nat) (Option.none : Option Jvm.ClassFile.FieldType)) ∈ lw_all := lw_g (lw_at lw_m13 153 rfl) rfl
theorem q3176 : (Jvm.Cond.methodLink "ArcRecorderModel" (378 : Nat) ({ cls := "ArcRecorderModel", name := "sampleNow", desc := "(II)F" } : Jvm.MethodName)) ∈ lw_all := lw_g (lw_at lw_m13 154 rfl) rfl
theorem q3177 : (Jvm.Cond.privateMethod ({ cls := "ArcRecorderModel", name := "sampleNow", desc := "(II)F" } : Jvm.MethodName)) ∈ lw_tbl := lw_at lw_m13 155 rfl
theorem q3178 : (Jvm.Cond.instanceMethod ({ cls := "ArcRecorderModel", name := "sampleNow", desc := "(II)F" } : Jvm.MethodName)) ∈ lw_all := lw_g (lw_at lw_m13 156 rfl) rfl
theorem q3179 : (Jvm.Cond.code ({ cls := "ArcRecorderModel", name := "sampleNow", desc := "(II)F" } : Jvm.MethodName) prog_26_method_81_code (3 : Nat) (Option.some Jvm.ClassFile.FieldType.float)) ∈ lw_all := lw_g (lw_at lw_m13 157 rfl) rfl
theorem q3180 : (Jvm.Cond.methodLink "ArcRecorderModel" (374 : Nat) ({ cls := "ArcRecorderModel", name := "plainAt", desc := "(II)F" } : Jvm.MethodName)) ∈ lw_all := lw_g (lw_at lw_m13 158 rfl) rfl
theorem q3181 : (Jvm.Cond.privateMethod ({ cls := "ArcRecorderModel", name := "plainAt", desc := "(II)F" } : Jvm.MethodName)) ∈ lw_tbl := lw_at lw_m13 159 rfl
theorem q3182 : (Jvm.Cond.instanceMethod ({ cls := "ArcRecorderModel", name := "plainAt", desc := "(II)F" } : Jvm.MethodName)) ∈ lw_all := lw_g (lw_at lw_m13 160 rfl) rfl
theorem q3183 : (Jvm.Cond.code ({ cls := "ArcRecorderModel", name := "plainAt", desc := "(II)F" } : Jvm.MethodName) prog_26_method_80_code (5 : Nat) (Option.some Jvm.ClassFile.FieldType.float)) ∈ lw_all := lw_g (lw_at lw_m13 161 rfl) rfl
theorem q3184 : (Jvm.Cond.methodLink "ArcRecorderModel" (366 : Nat) ({ cls := "ArcRecorderModel", name := "shape", desc := "(I)F" } : Jvm.MethodName)) ∈ lw_all := lw_g (lw_at lw_m13 162 rfl) rfl
theorem q3185 : (Jvm.Cond.privateMethod ({ cls := "ArcRecorderModel", name := "shape", desc := "(I)F" } : Jvm.MethodName)) ∈ lw_tbl := lw_at lw_m13 163 rfl
theorem q3186 : (Jvm.Cond.instanceMethod ({ cls := "ArcRecorderModel", name := "shape", desc := "(I)F" } : Jvm.MethodName)) ∈ lw_all := lw_g (lw_at lw_m13 164 rfl) rfl
theorem q3187 : (Jvm.Cond.code ({ cls := "ArcRecorderModel", name := "shape", desc := "(I)F" } : Jvm.MethodName) prog_26_method_78_code (3 : Nat) (Option.some Jvm.ClassFile.FieldType.float)) ∈ lw_all := lw_g (lw_at lw_m13 165 rfl) rfl
theorem q3188 : (Jvm.Cond.constantFloat "ArcRecorderModel" (365 : Nat) (1082130432 : UInt32)) ∈ lw_all := lw_g (lw_at lw_m13 166 rfl) rfl
theorem q3189 : (Jvm.Cond.methodLink "ArcRecorderModel" (370 : Nat) ({ cls := "ArcRecorderModel", name := "arcAt", desc := "(IIIF)F" } : Jvm.MethodName)) ∈ lw_all := lw_g (lw_at lw_m13 167 rfl) rfl
theorem q3190 : (Jvm.Cond.privateMethod ({ cls := "ArcRecorderModel", name := "arcAt", desc := "(IIIF)F" } : Jvm.MethodName)) ∈ lw_tbl := lw_at lw_m13 168 rfl
theorem q3191 : (Jvm.Cond.instanceMethod ({ cls := "ArcRecorderModel", name := "arcAt", desc := "(IIIF)F" } : Jvm.MethodName)) ∈ lw_all := lw_g (lw_at lw_m13 169 rfl) rfl
theorem q3192 : (Jvm.Cond.code ({ cls := "ArcRecorderModel", name := "arcAt", desc := "(IIIF)F" } : Jvm.MethodName) prog_26_method_79_code (5 : Nat) (Option.some Jvm.ClassFile.FieldType.float)) ∈ lw_all := lw_g (lw_at lw_m13 170 rfl) rfl
theorem q3193 : (Jvm.Cond.methodLink "ArcRecorderModel" (411 : Nat) ({ cls := "ArcRecorderModel", name := "layFeatures", desc := "(I)V" } : Jvm.MethodName)) ∈ lw_all := lw_g (lw_at lw_m13 171 rfl) rfl
theorem q3194 : (Jvm.Cond.privateMethod ({ cls := "ArcRecorderModel", name := "layFeatures", desc := "(I)V" } : Jvm.MethodName)) ∈ lw_tbl := lw_at lw_m13 172 rfl
theorem q3195 : (Jvm.Cond.instanceMethod ({ cls := "ArcRecorderModel", name := "layFeatures", desc := "(I)V" } : Jvm.MethodName)) ∈ lw_all := lw_g (lw_at lw_m13 173 rfl) rfl
theorem q3196 : (Jvm.Cond.code ({ cls := "ArcRecorderModel", name := "layFeatures", desc := "(I)V" } : Jvm.MethodName) prog_26_method_84_code (12 : Nat) (Option.none : Option Jvm.ClassFile.FieldType)) ∈ lw_all := lw_g (lw_at lw_m13 174 rfl) rfl
theorem q3197 : (Jvm.Cond.methodLink "ArcRecorderModel" (381 : Nat) ({ cls := "ArcRecorderModel", name := "size", desc := "(F)F" } : Jvm.MethodName)) ∈ lw_all := lw_g (lw_at lw_m13 175 rfl) rfl
theorem q3198 : (Jvm.Cond.static ({ cls := "ArcRecorderModel", name := "size", desc := "(F)F" } : Jvm.MethodName)) ∈ lw_all := lw_g (lw_at lw_m13 176 rfl) rfl
theorem q3199 : (Jvm.Cond.code ({ cls := "ArcRecorderModel", name := "size", desc := "(F)F" } : Jvm.MethodName) prog_26_method_82_code (1 : Nat) (Option.some Jvm.ClassFile.FieldType.float)) ∈ lw_all := lw_g (lw_at lw_m13 177 rfl) rfl
theorem q3200 : (Jvm.Cond.constantFloat "ArcRecorderModel" (384 : Nat) (1028443341 : UInt32)) ∈ lw_all := lw_g (lw_at lw_m13 178 rfl) rfl
theorem q3201 : (Jvm.Cond.methodLink "ArcRecorderModel" (414 : Nat) ({ cls := "ArcRecorderModel", name := "judge", desc := "(I)V" } : Jvm.MethodName)) ∈ lw_all := lw_g (lw_at lw_m13 179 rfl) rfl
theorem q3202 : (Jvm.Cond.privateMethod ({ cls := "ArcRecorderModel", name := "judge", desc := "(I)V" } : Jvm.MethodName)) ∈ lw_tbl := lw_at lw_m13 180 rfl
theorem q3203 : (Jvm.Cond.instanceMethod ({ cls := "ArcRecorderModel", name := "judge", desc := "(I)V" } : Jvm.MethodName)) ∈ lw_all := lw_g (lw_at lw_m13 181 rfl) rfl
theorem q3204 : (Jvm.Cond.code ({ cls := "ArcRecorderModel", name := "judge", desc := "(I)V" } : Jvm.MethodName) prog_26_method_90_code (5 : Nat) (Option.none : Option Jvm.ClassFile.FieldType)) ∈ lw_all := lw_g (lw_at lw_m13 182 rfl) rfl
theorem q3205 : (Jvm.Cond.methodLink "ArcRecorderModel" (391 : Nat) ({ cls := "ArcRecorderModel", name := "featureOf", desc := "(II)F" } : Jvm.MethodName)) ∈ lw_all := lw_g (lw_at lw_m13 183 rfl) rfl
theorem q3206 : (Jvm.Cond.privateMethod ({ cls := "ArcRecorderModel", name := "featureOf", desc := "(II)F" } : Jvm.MethodName)) ∈ lw_tbl := lw_at lw_m13 184 rfl
theorem q3207 : (Jvm.Cond.instanceMethod ({ cls := "ArcRecorderModel", name := "featureOf", desc := "(II)F" } : Jvm.MethodName)) ∈ lw_all := lw_g (lw_at lw_m13 185 rfl) rfl
theorem q3208 : (Jvm.Cond.code ({ cls := "ArcRecorderModel", name := "featureOf", desc := "(II)F" } : Jvm.MethodName) prog_26_method_11_code (3 : Nat) (Option.some Jvm.ClassFile.FieldType.float)) ∈ lw_all := lw_g (lw_at lw_m13 186 rfl) rfl
theorem q3209 : (Jvm.Cond.methodLink "ArcRecorderModel" (394 : Nat) ({ cls := "ArcRecorderModel", name := "matchAll", desc := "(II)I" } : Jvm.MethodName)) ∈ lw_all := lw_g (lw_at lw_m13 187 rfl) rfl
theorem q3210 : (Jvm.Cond.privateMethod ({ cls := "ArcRecorderModel", name := "matchAll", desc := "(II)I" } : Jvm.MethodName)) ∈ lw_tbl := lw_at lw_m13 188 rfl
theorem q3211 : (Jvm.Cond.instanceMethod ({ cls := "ArcRecorderModel", name := "matchAll", desc := "(II)I" } : Jvm.MethodName)) ∈ lw_all := lw_g (lw_at lw_m13 189 rfl) rfl
theorem q3212 : (Jvm.Cond.code ({ cls := "ArcRecorderModel", name := "matchAll", desc := "(II)I" } : Jvm.MethodName) prog_26_method_86_code (6 : Nat) (Option.some Jvm.ClassFile.FieldType.int)) ∈ lw_all := lw_g (lw_at lw_m13 190 rfl) rfl
theorem q3213 : (Jvm.Cond.methodLink "ArcRecorderModel" (385 : Nat) ({ cls := "ArcRecorderModel", name := "holds", desc := "(I)Z" } : Jvm.MethodName)) ∈ lw_all := lw_g (lw_at lw_m13 191 rfl) rfl
theorem q3214 : (Jvm.Cond.privateMethod ({ cls := "ArcRecorderModel", name := "holds", desc := "(I)Z" } : Jvm.MethodName)) ∈ lw_tbl := lw_at lw_m13 192 rfl
theorem q3215 : (Jvm.Cond.instanceMethod ({ cls := "ArcRecorderModel", name := "holds", desc := "(I)Z" } : Jvm.MethodName)) ∈ lw_all := lw_g (lw_at lw_m13 193 rfl) rfl
theorem q3216 : (Jvm.Cond.code ({ cls := "ArcRecorderModel", name := "holds", desc := "(I)Z" } : Jvm.MethodName) prog_26_method_85_code (6 : Nat) (Option.some Jvm.ClassFile.FieldType.boolean)) ∈ lw_all := lw_g (lw_at lw_m13 194 rfl) rfl
theorem q3217 : (Jvm.Cond.methodLink "ArcRecorderModel" (397 : Nat) ({ cls := "ArcRecorderModel", name := "firstOf", desc := "(IZ)I" } : Jvm.MethodName)) ∈ lw_all := lw_g (lw_at lw_m13 195 rfl) rfl
theorem q3218 : (Jvm.Cond.privateMethod ({ cls := "ArcRecorderModel", name := "firstOf", desc := "(IZ)I" } : Jvm.MethodName)) ∈ lw_tbl := lw_at lw_m13 196 rfl
theorem q3219 : (Jvm.Cond.instanceMethod ({ cls := "ArcRecorderModel", name := "firstOf", desc := "(IZ)I" } : Jvm.MethodName)) ∈ lw_all := lw_g (lw_at lw_m13 197 rfl) rfl
theorem q3220 : (Jvm.Cond.code ({ cls := "ArcRecorderModel", name := "firstOf", desc := "(IZ)I" } : Jvm.MethodName) prog_26_method_88_code (4 : Nat) (Option.some Jvm.ClassFile.FieldType.int)) ∈ lw_all := lw_g (lw_at lw_m13 198 rfl) rfl
theorem q3221 : (Jvm.Cond.methodLink "ArcRecorderModel" (388 : Nat) ({ cls := "ArcRecorderModel", name := "isAlwaysOne", desc := "(I)Z" } : Jvm.MethodName)) ∈ lw_all := lw_g (lw_at lw_m13 199 rfl) rfl
theorem q3222 : (Jvm.Cond.privateMethod ({ cls := "ArcRecorderModel", name := "isAlwaysOne", desc := "(I)Z" } : Jvm.MethodName)) ∈ lw_tbl := lw_at lw_m13 200 rfl
theorem q3223 : (Jvm.Cond.instanceMethod ({ cls := "ArcRecorderModel", name := "isAlwaysOne", desc := "(I)Z" } : Jvm.MethodName)) ∈ lw_all := lw_g (lw_at lw_m13 201 rfl) rfl
theorem q3224 : (Jvm.Cond.code ({ cls := "ArcRecorderModel", name := "isAlwaysOne", desc := "(I)Z" } : Jvm.MethodName) prog_26_method_87_code (2 : Nat) (Option.some Jvm.ClassFile.FieldType.boolean)) ∈ lw_all := lw_g (lw_at lw_m13 202 rfl) rfl
theorem q3225 : (Jvm.Cond.methodLink "ArcRecorderModel" (401 : Nat) ({ cls := "ArcRecorderModel", name := "pushFlag", desc := "(IZ)V" } : Jvm.MethodName)) ∈ lw_all := lw_g (lw_at lw_m13 203 rfl) rfl
theorem q3226 : (Jvm.Cond.privateMethod ({ cls := "ArcRecorderModel", name := "pushFlag", desc := "(IZ)V" } : Jvm.MethodName)) ∈ lw_tbl := lw_at lw_m13 204 rfl
theorem q3227 : (Jvm.Cond.instanceMethod ({ cls := "ArcRecorderModel", name := "pushFlag", desc := "(IZ)V" } : Jvm.MethodName)) ∈ lw_all := lw_g (lw_at lw_m13 205 rfl) rfl
theorem q3228 : (Jvm.Cond.code ({ cls := "ArcRecorderModel", name := "pushFlag", desc := "(IZ)V" } : Jvm.MethodName) prog_26_method_89_code (4 : Nat) (Option.none : Option Jvm.ClassFile.FieldType)) ∈ lw_all := lw_g (lw_at lw_m13 206 rfl) rfl
theorem q3229 : (Jvm.Cond.constantFloat "ArcRecorderModel" (417 : Nat) (1092616192 : UInt32)) ∈ lw_all := lw_g (lw_at lw_m13 207 rfl) rfl
theorem q3230 : (Jvm.Cond.methodLink "ArcRecorderModel" (418 : Nat) ({ cls := "ArcRecorderModel", name := "trip", desc := "(II)V" } : Jvm.MethodName)) ∈ lw_all := lw_g (lw_at lw_m13 208 rfl) rfl
theorem q3231 : (Jvm.Cond.privateMethod ({ cls := "ArcRecorderModel", name := "trip", desc := "(II)V" } : Jvm.MethodName)) ∈ lw_tbl := lw_at lw_m13 209 rfl
theorem q3232 : (Jvm.Cond.instanceMethod ({ cls := "ArcRecorderModel", name := "trip", desc := "(II)V" } : Jvm.MethodName)) ∈ lw_all := lw_g (lw_at lw_m13 210 rfl) rfl
theorem q3233 : (Jvm.Cond.code ({ cls := "ArcRecorderModel", name := "trip", desc := "(II)V" } : Jvm.MethodName) prog_26_method_93_code (6 : Nat) (Option.none : Option Jvm.ClassFile.FieldType)) ∈ lw_all := lw_g (lw_at lw_m13 211 rfl) rfl
theorem q3234 : (Jvm.Cond.methodLink "ArcRecorderModel" (405 : Nat) ({ cls := "ArcRecorderModel", name := "windowOf", desc := "(I)I" } : Jvm.MethodName)) ∈ lw_all := lw_g (lw_at lw_m13 212 rfl) rfl
theorem q3235 : (Jvm.Cond.privateMethod ({ cls := "ArcRecorderModel", name := "windowOf", desc := "(I)I" } : Jvm.MethodName)) ∈ lw_tbl := lw_at lw_m13 213 rfl
theorem q3236 : (Jvm.Cond.instanceMethod ({ cls := "ArcRecorderModel", name := "windowOf", desc := "(I)I" } : Jvm.MethodName)) ∈ lw_all := lw_g (lw_at lw_m13 214 rfl) rfl
theorem q3237 : (Jvm.Cond.code ({ cls := "ArcRecorderModel", name := "windowOf", desc := "(I)I" } : Jvm.MethodName) prog_26_method_91_code (2 : Nat) (Option.some Jvm.ClassFile.FieldType.int)) ∈ lw_all := lw_g (lw_at lw_m13 215 rfl) rfl
theorem q3238 : (Jvm.Cond.methodLink "ArcRecorderModel" (422 : Nat) ({ cls := "ArcRecorderModel", name := "suspectsOf", desc := "(II)I" } : Jvm.MethodName)) ∈ lw_all := lw_g (lw_at lw_m13 216 rfl) rfl
theorem q3239 : (Jvm.Cond.privateMethod ({ cls := "ArcRecorderModel", name := "suspectsOf", desc := "(II)I" } : Jvm.MethodName)) ∈ lw_tbl := lw_at lw_m13 217 rfl
theorem q3240 : (Jvm.Cond.instanceMethod ({ cls := "ArcRecorderModel", name := "suspectsOf", desc := "(II)I" } : Jvm.MethodName)) ∈ lw_all := lw_g (lw_at lw_m13 218 rfl) rfl
theorem q3241 : (Jvm.Cond.code ({ cls := "ArcRecorderModel", name := "suspectsOf", desc := "(II)I" } : Jvm.MethodName) prog_26_method_92_code (5 : Nat) (Option.some Jvm.ClassFile.FieldType.int)) ∈ lw_all := lw_g (lw_at lw_m13 219 rfl) rfl
theorem q3242 : (Jvm.Cond.methodLink "ArcRecorderModel" (440 : Nat) ({ cls := "ArcRecorderModel", name := "bitCount", desc := "(I)I" } : Jvm.MethodName)) ∈ lw_all := lw_g (lw_at lw_m13 220 rfl) rfl
theorem q3243 : (Jvm.Cond.static ({ cls := "ArcRecorderModel", name := "bitCount", desc := "(I)I" } : Jvm.MethodName)) ∈ lw_all := lw_g (lw_at lw_m13 221 rfl) rfl
theorem q3244 : (Jvm.Cond.code ({ cls := "ArcRecorderModel", name := "bitCount", desc := "(I)I" } : Jvm.MethodName) prog_26_method_96_code (3 : Nat) (Option.some Jvm.ClassFile.FieldType.int)) ∈ lw_all := lw_g (lw_at lw_m13 222 rfl) rfl
theorem q3246 : (Jvm.Cond.instanceMethod ({ cls := "ArcRecorderModel", name := "sample", desc := "(II)F" } : Jvm.MethodName)) ∈ lw_all := lw_g (lw_at lw_m13 224 rfl) rfl
theorem q3247 : (Jvm.Cond.selects "ArcRecorderModel" ({ cls := "ArcRecorderModel", name := "sample", desc := "(II)F" } : Jvm.MethodName) ({ cls := "ArcRecorderModel", name := "sample", desc := "(II)F" } : Jvm.MethodName)) ∈ lw_all := lw_g (lw_at lw_m13 225 rfl) rfl
theorem q3248 : (Jvm.Cond.code ({ cls := "ArcRecorderModel", name := "sample", desc := "(II)F" } : Jvm.MethodName) prog_26_method_98_code (3 : Nat) (Option.some Jvm.ClassFile.FieldType.float)) ∈ lw_all := lw_g (lw_at lw_m13 226 rfl) rfl
theorem q3249 : (Jvm.Cond.methodLink "ArcRecorderModel" (443 : Nat) ({ cls := "ArcRecorderModel", name := "hasHad", desc := "(I)Z" } : Jvm.MethodName)) ∈ lw_all := lw_g (lw_at lw_m13 227 rfl) rfl
theorem q3250 : (Jvm.Cond.privateMethod ({ cls := "ArcRecorderModel", name := "hasHad", desc := "(I)Z" } : Jvm.MethodName)) ∈ lw_tbl := lw_at lw_m13 228 rfl
theorem q3251 : (Jvm.Cond.instanceMethod ({ cls := "ArcRecorderModel", name := "hasHad", desc := "(I)Z" } : Jvm.MethodName)) ∈ lw_all := lw_g (lw_at lw_m13 229 rfl) rfl
theorem q3252 : (Jvm.Cond.code ({ cls := "ArcRecorderModel", name := "hasHad", desc := "(I)Z" } : Jvm.MethodName) prog_26_method_17_code (2 : Nat) (Option.some Jvm.ClassFile.FieldType.boolean)) ∈ lw_all := lw_g (lw_at lw_m13 230 rfl) rfl
theorem q3254 : (Jvm.Cond.instanceMethod ({ cls := "ArcRecorderModel", name := "feature", desc := "(II)F" } : Jvm.MethodName)) ∈ lw_all := lw_g (lw_at lw_m13 232 rfl) rfl
theorem q3255 : (Jvm.Cond.selects "ArcRecorderModel" ({ cls := "ArcRecorderModel", name := "feature", desc := "(II)F" } : Jvm.MethodName) ({ cls := "ArcRecorderModel", name := "feature", desc := "(II)F" } : Jvm.MethodName)) ∈ lw_all := lw_g (lw_at lw_m13 233 rfl) rfl
theorem q3256 : (Jvm.Cond.code ({ cls := "ArcRecorderModel", name := "feature", desc := "(II)F" } : Jvm.MethodName) prog_26_method_100_code (3 : Nat) (Option.some Jvm.ClassFile.FieldType.float)) ∈ lw_all := lw_g (lw_at lw_m13 234 rfl) rfl
theorem q3257 : (Jvm.Cond.methodLink "ArcRecorderModel" (448 : Nat) ({ cls := "ArcRecorderModel", name := "isFeature", desc := "(I)Z" } : Jvm.MethodName)) ∈ lw_all := lw_g (lw_at lw_m13 235 rfl) rfl
theorem q3258 : (Jvm.Cond.static ({ cls := "ArcRecorderModel", name := "isFeature", desc := "(I)Z" } : Jvm.MethodName)) ∈ lw_all := lw_g (lw_at lw_m13 236 rfl) rfl
theorem q3259 : (Jvm.Cond.code ({ cls := "ArcRecorderModel", name := "isFeature", desc := "(I)Z" } : Jvm.MethodName) prog_26_method_99_code (1 : Nat) (Option.some Jvm.ClassFile.FieldType.boolean)) ∈ lw_all := lw_g (lw_at lw_m13 237 rfl) rfl
theorem q3260 : (Jvm.Cond.constantLong "ArcRecorderModel" (446 : Nat) (5 : Int64)) ∈ lw_all := lw_g (lw_at lw_m13 238 rfl) rfl
theorem q3262 : (Jvm.Cond.instanceMethod ({ cls := "ArcRecorderModel", name := "matching", desc := "(I)I" } : Jvm.MethodName)) ∈ lw_all := lw_g (lw_at lw_m14 0 rfl) rfl
theorem q3263 : (Jvm.Cond.selects "ArcRecorderModel" ({ cls := "ArcRecorderModel", name := "matching", desc := "(I)I" } : Jvm.MethodName) ({ cls := "ArcRecorderModel", name := "matching", desc := "(I)I" } : Jvm.MethodName)) ∈ lw_all := lw_g (lw_at lw_m14 1 rfl) rfl
theorem q3264 : (Jvm.Cond.code ({ cls := "ArcRecorderModel", name := "matching", desc := "(I)I" } : Jvm.MethodName) prog_26_method_101_code (2 : Nat) (Option.some Jvm.ClassFile.FieldType.int)) ∈ lw_all := lw_g (lw_at lw_m14 2 rfl) rfl
theorem q3266 : (Jvm.Cond.instanceMethod ({ cls := "ArcRecorderModel", name := "hiding", desc := "(I)I" } : Jvm.MethodName)) ∈ lw_all := lw_g (lw_at lw_m14 4 rfl) rfl
theorem q3267 : (Jvm.Cond.selects "ArcRecorderModel" ({ cls := "ArcRecorderModel", name := "hiding", desc := "(I)I" } : Jvm.MethodName) ({ cls := "ArcRecorderModel", name := "hiding", desc := "(I)I" } : Jvm.MethodName)) ∈ lw_all := lw_g (lw_at lw_m14 5 rfl) rfl
theorem q3268 : (Jvm.Cond.code ({ cls := "ArcRecorderModel", name := "hiding", desc := "(I)I" } : Jvm.MethodName) prog_26_method_102_code (2 : Nat) (Option.some Jvm.ClassFile.FieldType.int)) ∈ lw_all := lw_g (lw_at lw_m14 6 rfl) rfl
theorem q3270 : (Jvm.Cond.instanceMethod ({ cls := "ArcRecorderModel", name := "isSuspect", desc := "(I)Z" } : Jvm.MethodName)) ∈ lw_all := lw_g (lw_at lw_m14 8 rfl) rfl
theorem q3271 : (Jvm.Cond.selects "ArcRecorderModel" ({ cls := "ArcRecorderModel", name := "isSuspect", desc := "(I)Z" } : Jvm.MethodName) ({ cls := "ArcRecorderModel", name := "isSuspect", desc := "(I)Z" } : Jvm.MethodName)) ∈ lw_all := lw_g (lw_at lw_m14 9 rfl) rfl
theorem q3272 : (Jvm.Cond.code ({ cls := "ArcRecorderModel", name := "isSuspect", desc := "(I)Z" } : Jvm.MethodName) prog_26_method_103_code (2 : Nat) (Option.some Jvm.ClassFile.FieldType.boolean)) ∈ lw_all := lw_g (lw_at lw_m14 10 rfl) rfl
theorem q3274 : (Jvm.Cond.instanceMethod ({ cls := "ArcRecorderModel", name := "suspects", desc := "(I)I" } : Jvm.MethodName)) ∈ lw_all := lw_g (lw_at lw_m14 12 rfl) rfl
theorem q3275 : (Jvm.Cond.selects "ArcRecorderModel" ({ cls := "ArcRecorderModel", name := "suspects", desc := "(I)I" } : Jvm.MethodName) ({ cls := "ArcRecorderModel", name := "suspects", desc := "(I)I" } : Jvm.MethodName)) ∈ lw_all := lw_g (lw_at lw_m14 13 rfl) rfl
theorem q3276 : (Jvm.Cond.code ({ cls := "ArcRecorderModel", name := "suspects", desc := "(I)I" } : Jvm.MethodName) prog_26_method_104_code (2 : Nat) (Option.some Jvm.ClassFile.FieldType.int)) ∈ lw_all := lw_g (lw_at lw_m14 14 rfl) rfl
theorem q3278 : (Jvm.Cond.instanceMethod ({ cls := "ArcRecorderModel", name := "wasSuspect", desc := "(II)Z" } : Jvm.MethodName)) ∈ lw_all := lw_g (lw_at lw_m14 16 rfl) rfl
theorem q3279 : (Jvm.Cond.selects "ArcRecorderModel" ({ cls := "ArcRecorderModel", name := "wasSuspect", desc := "(II)Z" } : Jvm.MethodName) ({ cls := "ArcRecorderModel", name := "wasSuspect", desc := "(II)Z" } : Jvm.MethodName)) ∈ lw_all := lw_g (lw_at lw_m14 17 rfl) rfl
theorem q3280 : (Jvm.Cond.code ({ cls := "ArcRecorderModel", name := "wasSuspect", desc := "(II)Z" } : Jvm.MethodName) prog_26_method_105_code (3 : Nat) (Option.some Jvm.ClassFile.FieldType.boolean)) ∈ lw_all := lw_g (lw_at lw_m14 18 rfl) rfl
theorem q3281 : (Jvm.Cond.constantLong "ArcRecorderModel" (451 : Nat) (63 : Int64)) ∈ lw_all := lw_g (lw_at lw_m14 19 rfl) rfl
theorem q3283 : (Jvm.Cond.instanceMethod ({ cls := "ArcRecorderModel", name := "margin", desc := "(I)I" } : Jvm.MethodName)) ∈ lw_all := lw_g (lw_at lw_m14 21 rfl) rfl
theorem q3284 : (Jvm.Cond.selects "ArcRecorderModel" ({ cls := "ArcRecorderModel", name := "margin", desc := "(I)I" } : Jvm.MethodName) ({ cls := "ArcRecorderModel", name := "margin", desc := "(I)I" } : Jvm.MethodName)) ∈ lw_all := lw_g (lw_at lw_m14 22 rfl) rfl
theorem q3285 : (Jvm.Cond.code ({ cls := "ArcRecorderModel", name := "margin", desc := "(I)I" } : Jvm.MethodName) prog_26_method_107_code (2 : Nat) (Option.some Jvm.ClassFile.FieldType.int)) ∈ lw_all := lw_g (lw_at lw_m14 23 rfl) rfl
theorem q3286 : (Jvm.Cond.methodLink "ArcRecorderModel" (453 : Nat) ({ cls := "ArcRecorderModel", name := "marginOf", desc := "(I)I" } : Jvm.MethodName)) ∈ lw_all := lw_g (lw_at lw_m14 24 rfl) rfl
theorem q3287 : (Jvm.Cond.privateMethod ({ cls := "ArcRecorderModel", name := "marginOf", desc := "(I)I" } : Jvm.MethodName)) ∈ lw_tbl := lw_at lw_m14 25 rfl
theorem q3288 : (Jvm.Cond.instanceMethod ({ cls := "ArcRecorderModel", name := "marginOf", desc := "(I)I" } : Jvm.MethodName)) ∈ lw_all := lw_g (lw_at lw_m14 26 rfl) rfl
theorem q3289 : (Jvm.Cond.code ({ cls := "ArcRecorderModel", name := "marginOf", desc := "(I)I" } : Jvm.MethodName) prog_26_method_106_code (3 : Nat) (Option.some Jvm.ClassFile.FieldType.int)) ∈ lw_all := lw_g (lw_at lw_m14 27 rfl) rfl
theorem q3291 : (Jvm.Cond.instanceMethod ({ cls := "ArcRecorderModel", name := "hits", desc := "(I)I" } : Jvm.MethodName)) ∈ lw_all := lw_g (lw_at lw_m14 29 rfl) rfl
theorem q3292 : (Jvm.Cond.selects "ArcRecorderModel" ({ cls := "ArcRecorderModel", name := "hits", desc := "(I)I" } : Jvm.MethodName) ({ cls := "ArcRecorderModel", name := "hits", desc := "(I)I" } : Jvm.MethodName)) ∈ lw_all := lw_g (lw_at lw_m14 30 rfl) rfl
theorem q3293 : (Jvm.Cond.code ({ cls := "ArcRecorderModel", name := "hits", desc := "(I)I" } : Jvm.MethodName) prog_26_method_108_code (2 : Nat) (Option.some Jvm.ClassFile.FieldType.int)) ∈ lw_all := lw_g (lw_at lw_m14 31 rfl) rfl
theorem q3294 : (Jvm.Cond.methodLink "ArcRecorderModel" (456 : Nat) ({ cls := "ArcRecorderModel", name := "isSignature", desc := "(I)Z" } : Jvm.MethodName)) ∈ lw_all := lw_g (lw_at lw_m14 32 rfl) rfl
theorem q3295 : (Jvm.Cond.privateMethod ({ cls := "ArcRecorderModel", name := "isSignature", desc := "(I)Z" } : Jvm.MethodName)) ∈ lw_tbl := lw_at lw_m14 33 rfl
theorem q3296 : (Jvm.Cond.instanceMethod ({ cls := "ArcRecorderModel", name := "isSignature", desc := "(I)Z" } : Jvm.MethodName)) ∈ lw_all := lw_g (lw_at lw_m14 34 rfl) rfl
theorem q3297 : (Jvm.Cond.code ({ cls := "ArcRecorderModel", name := "isSignature", desc := "(I)Z" } : Jvm.MethodName) prog_26_method_14_code (2 : Nat) (Option.some Jvm.ClassFile.FieldType.boolean)) ∈ lw_all := lw_g (lw_at lw_m14 35 rfl) rfl
theorem q3299 : (Jvm.Cond.instanceMethod ({ cls := "ArcRecorderModel", name := "isAlways", desc := "(I)Z" } : Jvm.MethodName)) ∈ lw_all := lw_g (lw_at lw_m14 37 rfl) rfl
theorem q3300 : (Jvm.Cond.selects "ArcRecorderModel" ({ cls := "ArcRecorderModel", name := "isAlways", desc := "(I)Z" } : Jvm.MethodName) ({ cls := "ArcRecorderModel", name := "isAlways", desc := "(I)Z" } : Jvm.MethodName)) ∈ lw_all := lw_g (lw_at lw_m14 38 rfl) rfl
theorem q3301 : (Jvm.Cond.code ({ cls := "ArcRecorderModel", name := "isAlways", desc := "(I)Z" } : Jvm.MethodName) prog_26_method_109_code (2 : Nat) (Option.some Jvm.ClassFile.FieldType.boolean)) ∈ lw_all := lw_g (lw_at lw_m14 39 rfl) rfl
theorem q3303 : (Jvm.Cond.instanceMethod ({ cls := "ArcRecorderModel", name := "nuisanceHits", desc := "(I)I" } : Jvm.MethodName)) ∈ lw_all := lw_g (lw_at lw_m14 41 rfl) rfl
theorem q3304 : (Jvm.Cond.selects "ArcRecorderModel" ({ cls := "ArcRecorderModel", name := "nuisanceHits", desc := "(I)I" } : Jvm.MethodName) ({ cls := "ArcRecorderModel", name := "nuisanceHits", desc := "(I)I" } : Jvm.MethodName)) ∈ lw_all := lw_g (lw_at lw_m14 42 rfl) rfl
theorem q3305 : (Jvm.Cond.code ({ cls := "ArcRecorderModel", name := "nuisanceHits", desc := "(I)I" } : Jvm.MethodName) prog_26_method_110_code (2 : Nat) (Option.some Jvm.ClassFile.FieldType.int)) ∈ lw_all := lw_g (lw_at lw_m14 43 rfl) rfl
theorem q3306 : (Jvm.Cond.methodLink "ArcRecorderModel" (459 : Nat) ({ cls := "ArcRecorderModel", name := "isNuisance", desc := "(I)Z" } : Jvm.MethodName)) ∈ lw_all := lw_g (lw_at lw_m14 44 rfl) rfl
theorem q3307 : (Jvm.Cond.privateMethod ({ cls := "ArcRecorderModel", name := "isNuisance", desc := "(I)Z" } : Jvm.MethodName)) ∈ lw_tbl := lw_at lw_m14 45 rfl
theorem q3308 : (Jvm.Cond.instanceMethod ({ cls := "ArcRecorderModel", name := "isNuisance", desc := "(I)Z" } : Jvm.MethodName)) ∈ lw_all := lw_g (lw_at lw_m14 46 rfl) rfl
theorem q3309 : (Jvm.Cond.code ({ cls := "ArcRecorderModel", name := "isNuisance", desc := "(I)Z" } : Jvm.MethodName) prog_26_method_15_code (2 : Nat) (Option.some Jvm.ClassFile.FieldType.boolean)) ∈ lw_all := lw_g (lw_at lw_m14 47 rfl) rfl
theorem q3311 : (Jvm.Cond.instanceMethod ({ cls := "ArcRecorderModel", name := "wouldMatch", desc := "(IFFFFF)Z" } : Jvm.MethodName)) ∈ lw_all := lw_g (lw_at lw_m14 49 rfl) rfl
theorem q3312 : (Jvm.Cond.selects "ArcRecorderModel" ({ cls := "ArcRecorderModel", name := "wouldMatch", desc := "(IFFFFF)Z" } : Jvm.MethodName) ({ cls := "ArcRecorderModel", name := "wouldMatch", desc := "(IFFFFF)Z" } : Jvm.MethodName)) ∈ lw_all := lw_g (lw_at lw_m14 50 rfl) rfl
theorem q3313 : (Jvm.Cond.code ({ cls := "ArcRecorderModel", name := "wouldMatch", desc := "(IFFFFF)Z" } : Jvm.MethodName) prog_26_method_111_code (7 : Nat) (Option.some Jvm.ClassFile.FieldType.boolean)) ∈ lw_all := lw_g (lw_at lw_m14 51 rfl) rfl
theorem q3315 : (Jvm.Cond.instanceMethod ({ cls := "ArcRecorderModel", name := "learn", desc := "(I)I" } : Jvm.MethodName)) ∈ lw_all := lw_g (lw_at lw_m14 53 rfl) rfl
theorem q3316 : (Jvm.Cond.selects "ArcRecorderModel" ({ cls := "ArcRecorderModel", name := "learn", desc := "(I)I" } : Jvm.MethodName) ({ cls := "ArcRecorderModel", name := "learn", desc := "(I)I" } : Jvm.MethodName)) ∈ lw_all := lw_g (lw_at lw_m14 54 rfl) rfl
theorem q3317 : (Jvm.Cond.code ({ cls := "ArcRecorderModel", name := "learn", desc := "(I)I" } : Jvm.MethodName) prog_26_method_113_code (6 : Nat) (Option.some Jvm.ClassFile.FieldType.int)) ∈ lw_all := lw_g (lw_at lw_m14 55 rfl) rfl
theorem q3318 : (Jvm.Cond.methodLink "ArcRecorderModel" (462 : Nat) ({ cls := "ArcRecorderModel", name := "layTest", desc := "(IIIII)V" } : Jvm.MethodName)) ∈ lw_all := lw_g (lw_at lw_m14 56 rfl) rfl
theorem q3319 : (Jvm.Cond.privateMethod ({ cls := "ArcRecorderModel", name := "layTest", desc := "(IIIII)V" } : Jvm.MethodName)) ∈ lw_tbl := lw_at lw_m14 57 rfl
theorem q3320 : (Jvm.Cond.instanceMethod ({ cls := "ArcRecorderModel", name := "layTest", desc := "(IIIII)V" } : Jvm.MethodName)) ∈ lw_all := lw_g (lw_at lw_m14 58 rfl) rfl
theorem q3321 : (Jvm.Cond.code ({ cls := "ArcRecorderModel", name := "layTest", desc := "(IIIII)V" } : Jvm.MethodName) prog_26_method_112_code (6 : Nat) (Option.none : Option Jvm.ClassFile.FieldType)) ∈ lw_all := lw_g (lw_at lw_m14 59 rfl) rfl
theorem q3323 : (Jvm.Cond.instanceMethod ({ cls := "ArcRecorderModel", name := "forget", desc := "(I)I" } : Jvm.MethodName)) ∈ lw_all := lw_g (lw_at lw_m14 61 rfl) rfl
theorem q3324 : (Jvm.Cond.selects "ArcRecorderModel" ({ cls := "ArcRecorderModel", name := "forget", desc := "(I)I" } : Jvm.MethodName) ({ cls := "ArcRecorderModel", name := "forget", desc := "(I)I" } : Jvm.MethodName)) ∈ lw_all := lw_g (lw_at lw_m14 62 rfl) rfl
theorem q3325 : (Jvm.Cond.code ({ cls := "ArcRecorderModel", name := "forget", desc := "(I)I" } : Jvm.MethodName) prog_26_method_114_code (6 : Nat) (Option.some Jvm.ClassFile.FieldType.int)) ∈ lw_all := lw_g (lw_at lw_m14 63 rfl) rfl
theorem q3327 : (Jvm.Cond.instanceMethod ({ cls := "ArcRecorderModel", name := "setLimits", desc := "(II)I" } : Jvm.MethodName)) ∈ lw_all := lw_g (lw_at lw_m14 65 rfl) rfl
theorem q3328 : (Jvm.Cond.selects "ArcRecorderModel" ({ cls := "ArcRecorderModel", name := "setLimits", desc := "(II)I" } : Jvm.MethodName) ({ cls := "ArcRecorderModel", name := "setLimits", desc := "(II)I" } : Jvm.MethodName)) ∈ lw_all := lw_g (lw_at lw_m14 66 rfl) rfl
theorem q3329 : (Jvm.Cond.code ({ cls := "ArcRecorderModel", name := "setLimits", desc := "(II)I" } : Jvm.MethodName) prog_26_method_115_code (4 : Nat) (Option.some Jvm.ClassFile.FieldType.int)) ∈ lw_all := lw_g (lw_at lw_m14 67 rfl) rfl
theorem q3330 : (Jvm.Cond.constantLong "ArcRecorderModel" (466 : Nat) (64 : Int64)) ∈ lw_all := lw_g (lw_at lw_m14 68 rfl) rfl
theorem q3332 : (Jvm.Cond.instanceMethod ({ cls := "ArcRecorderModel", name := "reset", desc := "(I)I" } : Jvm.MethodName)) ∈ lw_all := lw_g (lw_at lw_m14 70 rfl) rfl
theorem q3333 : (Jvm.Cond.selects "ArcRecorderModel" ({ cls := "ArcRecorderModel", name := "reset", desc := "(I)I" } : Jvm.MethodName) ({ cls := "ArcRecorderModel", name := "reset", desc := "(I)I" } : Jvm.MethodName)) ∈ lw_all := lw_g (lw_at lw_m14 71 rfl) rfl
theorem q3334 : (Jvm.Cond.code ({ cls := "ArcRecorderModel", name := "reset", desc := "(I)I" } : Jvm.MethodName) prog_26_method_116_code (2 : Nat) (Option.some Jvm.ClassFile.FieldType.int)) ∈ lw_all := lw_g (lw_at lw_m14 72 rfl) rfl
theorem q3336 : (Jvm.Cond.instanceMethod ({ cls := "ArcRecorderModel", name := "service", desc := "(I)I" } : Jvm.MethodName)) ∈ lw_all := lw_g (lw_at lw_m14 74 rfl) rfl
theorem q3337 : (Jvm.Cond.selects "ArcRecorderModel" ({ cls := "ArcRecorderModel", name := "service", desc := "(I)I" } : Jvm.MethodName) ({ cls := "ArcRecorderModel", name := "service", desc := "(I)I" } : Jvm.MethodName)) ∈ lw_all := lw_g (lw_at lw_m14 75 rfl) rfl
theorem q3338 : (Jvm.Cond.code ({ cls := "ArcRecorderModel", name := "service", desc := "(I)I" } : Jvm.MethodName) prog_26_method_117_code (3 : Nat) (Option.some Jvm.ClassFile.FieldType.int)) ∈ lw_all := lw_g (lw_at lw_m14 76 rfl) rfl
theorem q3340 : (Jvm.Cond.instanceMethod ({ cls := "ArcRecorderModel", name := "test", desc := "(I)I" } : Jvm.MethodName)) ∈ lw_all := lw_g (lw_at lw_m14 78 rfl) rfl
theorem q3341 : (Jvm.Cond.selects "ArcRecorderModel" ({ cls := "ArcRecorderModel", name := "test", desc := "(I)I" } : Jvm.MethodName) ({ cls := "ArcRecorderModel", name := "test", desc := "(I)I" } : Jvm.MethodName)) ∈ lw_all := lw_g (lw_at lw_m14 79 rfl) rfl
theorem q3342 : (Jvm.Cond.code ({ cls := "ArcRecorderModel", name := "test", desc := "(I)I" } : Jvm.MethodName) prog_26_method_118_code (2 : Nat) (Option.some Jvm.ClassFile.FieldType.int)) ∈ lw_all := lw_g (lw_at lw_m14 80 rfl) rfl
theorem q3344 : (Jvm.Cond.instanceMethod ({ cls := "ArcRecorderModel", name := "isTested", desc := "(I)Z" } : Jvm.MethodName)) ∈ lw_all := lw_g (lw_at lw_m14 82 rfl) rfl
theorem q3345 : (Jvm.Cond.selects "ArcRecorderModel" ({ cls := "ArcRecorderModel", name := "isTested", desc := "(I)Z" } : Jvm.MethodName) ({ cls := "ArcRecorderModel", name := "isTested", desc := "(I)Z" } : Jvm.MethodName)) ∈ lw_all := lw_g (lw_at lw_m14 83 rfl) rfl
theorem q3346 : (Jvm.Cond.code ({ cls := "ArcRecorderModel", name := "isTested", desc := "(I)Z" } : Jvm.MethodName) prog_26_method_119_code (2 : Nat) (Option.some Jvm.ClassFile.FieldType.boolean)) ∈ lw_all := lw_g (lw_at lw_m14 84 rfl) rfl
theorem q3348 : (Jvm.Cond.instanceMethod ({ cls := "ArcRecorderModel", name := "losePower", desc := "()I" } : Jvm.MethodName)) ∈ lw_all := lw_g (lw_at lw_m14 86 rfl) rfl
theorem q3349 : (Jvm.Cond.selects "ArcRecorderModel" ({ cls := "ArcRecorderModel", name := "losePower", desc := "()I" } : Jvm.MethodName) ({ cls := "ArcRecorderModel", name := "losePower", desc := "()I" } : Jvm.MethodName)) ∈ lw_all := lw_g (lw_at lw_m14 87 rfl) rfl
theorem q3350 : (Jvm.Cond.code ({ cls := "ArcRecorderModel", name := "losePower", desc := "()I" } : Jvm.MethodName) prog_26_method_120_code (2 : Nat) (Option.some Jvm.ClassFile.FieldType.int)) ∈ lw_all := lw_g (lw_at lw_m14 88 rfl) rfl
theorem q3352 : (Jvm.Cond.instanceMethod ({ cls := "ArcRecorderModel", name := "trips", desc := "(I)I" } : Jvm.MethodName)) ∈ lw_all := lw_g (lw_at lw_m14 90 rfl) rfl
theorem q3353 : (Jvm.Cond.selects "ArcRecorderModel" ({ cls := "ArcRecorderModel", name := "trips", desc := "(I)I" } : Jvm.MethodName) ({ cls := "ArcRecorderModel", name := "trips", desc := "(I)I" } : Jvm.MethodName)) ∈ lw_all := lw_g (lw_at lw_m14 91 rfl) rfl
theorem q3354 : (Jvm.Cond.code ({ cls := "ArcRecorderModel", name := "trips", desc := "(I)I" } : Jvm.MethodName) prog_26_method_121_code (2 : Nat) (Option.some Jvm.ClassFile.FieldType.int)) ∈ lw_all := lw_g (lw_at lw_m14 92 rfl) rfl
theorem q3356 : (Jvm.Cond.instanceMethod ({ cls := "ArcRecorderModel", name := "memoryCount", desc := "()I" } : Jvm.MethodName)) ∈ lw_all := lw_g (lw_at lw_m14 94 rfl) rfl
theorem q3357 : (Jvm.Cond.selects "ArcRecorderModel" ({ cls := "ArcRecorderModel", name := "memoryCount", desc := "()I" } : Jvm.MethodName) ({ cls := "ArcRecorderModel", name := "memoryCount", desc := "()I" } : Jvm.MethodName)) ∈ lw_all := lw_g (lw_at lw_m14 95 rfl) rfl
theorem q3358 : (Jvm.Cond.code ({ cls := "ArcRecorderModel", name := "memoryCount", desc := "()I" } : Jvm.MethodName) prog_26_method_122_code (1 : Nat) (Option.some Jvm.ClassFile.FieldType.int)) ∈ lw_all := lw_g (lw_at lw_m14 96 rfl) rfl
theorem q3360 : (Jvm.Cond.instanceMethod ({ cls := "ArcRecorderModel", name := "memory", desc := "(II)I" } : Jvm.MethodName)) ∈ lw_all := lw_g (lw_at lw_m14 98 rfl) rfl
theorem q3361 : (Jvm.Cond.selects "ArcRecorderModel" ({ cls := "ArcRecorderModel", name := "memory", desc := "(II)I" } : Jvm.MethodName) ({ cls := "ArcRecorderModel", name := "memory", desc := "(II)I" } : Jvm.MethodName)) ∈ lw_all := lw_g (lw_at lw_m14 99 rfl) rfl
theorem q3362 : (Jvm.Cond.code ({ cls := "ArcRecorderModel", name := "memory", desc := "(II)I" } : Jvm.MethodName) prog_26_method_124_code (3 : Nat) (Option.some Jvm.ClassFile.FieldType.int)) ∈ lw_all := lw_g (lw_at lw_m14 100 rfl) rfl
theorem q3363 : (Jvm.Cond.methodLink "ArcRecorderModel" (468 : Nat) ({ cls := "ArcRecorderModel", name := "isTrip", desc := "(I)Z" } : Jvm.MethodName)) ∈ lw_all := lw_g (lw_at lw_m14 101 rfl) rfl
theorem q3364 : (Jvm.Cond.privateMethod ({ cls := "ArcRecorderModel", name := "isTrip", desc := "(I)Z" } : Jvm.MethodName)) ∈ lw_tbl := lw_at lw_m14 102 rfl
theorem q3365 : (Jvm.Cond.instanceMethod ({ cls := "ArcRecorderModel", name := "isTrip", desc := "(I)Z" } : Jvm.MethodName)) ∈ lw_all := lw_g (lw_at lw_m14 103 rfl) rfl
theorem q3366 : (Jvm.Cond.code ({ cls := "ArcRecorderModel", name := "isTrip", desc := "(I)Z" } : Jvm.MethodName) prog_26_method_18_code (2 : Nat) (Option.some Jvm.ClassFile.FieldType.boolean)) ∈ lw_all := lw_g (lw_at lw_m14 104 rfl) rfl
theorem q3367 : (Jvm.Cond.methodLink "ArcRecorderModel" (471 : Nat) ({ cls := "ArcRecorderModel", name := "ofTrip", desc := "(II)I" } : Jvm.MethodName)) ∈ lw_all := lw_g (lw_at lw_m14 105 rfl) rfl
theorem q3368 : (Jvm.Cond.privateMethod ({ cls := "ArcRecorderModel", name := "ofTrip", desc := "(II)I" } : Jvm.MethodName)) ∈ lw_tbl := lw_at lw_m14 106 rfl
theorem q3369 : (Jvm.Cond.instanceMethod ({ cls := "ArcRecorderModel", name := "ofTrip", desc := "(II)I" } : Jvm.MethodName)) ∈ lw_all := lw_g (lw_at lw_m14 107 rfl) rfl
theorem q3370 : (Jvm.Cond.code ({ cls := "ArcRecorderModel", name := "ofTrip", desc := "(II)I" } : Jvm.MethodName) prog_26_method_123_code (3 : Nat) (Option.some Jvm.ClassFile.FieldType.int)) ∈ lw_all := lw_g (lw_at lw_m14 108 rfl) rfl
theorem q3372 : (Jvm.Cond.instanceMethod ({ cls := "ArcRecorderModel", name := "named", desc := "(II)I" } : Jvm.MethodName)) ∈ lw_all := lw_g (lw_at lw_m14 110 rfl) rfl
theorem q3373 : (Jvm.Cond.selects "ArcRecorderModel" ({ cls := "ArcRecorderModel", name := "named", desc := "(II)I" } : Jvm.MethodName) ({ cls := "ArcRecorderModel", name := "named", desc := "(II)I" } : Jvm.MethodName)) ∈ lw_all := lw_g (lw_at lw_m14 111 rfl) rfl
theorem q3374 : (Jvm.Cond.code ({ cls := "ArcRecorderModel", name := "named", desc := "(II)I" } : Jvm.MethodName) prog_26_method_125_code (3 : Nat) (Option.some Jvm.ClassFile.FieldType.int)) ∈ lw_all := lw_g (lw_at lw_m14 112 rfl) rfl
theorem q3376 : (Jvm.Cond.instanceMethod ({ cls := "ArcRecorderModel", name := "peakOf", desc := "(I)F" } : Jvm.MethodName)) ∈ lw_all := lw_g (lw_at lw_m14 114 rfl) rfl
theorem q3377 : (Jvm.Cond.selects "ArcRecorderModel" ({ cls := "ArcRecorderModel", name := "peakOf", desc := "(I)F" } : Jvm.MethodName) ({ cls := "ArcRecorderModel", name := "peakOf", desc := "(I)F" } : Jvm.MethodName)) ∈ lw_all := lw_g (lw_at lw_m14 115 rfl) rfl
theorem q3378 : (Jvm.Cond.code ({ cls := "ArcRecorderModel", name := "peakOf", desc := "(I)F" } : Jvm.MethodName) prog_26_method_126_code (2 : Nat) (Option.some Jvm.ClassFile.FieldType.float)) ∈ lw_all := lw_g (lw_at lw_m14 116 rfl) rfl
theorem q3380 : (Jvm.Cond.instanceMethod ({ cls := "ArcRecorderModel", name := "clearMemory", desc := "()I" } : Jvm.MethodName)) ∈ lw_all := lw_g (lw_at lw_m14 118 rfl) rfl
theorem q3381 : (Jvm.Cond.selects "ArcRecorderModel" ({ cls := "ArcRecorderModel", name := "clearMemory", desc := "()I" } : Jvm.MethodName) ({ cls := "ArcRecorderModel", name := "clearMemory", desc := "()I" } : Jvm.MethodName)) ∈ lw_all := lw_g (lw_at lw_m14 119 rfl) rfl
theorem q3382 : (Jvm.Cond.code ({ cls := "ArcRecorderModel", name := "clearMemory", desc := "()I" } : Jvm.MethodName) prog_26_method_127_code (2 : Nat) (Option.some Jvm.ClassFile.FieldType.int)) ∈ lw_all := lw_g (lw_at lw_m14 120 rfl) rfl
theorem q3384 : (Jvm.Cond.instanceMethod ({ cls := "ArcRecorderModel", name := "tripIn", desc := "(I)I" } : Jvm.MethodName)) ∈ lw_all := lw_g (lw_at lw_m14 122 rfl) rfl
theorem q3385 : (Jvm.Cond.selects "ArcRecorderModel" ({ cls := "ArcRecorderModel", name := "tripIn", desc := "(I)I" } : Jvm.MethodName) ({ cls := "ArcRecorderModel", name := "tripIn", desc := "(I)I" } : Jvm.MethodName)) ∈ lw_all := lw_g (lw_at lw_m14 123 rfl) rfl
theorem q3386 : (Jvm.Cond.code ({ cls := "ArcRecorderModel", name := "tripIn", desc := "(I)I" } : Jvm.MethodName) prog_26_method_131_code (3 : Nat) (Option.some Jvm.ClassFile.FieldType.int)) ∈ lw_all := lw_g (lw_at lw_m14 124 rfl) rfl
theorem q3387 : (Jvm.Cond.methodLink "ArcRecorderModel" (474 : Nat) ({ cls := "ArcRecorderModel", name := "beginThought", desc := "()V" } : Jvm.MethodName)) ∈ lw_all := lw_g (lw_at lw_m14 125 rfl) rfl
theorem q3388 : (Jvm.Cond.privateMethod ({ cls := "ArcRecorderModel", name := "beginThought", desc := "()V" } : Jvm.MethodName)) ∈ lw_tbl := lw_at lw_m14 126 rfl
theorem q3389 : (Jvm.Cond.instanceMethod ({ cls := "ArcRecorderModel", name := "beginThought", desc := "()V" } : Jvm.MethodName)) ∈ lw_all := lw_g (lw_at lw_m14 127 rfl) rfl
theorem q3390 : (Jvm.Cond.code ({ cls := "ArcRecorderModel", name := "beginThought", desc := "()V" } : Jvm.MethodName) prog_26_method_128_code (2 : Nat) (Option.none : Option Jvm.ClassFile.FieldType)) ∈ lw_all := lw_g (lw_at lw_m14 128 rfl) rfl
theorem q3391 : (Jvm.Cond.methodLink "ArcRecorderModel" (477 : Nat) ({ cls := "ArcRecorderModel", name := "tripAfter", desc := "(II)I" } : Jvm.MethodName)) ∈ lw_all := lw_g (lw_at lw_m14 129 rfl) rfl
theorem q3392 : (Jvm.Cond.privateMethod ({ cls := "ArcRecorderModel", name := "tripAfter", desc := "(II)I" } : Jvm.MethodName)) ∈ lw_tbl := lw_at lw_m14 130 rfl
theorem q3393 : (Jvm.Cond.instanceMethod ({ cls := "ArcRecorderModel", name := "tripAfter", desc := "(II)I" } : Jvm.MethodName)) ∈ lw_all := lw_g (lw_at lw_m14 131 rfl) rfl
theorem q3394 : (Jvm.Cond.code ({ cls := "ArcRecorderModel", name := "tripAfter", desc := "(II)I" } : Jvm.MethodName) prog_26_method_130_code (4 : Nat) (Option.some Jvm.ClassFile.FieldType.int)) ∈ lw_all := lw_g (lw_at lw_m14 132 rfl) rfl
theorem q3395 : (Jvm.Cond.methodLink "ArcRecorderModel" (480 : Nat) ({ cls := "ArcRecorderModel", name := "endThought", desc := "()V" } : Jvm.MethodName)) ∈ lw_all := lw_g (lw_at lw_m14 133 rfl) rfl
theorem q3396 : (Jvm.Cond.privateMethod ({ cls := "ArcRecorderModel", name := "endThought", desc := "()V" } : Jvm.MethodName)) ∈ lw_tbl := lw_at lw_m14 134 rfl
theorem q3397 : (Jvm.Cond.instanceMethod ({ cls := "ArcRecorderModel", name := "endThought", desc := "()V" } : Jvm.MethodName)) ∈ lw_all := lw_g (lw_at lw_m14 135 rfl) rfl
theorem q3398 : (Jvm.Cond.code ({ cls := "ArcRecorderModel", name := "endThought", desc := "()V" } : Jvm.MethodName) prog_26_method_129_code (2 : Nat) (Option.none : Option Jvm.ClassFile.FieldType)) ∈ lw_all := lw_g (lw_at lw_m14 136 rfl) rfl
theorem q3400 : (Jvm.Cond.instanceMethod ({ cls := "ArcRecorderModel", name := "tripping", desc := "(I)I" } : Jvm.MethodName)) ∈ lw_all := lw_g (lw_at lw_m14 138 rfl) rfl
theorem q3401 : (Jvm.Cond.selects "ArcRecorderModel" ({ cls := "ArcRecorderModel", name := "tripping", desc := "(I)I" } : Jvm.MethodName) ({ cls := "ArcRecorderModel", name := "tripping", desc := "(I)I" } : Jvm.MethodName)) ∈ lw_all := lw_g (lw_at lw_m14 139 rfl) rfl
theorem q3402 : (Jvm.Cond.code ({ cls := "ArcRecorderModel", name := "tripping", desc := "(I)I" } : Jvm.MethodName) prog_26_method_132_code (4 : Nat) (Option.some Jvm.ClassFile.FieldType.int)) ∈ lw_all := lw_g (lw_at lw_m14 140 rfl) rfl
theorem q3404 : (Jvm.Cond.instanceMethod ({ cls := "ArcRecorderModel", name := "featureAfter", desc := "(III)F" } : Jvm.MethodName)) ∈ lw_all := lw_g (lw_at lw_m14 142 rfl) rfl
theorem q3405 : (Jvm.Cond.selects "ArcRecorderModel" ({ cls := "ArcRecorderModel", name := "featureAfter", desc := "(III)F" } : Jvm.MethodName) ({ cls := "ArcRecorderModel", name := "featureAfter", desc := "(III)F" } : Jvm.MethodName)) ∈ lw_all := lw_g (lw_at lw_m14 143 rfl) rfl
theorem q3406 : (Jvm.Cond.code ({ cls := "ArcRecorderModel", name := "featureAfter", desc := "(III)F" } : Jvm.MethodName) prog_26_method_133_code (9 : Nat) (Option.some Jvm.ClassFile.FieldType.float)) ∈ lw_all := lw_g (lw_at lw_m14 144 rfl) rfl
theorem q3408 : (Jvm.Cond.instanceMethod ({ cls := "ArcRecorderModel", name := "culprit", desc := "(I)I" } : Jvm.MethodName)) ∈ lw_all := lw_g (lw_at lw_m14 146 rfl) rfl
theorem q3409 : (Jvm.Cond.selects "ArcRecorderModel" ({ cls := "ArcRecorderModel", name := "culprit", desc := "(I)I" } : Jvm.MethodName) ({ cls := "ArcRecorderModel", name := "culprit", desc := "(I)I" } : Jvm.MethodName)) ∈ lw_all := lw_g (lw_at lw_m14 147 rfl) rfl
theorem q3410 : (Jvm.Cond.code ({ cls := "ArcRecorderModel", name := "culprit", desc := "(I)I" } : Jvm.MethodName) prog_26_method_134_code (5 : Nat) (Option.some Jvm.ClassFile.FieldType.int)) ∈ lw_all := lw_g (lw_at lw_m14 148 rfl) rfl
theorem q3412 : (Jvm.Cond.instanceMethod ({ cls := "ArcRecorderModel", name := "hitsAhead", desc := "(I)I" } : Jvm.MethodName)) ∈ lw_all := lw_g (lw_at lw_m14 150 rfl) rfl
theorem q3413 : (Jvm.Cond.selects "ArcRecorderModel" ({ cls := "ArcRecorderModel", name := "hitsAhead", desc := "(I)I" } : Jvm.MethodName) ({ cls := "ArcRecorderModel", name := "hitsAhead", desc := "(I)I" } : Jvm.MethodName)) ∈ lw_all := lw_g (lw_at lw_m14 151 rfl) rfl
theorem q3414 : (Jvm.Cond.code ({ cls := "ArcRecorderModel", name := "hitsAhead", desc := "(I)I" } : Jvm.MethodName) prog_26_method_135_code (4 : Nat) (Option.some Jvm.ClassFile.FieldType.int)) ∈ lw_all := lw_g (lw_at lw_m14 152 rfl) rfl
theorem q3416 : (Jvm.Cond.instanceMethod ({ cls := "ArcRecorderModel", name := "largestCount", desc := "(I)I" } : Jvm.MethodName)) ∈ lw_all := lw_g (lw_at lw_m14 154 rfl) rfl
theorem q3417 : (Jvm.Cond.selects "ArcRecorderModel" ({ cls := "ArcRecorderModel", name := "largestCount", desc := "(I)I" } : Jvm.MethodName) ({ cls := "ArcRecorderModel", name := "largestCount", desc := "(I)I" } : Jvm.MethodName)) ∈ lw_all := lw_g (lw_at lw_m14 155 rfl) rfl
theorem q3418 : (Jvm.Cond.code ({ cls := "ArcRecorderModel", name := "largestCount", desc := "(I)I" } : Jvm.MethodName) prog_26_method_136_code (4 : Nat) (Option.some Jvm.ClassFile.FieldType.int)) ∈ lw_all := lw_g (lw_at lw_m14 156 rfl) rfl
theorem q3420 : (Jvm.Cond.instanceMethod ({ cls := "ArcRecorderModel", name := "totalMean", desc := "()F" } : Jvm.MethodName)) ∈ lw_all := lw_g (lw_at lw_m14 158 rfl) rfl
theorem q3421 : (Jvm.Cond.selects "ArcRecorderModel" ({ cls := "ArcRecorderModel", name := "totalMean", desc := "()F" } : Jvm.MethodName) ({ cls := "ArcRecorderModel", name := "totalMean", desc := "()F" } : Jvm.MethodName)) ∈ lw_all := lw_g (lw_at lw_m14 159 rfl) rfl
theorem q3422 : (Jvm.Cond.code ({ cls := "ArcRecorderModel", name := "totalMean", desc := "()F" } : Jvm.MethodName) prog_26_method_137_code (3 : Nat) (Option.some Jvm.ClassFile.FieldType.float)) ∈ lw_all := lw_g (lw_at lw_m14 160 rfl) rfl
theorem q3424 : (Jvm.Cond.instanceMethod ({ cls := "ArcRecorderModel", name := "loadSample", desc := "(II)F" } : Jvm.MethodName)) ∈ lw_all := lw_g (lw_at lw_m14 162 rfl) rfl
theorem q3425 : (Jvm.Cond.selects "ArcRecorderModel" ({ cls := "ArcRecorderModel", name := "loadSample", desc := "(II)F" } : Jvm.MethodName) ({ cls := "ArcRecorderModel", name := "loadSample", desc := "(II)F" } : Jvm.MethodName)) ∈ lw_all := lw_g (lw_at lw_m14 163 rfl) rfl
theorem q3426 : (Jvm.Cond.code ({ cls := "ArcRecorderModel", name := "loadSample", desc := "(II)F" } : Jvm.MethodName) prog_26_method_138_code (3 : Nat) (Option.some Jvm.ClassFile.FieldType.float)) ∈ lw_all := lw_g (lw_at lw_m14 164 rfl) rfl
theorem q3428 : (Jvm.Cond.instanceMethod ({ cls := "ArcRecorderModel", name := "undo", desc := "()I" } : Jvm.MethodName)) ∈ lw_all := lw_g (lw_at lw_m14 166 rfl) rfl
theorem q3429 : (Jvm.Cond.selects "ArcRecorderModel" ({ cls := "ArcRecorderModel", name := "undo", desc := "()I" } : Jvm.MethodName) ({ cls := "ArcRecorderModel", name := "undo", desc := "()I" } : Jvm.MethodName)) ∈ lw_all := lw_g (lw_at lw_m14 167 rfl) rfl
theorem q3430 : (Jvm.Cond.code ({ cls := "ArcRecorderModel", name := "undo", desc := "()I" } : Jvm.MethodName) prog_26_method_140_code (2 : Nat) (Option.some Jvm.ClassFile.FieldType.int)) ∈ lw_all := lw_g (lw_at lw_m14 168 rfl) rfl
theorem q3432 : (Jvm.Cond.instanceMethod ({ cls := "ArcRecorderModel", name := "undoCount", desc := "()I" } : Jvm.MethodName)) ∈ lw_all := lw_g (lw_at lw_m14 170 rfl) rfl
theorem q3433 : (Jvm.Cond.selects "ArcRecorderModel" ({ cls := "ArcRecorderModel", name := "undoCount", desc := "()I" } : Jvm.MethodName) ({ cls := "ArcRecorderModel", name := "undoCount", desc := "()I" } : Jvm.MethodName)) ∈ lw_all := lw_g (lw_at lw_m14 171 rfl) rfl
theorem q3434 : (Jvm.Cond.code ({ cls := "ArcRecorderModel", name := "undoCount", desc := "()I" } : Jvm.MethodName) prog_26_method_141_code (1 : Nat) (Option.some Jvm.ClassFile.FieldType.int)) ∈ lw_all := lw_g (lw_at lw_m14 172 rfl) rfl
theorem q3436 : (Jvm.Cond.instanceMethod ({ cls := "ArcRecorderModel", name := "writeTrip", desc := "(I)I" } : Jvm.MethodName)) ∈ lw_all := lw_g (lw_at lw_m14 174 rfl) rfl
theorem q3437 : (Jvm.Cond.selects "ArcRecorderModel" ({ cls := "ArcRecorderModel", name := "writeTrip", desc := "(I)I" } : Jvm.MethodName) ({ cls := "ArcRecorderModel", name := "writeTrip", desc := "(I)I" } : Jvm.MethodName)) ∈ lw_all := lw_g (lw_at lw_m14 175 rfl) rfl
theorem q3438 : (Jvm.Cond.code ({ cls := "ArcRecorderModel", name := "writeTrip", desc := "(I)I" } : Jvm.MethodName) prog_26_method_144_code (4 : Nat) (Option.some Jvm.ClassFile.FieldType.int)) ∈ lw_all := lw_g (lw_at lw_m14 176 rfl) rfl
theorem q3439 : (Jvm.Cond.methodLink "ArcRecorderModel" (489 : Nat) ({ cls := "ArcRecorderModel", name := "write", desc := "(I)V" } : Jvm.MethodName)) ∈ lw_all := lw_g (lw_at lw_m14 177 rfl) rfl
theorem q3440 : (Jvm.Cond.privateMethod ({ cls := "ArcRecorderModel", name := "write", desc := "(I)V" } : Jvm.MethodName)) ∈ lw_tbl := lw_at lw_m14 178 rfl
theorem q3441 : (Jvm.Cond.instanceMethod ({ cls := "ArcRecorderModel", name := "write", desc := "(I)V" } : Jvm.MethodName)) ∈ lw_all := lw_g (lw_at lw_m14 179 rfl) rfl
theorem q3442 : (Jvm.Cond.code ({ cls := "ArcRecorderModel", name := "write", desc := "(I)V" } : Jvm.MethodName) prog_26_method_142_code (2 : Nat) (Option.none : Option Jvm.ClassFile.FieldType)) ∈ lw_all := lw_g (lw_at lw_m14 180 rfl) rfl
theorem q3443 : (Jvm.Cond.methodLink "ArcRecorderModel" (492 : Nat) ({ cls := "ArcRecorderModel", name := "writeNumber", desc := "(I)V" } : Jvm.MethodName)) ∈ lw_all := lw_g (lw_at lw_m14 181 rfl) rfl
theorem q3444 : (Jvm.Cond.privateMethod ({ cls := "ArcRecorderModel", name := "writeNumber", desc := "(I)V" } : Jvm.MethodName)) ∈ lw_tbl := lw_at lw_m14 182 rfl
theorem q3445 : (Jvm.Cond.instanceMethod ({ cls := "ArcRecorderModel", name := "writeNumber", desc := "(I)V" } : Jvm.MethodName)) ∈ lw_all := lw_g (lw_at lw_m14 183 rfl) rfl
theorem q3446 : (Jvm.Cond.code ({ cls := "ArcRecorderModel", name := "writeNumber", desc := "(I)V" } : Jvm.MethodName) prog_26_method_143_code (4 : Nat) (Option.none : Option Jvm.ClassFile.FieldType)) ∈ lw_all := lw_g (lw_at lw_m14 184 rfl) rfl
theorem q3448 : (Jvm.Cond.instanceMethod ({ cls := "ArcRecorderModel", name := "outputByte", desc := "(I)I" } : Jvm.MethodName)) ∈ lw_all := lw_g (lw_at lw_m14 186 rfl) rfl
theorem q3449 : (Jvm.Cond.selects "ArcRecorderModel" ({ cls := "ArcRecorderModel", name := "outputByte", desc := "(I)I" } : Jvm.MethodName) ({ cls := "ArcRecorderModel", name := "outputByte", desc := "(I)I" } : Jvm.MethodName)) ∈ lw_all := lw_g (lw_at lw_m14 187 rfl) rfl
theorem q3450 : (Jvm.Cond.code ({ cls := "ArcRecorderModel", name := "outputByte", desc := "(I)I" } : Jvm.MethodName) prog_26_method_145_code (2 : Nat) (Option.some Jvm.ClassFile.FieldType.int)) ∈ lw_all := lw_g (lw_at lw_m14 188 rfl) rfl
theorem q3494 : (Jvm.Cond.castable "ArcRecorderModel" "java/lang/Object") ∈ lw_tbl := lw_at lw_m14 232 rfl
theorem in_X6 : ∀ w ∈ wsX60, w ∈ lw_all := lw_in wsX60 [2775, 2777, 2779, 2781, 2783, 2785, 2787, 2789, 2791, 2793, 2795, 2797, 2799, 2801, 2803, 2805, 2807, 2809, 2811, 2813, 2815, 2817, 2819, 2821, 2823, 2825] (by decide +kernel) (by decide +kernel)
/-! X7.ArcRecorder_Parser -/
def RX7 : String := "ArcRecorder$Parser"
def TX7 : u_T := fun k => match k with
  | 0 => ("ArcRecorder$Parser", "plant", "LArcRecorder$Plant;", true)
  | 1 => ("ArcRecorder$Parser", "nuisances", "Ljava/util/ArrayList;", true)
  | 2 => ("ArcRecorder$Parser", "switches", "Ljava/util/ArrayList;", true)
  | 3 => ("ArcRecorder$Parser", "at", "I", false)
  | 4 => ("ArcRecorder$Parser", "start", "I", false)
  | 5 => ("ArcRecorder$Parser", "value", "I", false)
  | 6 => ("ArcRecorder$Parser", "seed", "J", false)
  | 7 => ("ArcRecorder$Parser", "word", "Ljava/lang/String;", false)
  | 8 => ("ArcRecorder$Parser", "token", "LArcRecorder$Token;", false)
  | _ => ("ArcRecorder$Parser", "this$0", "LArcRecorder;", true)
def tyX7 : Nat → FieldType := fun k => match k with
  | 0 => .object "ArcRecorder$Plant"
  | 1 => .object "java/util/ArrayList"
  | 2 => .object "java/util/ArrayList"
  | 3 => .int
  | 4 => .int
  | 5 => .int
  | 6 => .long
  | 7 => .object "java/lang/String"
  | 8 => .object "ArcRecorder$Token"
  | _ => .object "ArcRecorder"
abbrev wsX70 : List Cond := u_ws RX7 TX7 10
theorem nmX7 : ∀ a, a < 10 → ∀ b, b < 10 → a ≠ b → (TX7 a).2.1 ≠ (TX7 b).2.1 := by decide +kernel
theorem tyX7_ok : ∀ k, k < 10 → parseFieldDescriptor (TX7 k).2.2.1 = some (tyX7 k) := by decide +kernel
abbrev cX7_init : ByteArray := prog_17_method_1_code
def yX7_init : MethodName := ⟨RX7, "<init>", "(LArcRecorder;)V"⟩
abbrev cX7_next : ByteArray := prog_17_method_3_code
def yX7_next : MethodName := ⟨RX7, "next", "()V"⟩
abbrev cX7_isAt : ByteArray := prog_17_method_2_code
def yX7_isAt : MethodName := ⟨RX7, "isAt", "(II)Z"⟩
abbrev cX7_parse : ByteArray := prog_17_method_25_code
def yX7_parse : MethodName := ⟨RX7, "parse", "()LArcRecorder$State;"⟩
abbrev cX7_parseRecorder : ByteArray := prog_17_method_13_code
def yX7_parseRecorder : MethodName := ⟨RX7, "parseRecorder", "()V"⟩
abbrev cX7_accept : ByteArray := prog_17_method_5_code
def yX7_accept : MethodName := ⟨RX7, "accept", "(Ljava/lang/String;)V"⟩
abbrev cX7_require : ByteArray := prog_17_method_4_code
def yX7_require : MethodName := ⟨RX7, "require", "(ZI)V"⟩
abbrev cX7_number : ByteArray := prog_17_method_9_code
def yX7_number : MethodName := ⟨RX7, "number", "(Ljava/lang/String;II)I"⟩
abbrev cX7_number_2 : ByteArray := prog_17_method_8_code
def yX7_number_2 : MethodName := ⟨RX7, "number", "(II)I"⟩
abbrev cX7_parseEnd : ByteArray := prog_17_method_24_code
def yX7_parseEnd : MethodName := ⟨RX7, "parseEnd", "()V"⟩
abbrev cX7_isSymbol : ByteArray := prog_17_method_7_code
def yX7_isSymbol : MethodName := ⟨RX7, "isSymbol", "(I)Z"⟩
abbrev cX7_parseStatement : ByteArray := prog_17_method_23_code
def yX7_parseStatement : MethodName := ⟨RX7, "parseStatement", "()V"⟩
abbrev cX7_parseBranch : ByteArray := prog_17_method_14_code
def yX7_parseBranch : MethodName := ⟨RX7, "parseBranch", "()V"⟩
abbrev cX7_newName : ByteArray := prog_17_method_12_code
def yX7_newName : MethodName := ⟨RX7, "newName", "()Ljava/lang/String;"⟩
abbrev cX7_requireName : ByteArray := prog_17_method_10_code
def yX7_requireName : MethodName := ⟨RX7, "requireName", "()V"⟩
abbrev cX7_isUsed : ByteArray := prog_17_method_11_code
def yX7_isUsed : MethodName := ⟨RX7, "isUsed", "()Z"⟩
abbrev cX7_parseLoad : ByteArray := prog_17_method_16_code
def yX7_parseLoad : MethodName := ⟨RX7, "parseLoad", "(Ljava/lang/String;)V"⟩
abbrev cX7_parseOf : ByteArray := prog_17_method_15_code
def yX7_parseOf : MethodName := ⟨RX7, "parseOf", "()I"⟩
abbrev cX7_parseSeed : ByteArray := prog_17_method_22_code
def yX7_parseSeed : MethodName := ⟨RX7, "parseSeed", "()V"⟩
abbrev cX7_parseSignature : ByteArray := prog_17_method_19_code
def yX7_parseSignature : MethodName := ⟨RX7, "parseSignature", "()V"⟩
abbrev cX7_accepts : ByteArray := prog_17_method_6_code
def yX7_accepts : MethodName := ⟨RX7, "accepts", "(Ljava/lang/String;)Z"⟩
abbrev cX7_parseTests : ByteArray := prog_17_method_18_code
def yX7_parseTests : MethodName := ⟨RX7, "parseTests", "(LArcRecorder$Pattern;)V"⟩
abbrev cX7_parseTest : ByteArray := prog_17_method_17_code
def yX7_parseTest : MethodName := ⟨RX7, "parseTest", "()LArcRecorder$Test;"⟩
abbrev cX7_parseNuisance : ByteArray := prog_17_method_20_code
def yX7_parseNuisance : MethodName := ⟨RX7, "parseNuisance", "()V"⟩
abbrev cX7_parseSwitch : ByteArray := prog_17_method_21_code
def yX7_parseSwitch : MethodName := ⟨RX7, "parseSwitch", "()V"⟩
theorem q173 : (Jvm.Cond.initialized "ArcRecorder$Parser") ∈ lw_all := lw_g (lw_at lw_m1 31 rfl) rfl
theorem q573 : (Jvm.Cond.fieldLinkNest "ArcRecorder$Parser" (182 : Nat) "ArcRecorder$Plant" "samples" "I" "ArcRecorder") ∈ lw_tbl := lw_at lw_m2 191 rfl
theorem q577 : (Jvm.Cond.fieldLinkNest "ArcRecorder$Parser" (189 : Nat) "ArcRecorder$Plant" "window" "I" "ArcRecorder") ∈ lw_tbl := lw_at lw_m2 195 rfl
theorem q580 : (Jvm.Cond.fieldLinkNest "ArcRecorder$Parser" (193 : Nat) "ArcRecorder$Plant" "count" "I" "ArcRecorder") ∈ lw_tbl := lw_at lw_m2 198 rfl
theorem q586 : (Jvm.Cond.fieldLinkNest "ArcRecorder$Parser" (140 : Nat) "ArcRecorder$Plant" "branches" "Ljava/util/ArrayList;" "ArcRecorder") ∈ lw_tbl := lw_at lw_m2 204 rfl
theorem q590 : (Jvm.Cond.fieldLinkNest "ArcRecorder$Parser" (198 : Nat) "ArcRecorder$Plant" "rated" "[I" "ArcRecorder") ∈ lw_tbl := lw_at lw_m2 208 rfl
theorem q594 : (Jvm.Cond.fieldLinkNest "ArcRecorder$Parser" (212 : Nat) "ArcRecorder$Plant" "loads" "Ljava/util/ArrayList;" "ArcRecorder") ∈ lw_tbl := lw_at lw_m2 212 rfl
theorem q598 : (Jvm.Cond.fieldLinkNest "ArcRecorder$Parser" (280 : Nat) "ArcRecorder$Plant" "signatures" "Ljava/util/ArrayList;" "ArcRecorder") ∈ lw_tbl := lw_at lw_m2 216 rfl
theorem q784 : (Jvm.Cond.selects "ArcRecorder$Parser" ({ cls := "java/lang/Object", name := "getClass", desc := "()Ljava/lang/Class;" } : Jvm.MethodName) ({ cls := "java/lang/Object", name := "getClass", desc := "()Ljava/lang/Class;" } : Jvm.MethodName)) ∈ lw_all := lw_g (lw_at lw_m3 162 rfl) rfl
theorem q823 : (Jvm.Cond.fieldLinkNest "ArcRecorder$Parser" (352 : Nat) "ArcRecorder$State" "nuisances" "Ljava/util/ArrayList;" "ArcRecorder") ∈ lw_tbl := lw_at lw_m3 201 rfl
theorem q826 : (Jvm.Cond.fieldLinkNest "ArcRecorder$Parser" (353 : Nat) "ArcRecorder$State" "switches" "Ljava/util/LinkedList;" "ArcRecorder") ∈ lw_tbl := lw_at lw_m3 204 rfl
theorem q843 : (Jvm.Cond.fieldLinkNest "ArcRecorder$Parser" (349 : Nat) "ArcRecorder$State" "x" "J" "ArcRecorder") ∈ lw_tbl := lw_at lw_m3 221 rfl
theorem q879 : (Jvm.Cond.fieldLinkNest "ArcRecorder$Parser" (56 : Nat) "ArcRecorder" "input" "[B" "ArcRecorder") ∈ lw_tbl := lw_at lw_m4 17 rfl
theorem q881 : (Jvm.Cond.fieldLinkNest "ArcRecorder$Parser" (53 : Nat) "ArcRecorder" "inputLength" "I" "ArcRecorder") ∈ lw_tbl := lw_at lw_m4 19 rfl
theorem q907 : (Jvm.Cond.instantiable "ArcRecorder$Parser" (10 : Nat)) ∈ lw_all := lw_g (lw_at lw_m4 45 rfl) rfl
theorem q909 : (Jvm.Cond.instanceMethod ({ cls := "ArcRecorder$Parser", name := "<init>", desc := "(LArcRecorder;)V" } : Jvm.MethodName)) ∈ lw_all := lw_g (lw_at lw_m4 47 rfl) rfl
theorem q910 : (Jvm.Cond.code ({ cls := "ArcRecorder$Parser", name := "<init>", desc := "(LArcRecorder;)V" } : Jvm.MethodName) prog_17_method_1_code (2 : Nat) (Option.none : Option Jvm.ClassFile.FieldType)) ∈ lw_all := lw_g (lw_at lw_m4 48 rfl) rfl
theorem q911 : (Jvm.Cond.methodLink "ArcRecorder$Parser" (9 : Nat) ({ cls := "java/lang/Object", name := "<init>", desc := "()V" } : Jvm.MethodName)) ∈ lw_all := lw_g (lw_at lw_m4 49 rfl) rfl
theorem q912 : (Jvm.Cond.classLink "ArcRecorder$Parser" (15 : Nat) "ArcRecorder$Plant") ∈ lw_all := lw_g (lw_at lw_m4 50 rfl) rfl
theorem q913 : (Jvm.Cond.methodLinkNest "ArcRecorder$Parser" (17 : Nat) ({ cls := "ArcRecorder$Plant", name := "<init>", desc := "()V" } : Jvm.MethodName) "ArcRecorder") ∈ lw_tbl := lw_at lw_m4 51 rfl
theorem q914 : (Jvm.Cond.classLink "ArcRecorder$Parser" (22 : Nat) "java/util/ArrayList") ∈ lw_all := lw_g (lw_at lw_m4 52 rfl) rfl
theorem q915 : (Jvm.Cond.methodLink "ArcRecorder$Parser" (24 : Nat) ({ cls := "java/util/ArrayList", name := "<init>", desc := "(I)V" } : Jvm.MethodName)) ∈ lw_all := lw_g (lw_at lw_m4 53 rfl) rfl
theorem q916 : (Jvm.Cond.constantLong "ArcRecorder$Parser" (34 : Nat) (-1 : Int64)) ∈ lw_all := lw_g (lw_at lw_m4 54 rfl) rfl
theorem q917 : (Jvm.Cond.stringRef "ArcRecorder$Parser" (40 : Nat) "") ∈ lw_tbl := lw_at lw_m4 55 rfl
theorem q918 : (Jvm.Cond.methodLink "ArcRecorder$Parser" (46 : Nat) ({ cls := "ArcRecorder$Parser", name := "next", desc := "()V" } : Jvm.MethodName)) ∈ lw_all := lw_g (lw_at lw_m4 56 rfl) rfl
theorem q919 : (Jvm.Cond.privateMethod ({ cls := "ArcRecorder$Parser", name := "next", desc := "()V" } : Jvm.MethodName)) ∈ lw_tbl := lw_at lw_m4 57 rfl
theorem q920 : (Jvm.Cond.instanceMethod ({ cls := "ArcRecorder$Parser", name := "next", desc := "()V" } : Jvm.MethodName)) ∈ lw_all := lw_g (lw_at lw_m4 58 rfl) rfl
theorem q921 : (Jvm.Cond.code ({ cls := "ArcRecorder$Parser", name := "next", desc := "()V" } : Jvm.MethodName) prog_17_method_3_code (2 : Nat) (Option.none : Option Jvm.ClassFile.FieldType)) ∈ lw_all := lw_g (lw_at lw_m4 59 rfl) rfl
theorem q922 : (Jvm.Cond.methodLink "ArcRecorder$Parser" (64 : Nat) ({ cls := "ArcRecorder$Parser", name := "isAt", desc := "(II)Z" } : Jvm.MethodName)) ∈ lw_all := lw_g (lw_at lw_m4 60 rfl) rfl
theorem q923 : (Jvm.Cond.privateMethod ({ cls := "ArcRecorder$Parser", name := "isAt", desc := "(II)Z" } : Jvm.MethodName)) ∈ lw_tbl := lw_at lw_m4 61 rfl
theorem q924 : (Jvm.Cond.instanceMethod ({ cls := "ArcRecorder$Parser", name := "isAt", desc := "(II)Z" } : Jvm.MethodName)) ∈ lw_all := lw_g (lw_at lw_m4 62 rfl) rfl
theorem q925 : (Jvm.Cond.code ({ cls := "ArcRecorder$Parser", name := "isAt", desc := "(II)Z" } : Jvm.MethodName) prog_17_method_2_code (3 : Nat) (Option.some Jvm.ClassFile.FieldType.boolean)) ∈ lw_all := lw_g (lw_at lw_m4 63 rfl) rfl
theorem q926 : (Jvm.Cond.methodLinkNest "ArcRecorder$Parser" (60 : Nat) ({ cls := "ArcRecorder", name := "inRange", desc := "(JJJ)Z" } : Jvm.MethodName) "ArcRecorder") ∈ lw_tbl := lw_at lw_m4 64 rfl
theorem q929 : (Jvm.Cond.fieldLink "ArcRecorder$Parser" (74 : Nat) "ArcRecorder$Token" "END" "LArcRecorder$Token;") ∈ lw_all := lw_g (lw_at lw_m4 67 rfl) rfl
theorem q931 : (Jvm.Cond.fieldLink "ArcRecorder$Parser" (83 : Nat) "ArcRecorder$Token" "WORD" "LArcRecorder$Token;") ∈ lw_all := lw_g (lw_at lw_m4 69 rfl) rfl
theorem q933 : (Jvm.Cond.classLink "ArcRecorder$Parser" (86 : Nat) "java/lang/StringBuilder") ∈ lw_all := lw_g (lw_at lw_m4 71 rfl) rfl
theorem q934 : (Jvm.Cond.methodLink "ArcRecorder$Parser" (88 : Nat) ({ cls := "java/lang/StringBuilder", name := "<init>", desc := "()V" } : Jvm.MethodName)) ∈ lw_all := lw_g (lw_at lw_m4 72 rfl) rfl
theorem q935 : (Jvm.Cond.methodLink "ArcRecorder$Parser" (89 : Nat) ({ cls := "java/lang/StringBuilder", name := "append", desc := "(C)Ljava/lang/StringBuilder;" } : Jvm.MethodName)) ∈ lw_all := lw_g (lw_at lw_m4 73 rfl) rfl
theorem q957 : (Jvm.Cond.methodLink "ArcRecorder$Parser" (93 : Nat) ({ cls := "java/lang/StringBuilder", name := "toString", desc := "()Ljava/lang/String;" } : Jvm.MethodName)) ∈ lw_all := lw_g (lw_at lw_m4 95 rfl) rfl
theorem q958 : (Jvm.Cond.fieldLink "ArcRecorder$Parser" (97 : Nat) "ArcRecorder$Token" "NUMBER" "LArcRecorder$Token;") ∈ lw_all := lw_g (lw_at lw_m4 96 rfl) rfl
theorem q960 : (Jvm.Cond.constant "ArcRecorder$Parser" (100 : Nat) (10000000 : Int32)) ∈ lw_all := lw_g (lw_at lw_m4 98 rfl) rfl
theorem q961 : (Jvm.Cond.methodLink "ArcRecorder$Parser" (101 : Nat) ({ cls := "java/lang/Math", name := "min", desc := "(II)I" } : Jvm.MethodName)) ∈ lw_all := lw_g (lw_at lw_m4 99 rfl) rfl
theorem q962 : (Jvm.Cond.fieldLink "ArcRecorder$Parser" (107 : Nat) "ArcRecorder$Token" "SYMBOL" "LArcRecorder$Token;") ∈ lw_all := lw_g (lw_at lw_m4 100 rfl) rfl
theorem q964 : (Jvm.Cond.fieldLink "ArcRecorder$Parser" (18 : Nat) "ArcRecorder$Parser" "plant" "LArcRecorder$Plant;") ∈ lw_all := lw_g (lw_at lw_m4 102 rfl) rfl
theorem q965 : (Jvm.Cond.fieldLink "ArcRecorder$Parser" (27 : Nat) "ArcRecorder$Parser" "nuisances" "Ljava/util/ArrayList;") ∈ lw_all := lw_g (lw_at lw_m4 103 rfl) rfl
theorem q966 : (Jvm.Cond.fieldLink "ArcRecorder$Parser" (31 : Nat) "ArcRecorder$Parser" "switches" "Ljava/util/ArrayList;") ∈ lw_all := lw_g (lw_at lw_m4 104 rfl) rfl
theorem q967 : (Jvm.Cond.fieldLink "ArcRecorder$Parser" (49 : Nat) "ArcRecorder$Parser" "at" "I") ∈ lw_all := lw_g (lw_at lw_m4 105 rfl) rfl
theorem q968 : (Jvm.Cond.fieldLink "ArcRecorder$Parser" (68 : Nat) "ArcRecorder$Parser" "start" "I") ∈ lw_all := lw_g (lw_at lw_m4 106 rfl) rfl
theorem q969 : (Jvm.Cond.fieldLink "ArcRecorder$Parser" (71 : Nat) "ArcRecorder$Parser" "value" "I") ∈ lw_all := lw_g (lw_at lw_m4 107 rfl) rfl
theorem q970 : (Jvm.Cond.fieldLink "ArcRecorder$Parser" (36 : Nat) "ArcRecorder$Parser" "seed" "J") ∈ lw_all := lw_g (lw_at lw_m4 108 rfl) rfl
theorem q971 : (Jvm.Cond.fieldLink "ArcRecorder$Parser" (42 : Nat) "ArcRecorder$Parser" "word" "Ljava/lang/String;") ∈ lw_all := lw_g (lw_at lw_m4 109 rfl) rfl
theorem q972 : (Jvm.Cond.fieldLink "ArcRecorder$Parser" (80 : Nat) "ArcRecorder$Parser" "token" "LArcRecorder$Token;") ∈ lw_all := lw_g (lw_at lw_m4 110 rfl) rfl
theorem q973 : (Jvm.Cond.fieldLink "ArcRecorder$Parser" (3 : Nat) "ArcRecorder$Parser" "this$0" "LArcRecorder;") ∈ lw_all := lw_g (lw_at lw_m4 111 rfl) rfl
theorem q974 : (Jvm.Cond.laysFinal "ArcRecorder$Parser" "ArcRecorder$Parser" "plant" "LArcRecorder$Plant;") ∈ lw_all := lw_g (lw_at lw_m4 112 rfl) rfl
theorem q975 : (Jvm.Cond.soleField "ArcRecorder$Parser" "plant") ∈ lw_all := lw_g (lw_at lw_m4 113 rfl) rfl
theorem q976 : (Jvm.Cond.laysFinal "ArcRecorder$Parser" "ArcRecorder$Parser" "nuisances" "Ljava/util/ArrayList;") ∈ lw_all := lw_g (lw_at lw_m4 114 rfl) rfl
theorem q977 : (Jvm.Cond.soleField "ArcRecorder$Parser" "nuisances") ∈ lw_all := lw_g (lw_at lw_m4 115 rfl) rfl
theorem q978 : (Jvm.Cond.laysFinal "ArcRecorder$Parser" "ArcRecorder$Parser" "switches" "Ljava/util/ArrayList;") ∈ lw_all := lw_g (lw_at lw_m4 116 rfl) rfl
theorem q979 : (Jvm.Cond.soleField "ArcRecorder$Parser" "switches") ∈ lw_all := lw_g (lw_at lw_m4 117 rfl) rfl
theorem q980 : (Jvm.Cond.lays "ArcRecorder$Parser" "ArcRecorder$Parser" "at" "I") ∈ lw_all := lw_g (lw_at lw_m4 118 rfl) rfl
theorem q981 : (Jvm.Cond.soleField "ArcRecorder$Parser" "at") ∈ lw_all := lw_g (lw_at lw_m4 119 rfl) rfl
theorem q982 : (Jvm.Cond.lays "ArcRecorder$Parser" "ArcRecorder$Parser" "start" "I") ∈ lw_all := lw_g (lw_at lw_m4 120 rfl) rfl
theorem q983 : (Jvm.Cond.soleField "ArcRecorder$Parser" "start") ∈ lw_all := lw_g (lw_at lw_m4 121 rfl) rfl
theorem q984 : (Jvm.Cond.lays "ArcRecorder$Parser" "ArcRecorder$Parser" "value" "I") ∈ lw_all := lw_g (lw_at lw_m4 122 rfl) rfl
theorem q985 : (Jvm.Cond.soleField "ArcRecorder$Parser" "value") ∈ lw_all := lw_g (lw_at lw_m4 123 rfl) rfl
theorem q986 : (Jvm.Cond.lays "ArcRecorder$Parser" "ArcRecorder$Parser" "seed" "J") ∈ lw_all := lw_g (lw_at lw_m4 124 rfl) rfl
theorem q987 : (Jvm.Cond.soleField "ArcRecorder$Parser" "seed") ∈ lw_all := lw_g (lw_at lw_m4 125 rfl) rfl
theorem q988 : (Jvm.Cond.lays "ArcRecorder$Parser" "ArcRecorder$Parser" "word" "Ljava/lang/String;") ∈ lw_all := lw_g (lw_at lw_m4 126 rfl) rfl
theorem q989 : (Jvm.Cond.soleField "ArcRecorder$Parser" "word") ∈ lw_all := lw_g (lw_at lw_m4 127 rfl) rfl
theorem q990 : (Jvm.Cond.lays "ArcRecorder$Parser" "ArcRecorder$Parser" "token" "LArcRecorder$Token;") ∈ lw_all := lw_g (lw_at lw_m4 128 rfl) rfl
theorem q991 : (Jvm.Cond.soleField "ArcRecorder$Parser" "token") ∈ lw_all := lw_g (lw_at lw_m4 129 rfl) rfl
theorem q992 : (Jvm.Cond.laysFinal "ArcRecorder$Parser" "ArcRecorder$Parser" "this$0" "LArcRecorder;") ∈ lw_all := lw_g (lw_at lw_m4 130 rfl) rfl
theorem q993 : (Jvm.Cond.soleField "ArcRecorder$Parser" "this$0") ∈ lw_all := lw_g (lw_at lw_m4 131 rfl) rfl
theorem q994 : (Jvm.Cond.superclass "ArcRecorder$Parser" "java/lang/Object") ∈ lw_all := lw_g (lw_at lw_m4 132 rfl) rfl
theorem q996 : (Jvm.Cond.instanceMethod ({ cls := "ArcRecorder$Parser", name := "parse", desc := "()LArcRecorder$State;" } : Jvm.MethodName)) ∈ lw_all := lw_g (lw_at lw_m4 134 rfl) rfl
theorem q997 : (Jvm.Cond.selects "ArcRecorder$Parser" ({ cls := "ArcRecorder$Parser", name := "parse", desc := "()LArcRecorder$State;" } : Jvm.MethodName) ({ cls := "ArcRecorder$Parser", name := "parse", desc := "()LArcRecorder$State;" } : Jvm.MethodName)) ∈ lw_all := lw_g (lw_at lw_m4 135 rfl) rfl
theorem q998 : (Jvm.Cond.code ({ cls := "ArcRecorder$Parser", name := "parse", desc := "()LArcRecorder$State;" } : Jvm.MethodName) prog_17_method_25_code (3 : Nat) (Option.some (Jvm.ClassFile.FieldType.object "ArcRecorder$State"))) ∈ lw_all := lw_g (lw_at lw_m4 136 rfl) rfl
theorem q999 : (Jvm.Cond.methodLink "ArcRecorder$Parser" (332 : Nat) ({ cls := "ArcRecorder$Parser", name := "parseRecorder", desc := "()V" } : Jvm.MethodName)) ∈ lw_all := lw_g (lw_at lw_m4 137 rfl) rfl
theorem q1000 : (Jvm.Cond.privateMethod ({ cls := "ArcRecorder$Parser", name := "parseRecorder", desc := "()V" } : Jvm.MethodName)) ∈ lw_tbl := lw_at lw_m4 138 rfl
theorem q1001 : (Jvm.Cond.instanceMethod ({ cls := "ArcRecorder$Parser", name := "parseRecorder", desc := "()V" } : Jvm.MethodName)) ∈ lw_all := lw_g (lw_at lw_m4 139 rfl) rfl
theorem q1002 : (Jvm.Cond.code ({ cls := "ArcRecorder$Parser", name := "parseRecorder", desc := "()V" } : Jvm.MethodName) prog_17_method_13_code (1 : Nat) (Option.none : Option Jvm.ClassFile.FieldType)) ∈ lw_all := lw_g (lw_at lw_m4 140 rfl) rfl
theorem q1003 : (Jvm.Cond.stringRef "ArcRecorder$Parser" (178 : Nat) "recorder") ∈ lw_tbl := lw_at lw_m4 141 rfl
theorem q1004 : (Jvm.Cond.methodLink "ArcRecorder$Parser" (125 : Nat) ({ cls := "ArcRecorder$Parser", name := "accept", desc := "(Ljava/lang/String;)V" } : Jvm.MethodName)) ∈ lw_all := lw_g (lw_at lw_m4 142 rfl) rfl
theorem q1005 : (Jvm.Cond.privateMethod ({ cls := "ArcRecorder$Parser", name := "accept", desc := "(Ljava/lang/String;)V" } : Jvm.MethodName)) ∈ lw_tbl := lw_at lw_m4 143 rfl
theorem q1006 : (Jvm.Cond.instanceMethod ({ cls := "ArcRecorder$Parser", name := "accept", desc := "(Ljava/lang/String;)V" } : Jvm.MethodName)) ∈ lw_all := lw_g (lw_at lw_m4 144 rfl) rfl
theorem q1007 : (Jvm.Cond.code ({ cls := "ArcRecorder$Parser", name := "accept", desc := "(Ljava/lang/String;)V" } : Jvm.MethodName) prog_17_method_5_code (2 : Nat) (Option.none : Option Jvm.ClassFile.FieldType)) ∈ lw_all := lw_g (lw_at lw_m4 145 rfl) rfl
theorem q1008 : (Jvm.Cond.methodLink "ArcRecorder$Parser" (115 : Nat) ({ cls := "java/lang/String", name := "equals", desc := "(Ljava/lang/Object;)Z" } : Jvm.MethodName)) ∈ lw_all := lw_g (lw_at lw_m4 146 rfl) rfl
theorem q1016 : (Jvm.Cond.methodLink "ArcRecorder$Parser" (121 : Nat) ({ cls := "ArcRecorder$Parser", name := "require", desc := "(ZI)V" } : Jvm.MethodName)) ∈ lw_all := lw_g (lw_at lw_m4 154 rfl) rfl
theorem q1017 : (Jvm.Cond.privateMethod ({ cls := "ArcRecorder$Parser", name := "require", desc := "(ZI)V" } : Jvm.MethodName)) ∈ lw_tbl := lw_at lw_m4 155 rfl
theorem q1018 : (Jvm.Cond.instanceMethod ({ cls := "ArcRecorder$Parser", name := "require", desc := "(ZI)V" } : Jvm.MethodName)) ∈ lw_all := lw_g (lw_at lw_m4 156 rfl) rfl
theorem q1019 : (Jvm.Cond.code ({ cls := "ArcRecorder$Parser", name := "require", desc := "(ZI)V" } : Jvm.MethodName) prog_17_method_4_code (3 : Nat) (Option.none : Option Jvm.ClassFile.FieldType)) ∈ lw_all := lw_g (lw_at lw_m4 157 rfl) rfl
theorem q1020 : (Jvm.Cond.classLink "ArcRecorder$Parser" (110 : Nat) "ArcRecorder$ParseError") ∈ lw_all := lw_g (lw_at lw_m4 158 rfl) rfl
theorem q1029 : (Jvm.Cond.methodLink "ArcRecorder$Parser" (112 : Nat) ({ cls := "ArcRecorder$ParseError", name := "<init>", desc := "(II)V" } : Jvm.MethodName)) ∈ lw_all := lw_g (lw_at lw_m4 167 rfl) rfl
theorem q1048 : (Jvm.Cond.stringRef "ArcRecorder$Parser" (180 : Nat) "samples") ∈ lw_tbl := lw_at lw_m4 186 rfl
theorem q1049 : (Jvm.Cond.stringRef "ArcRecorder$Parser" (184 : Nat) "window") ∈ lw_tbl := lw_at lw_m4 187 rfl
theorem q1050 : (Jvm.Cond.methodLink "ArcRecorder$Parser" (186 : Nat) ({ cls := "ArcRecorder$Parser", name := "number", desc := "(Ljava/lang/String;II)I" } : Jvm.MethodName)) ∈ lw_all := lw_g (lw_at lw_m4 188 rfl) rfl
theorem q1051 : (Jvm.Cond.privateMethod ({ cls := "ArcRecorder$Parser", name := "number", desc := "(Ljava/lang/String;II)I" } : Jvm.MethodName)) ∈ lw_tbl := lw_at lw_m4 189 rfl
theorem q1052 : (Jvm.Cond.instanceMethod ({ cls := "ArcRecorder$Parser", name := "number", desc := "(Ljava/lang/String;II)I" } : Jvm.MethodName)) ∈ lw_all := lw_g (lw_at lw_m4 190 rfl) rfl
theorem q1053 : (Jvm.Cond.code ({ cls := "ArcRecorder$Parser", name := "number", desc := "(Ljava/lang/String;II)I" } : Jvm.MethodName) prog_17_method_9_code (4 : Nat) (Option.some Jvm.ClassFile.FieldType.int)) ∈ lw_all := lw_g (lw_at lw_m4 191 rfl) rfl
theorem q1054 : (Jvm.Cond.methodLink "ArcRecorder$Parser" (129 : Nat) ({ cls := "ArcRecorder$Parser", name := "number", desc := "(II)I" } : Jvm.MethodName)) ∈ lw_all := lw_g (lw_at lw_m4 192 rfl) rfl
theorem q1055 : (Jvm.Cond.privateMethod ({ cls := "ArcRecorder$Parser", name := "number", desc := "(II)I" } : Jvm.MethodName)) ∈ lw_tbl := lw_at lw_m4 193 rfl
theorem q1056 : (Jvm.Cond.instanceMethod ({ cls := "ArcRecorder$Parser", name := "number", desc := "(II)I" } : Jvm.MethodName)) ∈ lw_all := lw_g (lw_at lw_m4 194 rfl) rfl
theorem q1057 : (Jvm.Cond.code ({ cls := "ArcRecorder$Parser", name := "number", desc := "(II)I" } : Jvm.MethodName) prog_17_method_8_code (4 : Nat) (Option.some Jvm.ClassFile.FieldType.int)) ∈ lw_all := lw_g (lw_at lw_m4 195 rfl) rfl
theorem q1058 : (Jvm.Cond.stringRef "ArcRecorder$Parser" (191 : Nat) "count") ∈ lw_tbl := lw_at lw_m4 196 rfl
theorem q1059 : (Jvm.Cond.methodLink "ArcRecorder$Parser" (335 : Nat) ({ cls := "ArcRecorder$Parser", name := "parseEnd", desc := "()V" } : Jvm.MethodName)) ∈ lw_all := lw_g (lw_at lw_m4 197 rfl) rfl
theorem q1060 : (Jvm.Cond.privateMethod ({ cls := "ArcRecorder$Parser", name := "parseEnd", desc := "()V" } : Jvm.MethodName)) ∈ lw_tbl := lw_at lw_m4 198 rfl
theorem q1061 : (Jvm.Cond.instanceMethod ({ cls := "ArcRecorder$Parser", name := "parseEnd", desc := "()V" } : Jvm.MethodName)) ∈ lw_all := lw_g (lw_at lw_m4 199 rfl) rfl
theorem q1062 : (Jvm.Cond.code ({ cls := "ArcRecorder$Parser", name := "parseEnd", desc := "()V" } : Jvm.MethodName) prog_17_method_24_code (1 : Nat) (Option.none : Option Jvm.ClassFile.FieldType)) ∈ lw_all := lw_g (lw_at lw_m4 200 rfl) rfl
theorem q1063 : (Jvm.Cond.methodLink "ArcRecorder$Parser" (258 : Nat) ({ cls := "ArcRecorder$Parser", name := "isSymbol", desc := "(I)Z" } : Jvm.MethodName)) ∈ lw_all := lw_g (lw_at lw_m4 201 rfl) rfl
theorem q1064 : (Jvm.Cond.privateMethod ({ cls := "ArcRecorder$Parser", name := "isSymbol", desc := "(I)Z" } : Jvm.MethodName)) ∈ lw_tbl := lw_at lw_m4 202 rfl
theorem q1065 : (Jvm.Cond.instanceMethod ({ cls := "ArcRecorder$Parser", name := "isSymbol", desc := "(I)Z" } : Jvm.MethodName)) ∈ lw_all := lw_g (lw_at lw_m4 203 rfl) rfl
theorem q1066 : (Jvm.Cond.code ({ cls := "ArcRecorder$Parser", name := "isSymbol", desc := "(I)Z" } : Jvm.MethodName) prog_17_method_7_code (2 : Nat) (Option.some Jvm.ClassFile.FieldType.boolean)) ∈ lw_all := lw_g (lw_at lw_m4 204 rfl) rfl
theorem q1067 : (Jvm.Cond.methodLink "ArcRecorder$Parser" (338 : Nat) ({ cls := "ArcRecorder$Parser", name := "parseStatement", desc := "()V" } : Jvm.MethodName)) ∈ lw_all := lw_g (lw_at lw_m4 205 rfl) rfl
theorem q1068 : (Jvm.Cond.privateMethod ({ cls := "ArcRecorder$Parser", name := "parseStatement", desc := "()V" } : Jvm.MethodName)) ∈ lw_tbl := lw_at lw_m4 206 rfl
theorem q1069 : (Jvm.Cond.instanceMethod ({ cls := "ArcRecorder$Parser", name := "parseStatement", desc := "()V" } : Jvm.MethodName)) ∈ lw_all := lw_g (lw_at lw_m4 207 rfl) rfl
theorem q1070 : (Jvm.Cond.code ({ cls := "ArcRecorder$Parser", name := "parseStatement", desc := "()V" } : Jvm.MethodName) prog_17_method_23_code (3 : Nat) (Option.none : Option Jvm.ClassFile.FieldType)) ∈ lw_all := lw_g (lw_at lw_m4 208 rfl) rfl
theorem q1071 : (Jvm.Cond.methodLink "ArcRecorder$Parser" (220 : Nat) ({ cls := "java/lang/String", name := "hashCode", desc := "()I" } : Jvm.MethodName)) ∈ lw_all := lw_g (lw_at lw_m4 209 rfl) rfl
theorem q1132 : (Jvm.Cond.stringRef "ArcRecorder$Parser" (304 : Nat) "branch") ∈ lw_tbl := lw_at lw_m5 30 rfl
theorem q1133 : (Jvm.Cond.stringRef "ArcRecorder$Parser" (223 : Nat) "heater") ∈ lw_tbl := lw_at lw_m5 31 rfl
theorem q1134 : (Jvm.Cond.stringRef "ArcRecorder$Parser" (225 : Nat) "motor") ∈ lw_tbl := lw_at lw_m5 32 rfl
theorem q1135 : (Jvm.Cond.stringRef "ArcRecorder$Parser" (227 : Nat) "dimmer") ∈ lw_tbl := lw_at lw_m5 33 rfl
theorem q1136 : (Jvm.Cond.stringRef "ArcRecorder$Parser" (306 : Nat) "arc") ∈ lw_tbl := lw_at lw_m5 34 rfl
theorem q1137 : (Jvm.Cond.stringRef "ArcRecorder$Parser" (308 : Nat) "seed") ∈ lw_tbl := lw_at lw_m5 35 rfl
theorem q1138 : (Jvm.Cond.stringRef "ArcRecorder$Parser" (309 : Nat) "signature") ∈ lw_tbl := lw_at lw_m5 36 rfl
theorem q1139 : (Jvm.Cond.stringRef "ArcRecorder$Parser" (311 : Nat) "nuisance") ∈ lw_tbl := lw_at lw_m5 37 rfl
theorem q1140 : (Jvm.Cond.stringRef "ArcRecorder$Parser" (313 : Nat) "at") ∈ lw_tbl := lw_at lw_m5 38 rfl
theorem q1141 : (Jvm.Cond.methodLink "ArcRecorder$Parser" (314 : Nat) ({ cls := "ArcRecorder$Parser", name := "parseBranch", desc := "()V" } : Jvm.MethodName)) ∈ lw_all := lw_g (lw_at lw_m5 39 rfl) rfl
theorem q1142 : (Jvm.Cond.privateMethod ({ cls := "ArcRecorder$Parser", name := "parseBranch", desc := "()V" } : Jvm.MethodName)) ∈ lw_tbl := lw_at lw_m5 40 rfl
theorem q1143 : (Jvm.Cond.instanceMethod ({ cls := "ArcRecorder$Parser", name := "parseBranch", desc := "()V" } : Jvm.MethodName)) ∈ lw_all := lw_g (lw_at lw_m5 41 rfl) rfl
theorem q1144 : (Jvm.Cond.code ({ cls := "ArcRecorder$Parser", name := "parseBranch", desc := "()V" } : Jvm.MethodName) prog_17_method_14_code (2 : Nat) (Option.none : Option Jvm.ClassFile.FieldType)) ∈ lw_all := lw_g (lw_at lw_m5 42 rfl) rfl
theorem q1145 : (Jvm.Cond.methodLink "ArcRecorder$Parser" (153 : Nat) ({ cls := "java/util/ArrayList", name := "size", desc := "()I" } : Jvm.MethodName)) ∈ lw_all := lw_g (lw_at lw_m5 43 rfl) rfl
theorem q1146 : (Jvm.Cond.methodLink "ArcRecorder$Parser" (195 : Nat) ({ cls := "ArcRecorder$Parser", name := "newName", desc := "()Ljava/lang/String;" } : Jvm.MethodName)) ∈ lw_all := lw_g (lw_at lw_m5 44 rfl) rfl
theorem q1147 : (Jvm.Cond.privateMethod ({ cls := "ArcRecorder$Parser", name := "newName", desc := "()Ljava/lang/String;" } : Jvm.MethodName)) ∈ lw_tbl := lw_at lw_m5 45 rfl
theorem q1148 : (Jvm.Cond.instanceMethod ({ cls := "ArcRecorder$Parser", name := "newName", desc := "()Ljava/lang/String;" } : Jvm.MethodName)) ∈ lw_all := lw_g (lw_at lw_m5 46 rfl) rfl
theorem q1149 : (Jvm.Cond.code ({ cls := "ArcRecorder$Parser", name := "newName", desc := "()Ljava/lang/String;" } : Jvm.MethodName) prog_17_method_12_code (2 : Nat) (Option.some (Jvm.ClassFile.FieldType.object "java/lang/String"))) ∈ lw_all := lw_g (lw_at lw_m5 47 rfl) rfl
theorem q1150 : (Jvm.Cond.methodLink "ArcRecorder$Parser" (171 : Nat) ({ cls := "ArcRecorder$Parser", name := "requireName", desc := "()V" } : Jvm.MethodName)) ∈ lw_all := lw_g (lw_at lw_m5 48 rfl) rfl
theorem q1151 : (Jvm.Cond.privateMethod ({ cls := "ArcRecorder$Parser", name := "requireName", desc := "()V" } : Jvm.MethodName)) ∈ lw_tbl := lw_at lw_m5 49 rfl
theorem q1152 : (Jvm.Cond.instanceMethod ({ cls := "ArcRecorder$Parser", name := "requireName", desc := "()V" } : Jvm.MethodName)) ∈ lw_all := lw_g (lw_at lw_m5 50 rfl) rfl
theorem q1153 : (Jvm.Cond.code ({ cls := "ArcRecorder$Parser", name := "requireName", desc := "()V" } : Jvm.MethodName) prog_17_method_10_code (1 : Nat) (Option.none : Option Jvm.ClassFile.FieldType)) ∈ lw_all := lw_g (lw_at lw_m5 51 rfl) rfl
theorem q1154 : (Jvm.Cond.methodLink "ArcRecorder$Parser" (132 : Nat) ({ cls := "java/lang/String", name := "length", desc := "()I" } : Jvm.MethodName)) ∈ lw_all := lw_g (lw_at lw_m5 52 rfl) rfl
theorem q1155 : (Jvm.Cond.methodLinkNest "ArcRecorder$Parser" (136 : Nat) ({ cls := "ArcRecorder", name := "isKeyword", desc := "(Ljava/lang/String;)Z" } : Jvm.MethodName) "ArcRecorder") ∈ lw_tbl := lw_at lw_m5 53 rfl
theorem q1193 : (Jvm.Cond.methodLink "ArcRecorder$Parser" (174 : Nat) ({ cls := "ArcRecorder$Parser", name := "isUsed", desc := "()Z" } : Jvm.MethodName)) ∈ lw_all := lw_g (lw_at lw_m5 91 rfl) rfl
theorem q1194 : (Jvm.Cond.privateMethod ({ cls := "ArcRecorder$Parser", name := "isUsed", desc := "()Z" } : Jvm.MethodName)) ∈ lw_tbl := lw_at lw_m5 92 rfl
theorem q1195 : (Jvm.Cond.instanceMethod ({ cls := "ArcRecorder$Parser", name := "isUsed", desc := "()Z" } : Jvm.MethodName)) ∈ lw_all := lw_g (lw_at lw_m5 93 rfl) rfl
theorem q1196 : (Jvm.Cond.code ({ cls := "ArcRecorder$Parser", name := "isUsed", desc := "()Z" } : Jvm.MethodName) prog_17_method_11_code (3 : Nat) (Option.some Jvm.ClassFile.FieldType.boolean)) ∈ lw_all := lw_g (lw_at lw_m5 94 rfl) rfl
theorem q1197 : (Jvm.Cond.methodLink "ArcRecorder$Parser" (143 : Nat) ({ cls := "java/util/ArrayList", name := "contains", desc := "(Ljava/lang/Object;)Z" } : Jvm.MethodName)) ∈ lw_all := lw_g (lw_at lw_m5 95 rfl) rfl
theorem q1229 : (Jvm.Cond.selects "ArcRecorder$Parser" ({ cls := "java/lang/Object", name := "equals", desc := "(Ljava/lang/Object;)Z" } : Jvm.MethodName) ({ cls := "java/lang/Object", name := "equals", desc := "(Ljava/lang/Object;)Z" } : Jvm.MethodName)) ∈ lw_all := lw_g (lw_at lw_m5 127 rfl) rfl
theorem q1247 : (Jvm.Cond.methodLink "ArcRecorder$Parser" (146 : Nat) ({ cls := "ArcRecorder$Plant", name := "findLoad", desc := "(Ljava/lang/String;)I" } : Jvm.MethodName)) ∈ lw_all := lw_g (lw_at lw_m5 145 rfl) rfl
theorem q1266 : (Jvm.Cond.methodLink "ArcRecorder$Parser" (150 : Nat) ({ cls := "ArcRecorder$Plant", name := "findSignature", desc := "(Ljava/lang/String;)I" } : Jvm.MethodName)) ∈ lw_all := lw_g (lw_at lw_m5 164 rfl) rfl
theorem q1271 : (Jvm.Cond.methodLink "ArcRecorder$Parser" (156 : Nat) ({ cls := "java/util/ArrayList", name := "get", desc := "(I)Ljava/lang/Object;" } : Jvm.MethodName)) ∈ lw_all := lw_g (lw_at lw_m5 169 rfl) rfl
theorem q1272 : (Jvm.Cond.classLink "ArcRecorder$Parser" (160 : Nat) "ArcRecorder$Nuisance") ∈ lw_all := lw_g (lw_at lw_m5 170 rfl) rfl
theorem q1273 : (Jvm.Cond.stringRef "ArcRecorder$Parser" (202 : Nat) "rated") ∈ lw_tbl := lw_at lw_m5 171 rfl
theorem q1274 : (Jvm.Cond.methodLink "ArcRecorder$Parser" (203 : Nat) ({ cls := "java/util/ArrayList", name := "add", desc := "(Ljava/lang/Object;)Z" } : Jvm.MethodName)) ∈ lw_all := lw_g (lw_at lw_m5 172 rfl) rfl
theorem q1275 : (Jvm.Cond.methodLink "ArcRecorder$Parser" (317 : Nat) ({ cls := "ArcRecorder$Parser", name := "parseLoad", desc := "(Ljava/lang/String;)V" } : Jvm.MethodName)) ∈ lw_all := lw_g (lw_at lw_m5 173 rfl) rfl
theorem q1276 : (Jvm.Cond.privateMethod ({ cls := "ArcRecorder$Parser", name := "parseLoad", desc := "(Ljava/lang/String;)V" } : Jvm.MethodName)) ∈ lw_tbl := lw_at lw_m5 174 rfl
theorem q1277 : (Jvm.Cond.instanceMethod ({ cls := "ArcRecorder$Parser", name := "parseLoad", desc := "(Ljava/lang/String;)V" } : Jvm.MethodName)) ∈ lw_all := lw_g (lw_at lw_m5 175 rfl) rfl
theorem q1278 : (Jvm.Cond.code ({ cls := "ArcRecorder$Parser", name := "parseLoad", desc := "(Ljava/lang/String;)V" } : Jvm.MethodName) prog_17_method_16_code (9 : Nat) (Option.none : Option Jvm.ClassFile.FieldType)) ∈ lw_all := lw_g (lw_at lw_m5 176 rfl) rfl
theorem q1279 : (Jvm.Cond.methodLink "ArcRecorder$Parser" (215 : Nat) ({ cls := "ArcRecorder$Parser", name := "parseOf", desc := "()I" } : Jvm.MethodName)) ∈ lw_all := lw_g (lw_at lw_m5 177 rfl) rfl
theorem q1280 : (Jvm.Cond.privateMethod ({ cls := "ArcRecorder$Parser", name := "parseOf", desc := "()I" } : Jvm.MethodName)) ∈ lw_tbl := lw_at lw_m5 178 rfl
theorem q1281 : (Jvm.Cond.instanceMethod ({ cls := "ArcRecorder$Parser", name := "parseOf", desc := "()I" } : Jvm.MethodName)) ∈ lw_all := lw_g (lw_at lw_m5 179 rfl) rfl
theorem q1282 : (Jvm.Cond.code ({ cls := "ArcRecorder$Parser", name := "parseOf", desc := "()I" } : Jvm.MethodName) prog_17_method_15_code (2 : Nat) (Option.some Jvm.ClassFile.FieldType.int)) ∈ lw_all := lw_g (lw_at lw_m5 180 rfl) rfl
theorem q1283 : (Jvm.Cond.stringRef "ArcRecorder$Parser" (206 : Nat) "of") ∈ lw_tbl := lw_at lw_m5 181 rfl
theorem q1284 : (Jvm.Cond.methodLink "ArcRecorder$Parser" (208 : Nat) ({ cls := "java/util/ArrayList", name := "indexOf", desc := "(Ljava/lang/Object;)I" } : Jvm.MethodName)) ∈ lw_all := lw_g (lw_at lw_m5 182 rfl) rfl
theorem q1285 : (Jvm.Cond.stringRef "ArcRecorder$Parser" (218 : Nat) "amps") ∈ lw_tbl := lw_at lw_m5 183 rfl
theorem q1286 : (Jvm.Cond.classLink "ArcRecorder$Parser" (229 : Nat) "ArcRecorder$Heater") ∈ lw_all := lw_g (lw_at lw_m5 184 rfl) rfl
theorem q1288 : (Jvm.Cond.methodLink "ArcRecorder$Parser" (231 : Nat) ({ cls := "ArcRecorder$Heater", name := "<init>", desc := "(Ljava/lang/String;II)V" } : Jvm.MethodName)) ∈ lw_all := lw_g (lw_at lw_m5 186 rfl) rfl
theorem q1309 : (Jvm.Cond.classLink "ArcRecorder$Parser" (234 : Nat) "ArcRecorder$Motor") ∈ lw_all := lw_g (lw_at lw_m5 207 rfl) rfl
theorem q1311 : (Jvm.Cond.stringRef "ArcRecorder$Parser" (236 : Nat) "lag") ∈ lw_tbl := lw_at lw_m5 209 rfl
theorem q1312 : (Jvm.Cond.methodLink "ArcRecorder$Parser" (238 : Nat) ({ cls := "ArcRecorder$Motor", name := "<init>", desc := "(Ljava/lang/String;III)V" } : Jvm.MethodName)) ∈ lw_all := lw_g (lw_at lw_m5 210 rfl) rfl
theorem q1323 : (Jvm.Cond.classLink "ArcRecorder$Parser" (241 : Nat) "ArcRecorder$Dimmer") ∈ lw_all := lw_g (lw_at lw_m5 221 rfl) rfl
theorem q1325 : (Jvm.Cond.stringRef "ArcRecorder$Parser" (243 : Nat) "cut") ∈ lw_tbl := lw_at lw_m5 223 rfl
theorem q1326 : (Jvm.Cond.methodLink "ArcRecorder$Parser" (245 : Nat) ({ cls := "ArcRecorder$Dimmer", name := "<init>", desc := "(Ljava/lang/String;III)V" } : Jvm.MethodName)) ∈ lw_all := lw_g (lw_at lw_m5 224 rfl) rfl
theorem q1337 : (Jvm.Cond.stringRef "ArcRecorder$Parser" (246 : Nat) "gap") ∈ lw_tbl := lw_at lw_m5 235 rfl
theorem q1338 : (Jvm.Cond.classLink "ArcRecorder$Parser" (248 : Nat) "ArcRecorder$Arc") ∈ lw_all := lw_g (lw_at lw_m5 236 rfl) rfl
theorem q1340 : (Jvm.Cond.stringRef "ArcRecorder$Parser" (250 : Nat) "out") ∈ lw_tbl := lw_at lw_m5 238 rfl
theorem q1341 : (Jvm.Cond.methodLink "ArcRecorder$Parser" (252 : Nat) ({ cls := "ArcRecorder$Arc", name := "<init>", desc := "(Ljava/lang/String;IIII)V" } : Jvm.MethodName)) ∈ lw_all := lw_g (lw_at lw_m5 239 rfl) rfl
theorem q1357 : (Jvm.Cond.methodLink "ArcRecorder$Parser" (320 : Nat) ({ cls := "ArcRecorder$Parser", name := "parseSeed", desc := "()V" } : Jvm.MethodName)) ∈ lw_all := lw_g (lw_at lw_m6 15 rfl) rfl
theorem q1358 : (Jvm.Cond.privateMethod ({ cls := "ArcRecorder$Parser", name := "parseSeed", desc := "()V" } : Jvm.MethodName)) ∈ lw_tbl := lw_at lw_m6 16 rfl
theorem q1359 : (Jvm.Cond.instanceMethod ({ cls := "ArcRecorder$Parser", name := "parseSeed", desc := "()V" } : Jvm.MethodName)) ∈ lw_all := lw_g (lw_at lw_m6 17 rfl) rfl
theorem q1360 : (Jvm.Cond.code ({ cls := "ArcRecorder$Parser", name := "parseSeed", desc := "()V" } : Jvm.MethodName) prog_17_method_22_code (1 : Nat) (Option.none : Option Jvm.ClassFile.FieldType)) ∈ lw_all := lw_g (lw_at lw_m6 18 rfl) rfl
theorem q1361 : (Jvm.Cond.constant "ArcRecorder$Parser" (264 : Nat) (99999 : Int32)) ∈ lw_all := lw_g (lw_at lw_m6 19 rfl) rfl
theorem q1362 : (Jvm.Cond.methodLink "ArcRecorder$Parser" (323 : Nat) ({ cls := "ArcRecorder$Parser", name := "parseSignature", desc := "()V" } : Jvm.MethodName)) ∈ lw_all := lw_g (lw_at lw_m6 20 rfl) rfl
theorem q1363 : (Jvm.Cond.privateMethod ({ cls := "ArcRecorder$Parser", name := "parseSignature", desc := "()V" } : Jvm.MethodName)) ∈ lw_tbl := lw_at lw_m6 21 rfl
theorem q1364 : (Jvm.Cond.instanceMethod ({ cls := "ArcRecorder$Parser", name := "parseSignature", desc := "()V" } : Jvm.MethodName)) ∈ lw_all := lw_g (lw_at lw_m6 22 rfl) rfl
theorem q1365 : (Jvm.Cond.code ({ cls := "ArcRecorder$Parser", name := "parseSignature", desc := "()V" } : Jvm.MethodName) prog_17_method_19_code (3 : Nat) (Option.none : Option Jvm.ClassFile.FieldType)) ∈ lw_all := lw_g (lw_at lw_m6 23 rfl) rfl
theorem q1366 : (Jvm.Cond.classLink "ArcRecorder$Parser" (167 : Nat) "ArcRecorder$Pattern") ∈ lw_all := lw_g (lw_at lw_m6 24 rfl) rfl
theorem q1368 : (Jvm.Cond.stringRef "ArcRecorder$Parser" (283 : Nat) "always") ∈ lw_tbl := lw_at lw_m6 26 rfl
theorem q1369 : (Jvm.Cond.methodLink "ArcRecorder$Parser" (277 : Nat) ({ cls := "ArcRecorder$Parser", name := "accepts", desc := "(Ljava/lang/String;)Z" } : Jvm.MethodName)) ∈ lw_all := lw_g (lw_at lw_m6 27 rfl) rfl
theorem q1370 : (Jvm.Cond.privateMethod ({ cls := "ArcRecorder$Parser", name := "accepts", desc := "(Ljava/lang/String;)Z" } : Jvm.MethodName)) ∈ lw_tbl := lw_at lw_m6 28 rfl
theorem q1371 : (Jvm.Cond.instanceMethod ({ cls := "ArcRecorder$Parser", name := "accepts", desc := "(Ljava/lang/String;)Z" } : Jvm.MethodName)) ∈ lw_all := lw_g (lw_at lw_m6 29 rfl) rfl
theorem q1372 : (Jvm.Cond.code ({ cls := "ArcRecorder$Parser", name := "accepts", desc := "(Ljava/lang/String;)Z" } : Jvm.MethodName) prog_17_method_6_code (3 : Nat) (Option.some Jvm.ClassFile.FieldType.boolean)) ∈ lw_all := lw_g (lw_at lw_m6 30 rfl) rfl
theorem q1373 : (Jvm.Cond.methodLink "ArcRecorder$Parser" (285 : Nat) ({ cls := "ArcRecorder$Pattern", name := "<init>", desc := "(Ljava/lang/String;Z)V" } : Jvm.MethodName)) ∈ lw_all := lw_g (lw_at lw_m6 31 rfl) rfl
theorem q1381 : (Jvm.Cond.fieldLinkNest "ArcRecorder$Parser" (166 : Nat) "ArcRecorder$Pattern" "name" "Ljava/lang/String;" "ArcRecorder") ∈ lw_tbl := lw_at lw_m6 39 rfl
theorem q1387 : (Jvm.Cond.fieldLinkNest "ArcRecorder$Parser" (268 : Nat) "ArcRecorder$Pattern" "tests" "Ljava/util/ArrayList;" "ArcRecorder") ∈ lw_tbl := lw_at lw_m6 45 rfl
theorem q1396 : (Jvm.Cond.methodLink "ArcRecorder$Parser" (288 : Nat) ({ cls := "ArcRecorder$Parser", name := "parseTests", desc := "(LArcRecorder$Pattern;)V" } : Jvm.MethodName)) ∈ lw_all := lw_g (lw_at lw_m6 54 rfl) rfl
theorem q1397 : (Jvm.Cond.privateMethod ({ cls := "ArcRecorder$Parser", name := "parseTests", desc := "(LArcRecorder$Pattern;)V" } : Jvm.MethodName)) ∈ lw_tbl := lw_at lw_m6 55 rfl
theorem q1398 : (Jvm.Cond.instanceMethod ({ cls := "ArcRecorder$Parser", name := "parseTests", desc := "(LArcRecorder$Pattern;)V" } : Jvm.MethodName)) ∈ lw_all := lw_g (lw_at lw_m6 56 rfl) rfl
theorem q1399 : (Jvm.Cond.code ({ cls := "ArcRecorder$Parser", name := "parseTests", desc := "(LArcRecorder$Pattern;)V" } : Jvm.MethodName) prog_17_method_18_code (2 : Nat) (Option.none : Option Jvm.ClassFile.FieldType)) ∈ lw_all := lw_g (lw_at lw_m6 57 rfl) rfl
theorem q1400 : (Jvm.Cond.methodLinkNest "ArcRecorder$Parser" (255 : Nat) ({ cls := "ArcRecorder", name := "featureOf", desc := "(Ljava/lang/String;)I" } : Jvm.MethodName) "ArcRecorder") ∈ lw_tbl := lw_at lw_m6 58 rfl
theorem q1401 : (Jvm.Cond.methodLink "ArcRecorder$Parser" (271 : Nat) ({ cls := "ArcRecorder$Parser", name := "parseTest", desc := "()LArcRecorder$Test;" } : Jvm.MethodName)) ∈ lw_all := lw_g (lw_at lw_m6 59 rfl) rfl
theorem q1402 : (Jvm.Cond.privateMethod ({ cls := "ArcRecorder$Parser", name := "parseTest", desc := "()LArcRecorder$Test;" } : Jvm.MethodName)) ∈ lw_tbl := lw_at lw_m6 60 rfl
theorem q1403 : (Jvm.Cond.instanceMethod ({ cls := "ArcRecorder$Parser", name := "parseTest", desc := "()LArcRecorder$Test;" } : Jvm.MethodName)) ∈ lw_all := lw_g (lw_at lw_m6 61 rfl) rfl
theorem q1404 : (Jvm.Cond.code ({ cls := "ArcRecorder$Parser", name := "parseTest", desc := "()LArcRecorder$Test;" } : Jvm.MethodName) prog_17_method_17_code (3 : Nat) (Option.some (Jvm.ClassFile.FieldType.object "ArcRecorder$Test"))) ∈ lw_all := lw_g (lw_at lw_m6 62 rfl) rfl
theorem q1405 : (Jvm.Cond.classLink "ArcRecorder$Parser" (262 : Nat) "ArcRecorder$Test") ∈ lw_all := lw_g (lw_at lw_m6 63 rfl) rfl
theorem q1407 : (Jvm.Cond.methodLink "ArcRecorder$Parser" (265 : Nat) ({ cls := "ArcRecorder$Test", name := "<init>", desc := "(IZI)V" } : Jvm.MethodName)) ∈ lw_all := lw_g (lw_at lw_m6 65 rfl) rfl
theorem q1421 : (Jvm.Cond.stringRef "ArcRecorder$Parser" (275 : Nat) "and") ∈ lw_tbl := lw_at lw_m6 79 rfl
theorem q1422 : (Jvm.Cond.methodLink "ArcRecorder$Parser" (326 : Nat) ({ cls := "ArcRecorder$Parser", name := "parseNuisance", desc := "()V" } : Jvm.MethodName)) ∈ lw_all := lw_g (lw_at lw_m6 80 rfl) rfl
theorem q1423 : (Jvm.Cond.privateMethod ({ cls := "ArcRecorder$Parser", name := "parseNuisance", desc := "()V" } : Jvm.MethodName)) ∈ lw_tbl := lw_at lw_m6 81 rfl
theorem q1424 : (Jvm.Cond.instanceMethod ({ cls := "ArcRecorder$Parser", name := "parseNuisance", desc := "()V" } : Jvm.MethodName)) ∈ lw_all := lw_g (lw_at lw_m6 82 rfl) rfl
theorem q1425 : (Jvm.Cond.code ({ cls := "ArcRecorder$Parser", name := "parseNuisance", desc := "()V" } : Jvm.MethodName) prog_17_method_20_code (2 : Nat) (Option.none : Option Jvm.ClassFile.FieldType)) ∈ lw_all := lw_g (lw_at lw_m6 83 rfl) rfl
theorem q1427 : (Jvm.Cond.methodLink "ArcRecorder$Parser" (292 : Nat) ({ cls := "ArcRecorder$Nuisance", name := "<init>", desc := "(LArcRecorder$Pattern;I)V" } : Jvm.MethodName)) ∈ lw_all := lw_g (lw_at lw_m6 85 rfl) rfl
theorem q1433 : (Jvm.Cond.fieldLinkNest "ArcRecorder$Parser" (162 : Nat) "ArcRecorder$Nuisance" "pattern" "LArcRecorder$Pattern;" "ArcRecorder") ∈ lw_tbl := lw_at lw_m6 91 rfl
theorem q1442 : (Jvm.Cond.methodLink "ArcRecorder$Parser" (329 : Nat) ({ cls := "ArcRecorder$Parser", name := "parseSwitch", desc := "()V" } : Jvm.MethodName)) ∈ lw_all := lw_g (lw_at lw_m6 100 rfl) rfl
theorem q1443 : (Jvm.Cond.privateMethod ({ cls := "ArcRecorder$Parser", name := "parseSwitch", desc := "()V" } : Jvm.MethodName)) ∈ lw_tbl := lw_at lw_m6 101 rfl
theorem q1444 : (Jvm.Cond.instanceMethod ({ cls := "ArcRecorder$Parser", name := "parseSwitch", desc := "()V" } : Jvm.MethodName)) ∈ lw_all := lw_g (lw_at lw_m6 102 rfl) rfl
theorem q1445 : (Jvm.Cond.code ({ cls := "ArcRecorder$Parser", name := "parseSwitch", desc := "()V" } : Jvm.MethodName) prog_17_method_21_code (4 : Nat) (Option.none : Option Jvm.ClassFile.FieldType)) ∈ lw_all := lw_g (lw_at lw_m6 103 rfl) rfl
theorem q1446 : (Jvm.Cond.stringRef "ArcRecorder$Parser" (295 : Nat) "on") ∈ lw_tbl := lw_at lw_m6 104 rfl
theorem q1447 : (Jvm.Cond.stringRef "ArcRecorder$Parser" (297 : Nat) "off") ∈ lw_tbl := lw_at lw_m6 105 rfl
theorem q1448 : (Jvm.Cond.classLink "ArcRecorder$Parser" (299 : Nat) "ArcRecorder$Switch") ∈ lw_all := lw_g (lw_at lw_m6 106 rfl) rfl
theorem q1450 : (Jvm.Cond.methodLink "ArcRecorder$Parser" (301 : Nat) ({ cls := "ArcRecorder$Switch", name := "<init>", desc := "(IIZ)V" } : Jvm.MethodName)) ∈ lw_all := lw_g (lw_at lw_m6 108 rfl) rfl
theorem q1469 : (Jvm.Cond.methodLink "ArcRecorder$Parser" (341 : Nat) ({ cls := "ArcRecorder$Plant", name := "lay", desc := "()V" } : Jvm.MethodName)) ∈ lw_all := lw_g (lw_at lw_m6 127 rfl) rfl
theorem q1474 : (Jvm.Cond.classLink "ArcRecorder$Parser" (344 : Nat) "ArcRecorder$State") ∈ lw_all := lw_g (lw_at lw_m6 132 rfl) rfl
theorem q1475 : (Jvm.Cond.methodLink "ArcRecorder$Parser" (346 : Nat) ({ cls := "ArcRecorder$State", name := "<init>", desc := "(LArcRecorder$Plant;)V" } : Jvm.MethodName)) ∈ lw_all := lw_g (lw_at lw_m6 133 rfl) rfl
theorem q1476 : (Jvm.Cond.methodLink "ArcRecorder$Parser" (356 : Nat) ({ cls := "java/util/LinkedList", name := "addLast", desc := "(Ljava/lang/Object;)V" } : Jvm.MethodName)) ∈ lw_all := lw_g (lw_at lw_m6 134 rfl) rfl
theorem q3496 : (Jvm.Cond.castable "ArcRecorder$Parser" "java/lang/Object") ∈ lw_tbl := lw_at lw_m14 234 rfl
theorem in_X7 : ∀ w ∈ wsX70, w ∈ lw_all := lw_in wsX70 [974, 976, 978, 980, 982, 984, 986, 988, 990, 992] (by decide +kernel) (by decide +kernel)
/-! X8.ArcRecorder_ParseError -/
def RX8 : String := "ArcRecorder$ParseError"
def TX8 : u_T := fun k => match k with
  | 0 => ("java/lang/Throwable", "cause", "Ljava/lang/Throwable;", false)
  | 1 => ("java/lang/Throwable", "stackTrace", "[Ljava/lang/StackTraceElement;", false)
  | 2 => ("java/lang/Throwable", "suppressedExceptions", "Ljava/util/List;", false)
  | 3 => ("java/lang/Throwable", "detailMessage", "Ljava/lang/String;", false)
  | 4 => ("java/lang/Throwable", "backtrace", "Ljava/lang/Object;", false)
  | 5 => ("java/lang/Throwable", "depth", "I", false)
  | 6 => ("ArcRecorder$ParseError", "code", "I", true)
  | _ => ("ArcRecorder$ParseError", "position", "I", true)
def tyX8 : Nat → FieldType := fun k => match k with
  | 0 => .object "java/lang/Throwable"
  | 1 => .array (.object "java/lang/StackTraceElement")
  | 2 => .object "java/util/List"
  | 3 => .object "java/lang/String"
  | 4 => .object "java/lang/Object"
  | 5 => .int
  | 6 => .int
  | _ => .int
abbrev wsX80 : List Cond := u_ws RX8 TX8 8
theorem nmX8 : ∀ a, a < 8 → ∀ b, b < 8 → a ≠ b → (TX8 a).2.1 ≠ (TX8 b).2.1 := by decide +kernel
theorem tyX8_ok : ∀ k, k < 8 → parseFieldDescriptor (TX8 k).2.2.1 = some (tyX8 k) := by decide +kernel
abbrev cX8_init : ByteArray := prog_16_method_1_code
def yX8_init : MethodName := ⟨RX8, "<init>", "(II)V"⟩
theorem q175 : (Jvm.Cond.initialized "ArcRecorder$ParseError") ∈ lw_all := lw_g (lw_at lw_m1 33 rfl) rfl
theorem q265 : (Jvm.Cond.selects "ArcRecorder$ParseError" ({ cls := "java/lang/Throwable", name := "fillInStackTrace", desc := "()Ljava/lang/Throwable;" } : Jvm.MethodName) ({ cls := "java/lang/Throwable", name := "fillInStackTrace", desc := "()Ljava/lang/Throwable;" } : Jvm.MethodName)) ∈ lw_all := lw_g (lw_at lw_m1 123 rfl) rfl
theorem q783 : (Jvm.Cond.selects "ArcRecorder$ParseError" ({ cls := "java/lang/Object", name := "getClass", desc := "()Ljava/lang/Class;" } : Jvm.MethodName) ({ cls := "java/lang/Object", name := "getClass", desc := "()Ljava/lang/Class;" } : Jvm.MethodName)) ∈ lw_all := lw_g (lw_at lw_m3 161 rfl) rfl
theorem q1021 : (Jvm.Cond.instantiable "ArcRecorder$ParseError" (8 : Nat)) ∈ lw_all := lw_g (lw_at lw_m4 159 rfl) rfl
theorem q1022 : (Jvm.Cond.castable "ArcRecorder$ParseError" "ArcRecorder$ParseError") ∈ lw_tbl := lw_at lw_m4 160 rfl
theorem q1023 : (Jvm.Cond.selects "ArcRecorder$ParseError" ({ cls := "java/lang/Throwable", name := "fillInStackTrace", desc := "(I)Ljava/lang/Throwable;" } : Jvm.MethodName) ({ cls := "java/lang/Throwable", name := "fillInStackTrace", desc := "(I)Ljava/lang/Throwable;" } : Jvm.MethodName)) ∈ lw_all := lw_g (lw_at lw_m4 161 rfl) rfl
theorem q1024 : (Jvm.Cond.lays "ArcRecorder$ParseError" "java/lang/Throwable" "cause" "Ljava/lang/Throwable;") ∈ lw_all := lw_g (lw_at lw_m4 162 rfl) rfl
theorem q1025 : (Jvm.Cond.lays "ArcRecorder$ParseError" "java/lang/Throwable" "stackTrace" "[Ljava/lang/StackTraceElement;") ∈ lw_all := lw_g (lw_at lw_m4 163 rfl) rfl
theorem q1026 : (Jvm.Cond.lays "ArcRecorder$ParseError" "java/lang/Throwable" "suppressedExceptions" "Ljava/util/List;") ∈ lw_all := lw_g (lw_at lw_m4 164 rfl) rfl
theorem q1027 : (Jvm.Cond.lays "ArcRecorder$ParseError" "java/lang/Throwable" "detailMessage" "Ljava/lang/String;") ∈ lw_all := lw_g (lw_at lw_m4 165 rfl) rfl
theorem q1028 : (Jvm.Cond.lays "ArcRecorder$ParseError" "java/lang/Throwable" "backtrace" "Ljava/lang/Object;") ∈ lw_all := lw_g (lw_at lw_m4 166 rfl) rfl
theorem q1030 : (Jvm.Cond.instanceMethod ({ cls := "ArcRecorder$ParseError", name := "<init>", desc := "(II)V" } : Jvm.MethodName)) ∈ lw_all := lw_g (lw_at lw_m4 168 rfl) rfl
theorem q1031 : (Jvm.Cond.code ({ cls := "ArcRecorder$ParseError", name := "<init>", desc := "(II)V" } : Jvm.MethodName) prog_16_method_1_code (3 : Nat) (Option.none : Option Jvm.ClassFile.FieldType)) ∈ lw_all := lw_g (lw_at lw_m4 169 rfl) rfl
theorem q1032 : (Jvm.Cond.methodLink "ArcRecorder$ParseError" (1 : Nat) ({ cls := "java/lang/Exception", name := "<init>", desc := "(Ljava/lang/String;Ljava/lang/Throwable;ZZ)V" } : Jvm.MethodName)) ∈ lw_all := lw_g (lw_at lw_m4 170 rfl) rfl
theorem q1038 : (Jvm.Cond.fieldLink "ArcRecorder$ParseError" (7 : Nat) "ArcRecorder$ParseError" "code" "I") ∈ lw_all := lw_g (lw_at lw_m4 176 rfl) rfl
theorem q1040 : (Jvm.Cond.fieldLink "ArcRecorder$ParseError" (13 : Nat) "ArcRecorder$ParseError" "position" "I") ∈ lw_all := lw_g (lw_at lw_m4 178 rfl) rfl
theorem q1042 : (Jvm.Cond.laysFinal "ArcRecorder$ParseError" "ArcRecorder$ParseError" "code" "I") ∈ lw_all := lw_g (lw_at lw_m4 180 rfl) rfl
theorem q1043 : (Jvm.Cond.soleField "ArcRecorder$ParseError" "code") ∈ lw_all := lw_g (lw_at lw_m4 181 rfl) rfl
theorem q1044 : (Jvm.Cond.laysFinal "ArcRecorder$ParseError" "ArcRecorder$ParseError" "position" "I") ∈ lw_all := lw_g (lw_at lw_m4 182 rfl) rfl
theorem q1045 : (Jvm.Cond.soleField "ArcRecorder$ParseError" "position") ∈ lw_all := lw_g (lw_at lw_m4 183 rfl) rfl
theorem q1046 : (Jvm.Cond.lays "ArcRecorder$ParseError" "java/lang/Throwable" "depth" "I") ∈ lw_all := lw_g (lw_at lw_m4 184 rfl) rfl
theorem q1047 : (Jvm.Cond.superclass "ArcRecorder$ParseError" "java/lang/Exception") ∈ lw_all := lw_g (lw_at lw_m4 185 rfl) rfl
theorem q1228 : (Jvm.Cond.selects "ArcRecorder$ParseError" ({ cls := "java/lang/Object", name := "equals", desc := "(Ljava/lang/Object;)Z" } : Jvm.MethodName) ({ cls := "java/lang/Object", name := "equals", desc := "(Ljava/lang/Object;)Z" } : Jvm.MethodName)) ∈ lw_all := lw_g (lw_at lw_m5 126 rfl) rfl
theorem q1842 : (Jvm.Cond.selects "ArcRecorder$ParseError" ({ cls := "java/lang/Throwable", name := "toString", desc := "()Ljava/lang/String;" } : Jvm.MethodName) ({ cls := "java/lang/Throwable", name := "toString", desc := "()Ljava/lang/String;" } : Jvm.MethodName)) ∈ lw_all := lw_g (lw_at lw_m8 20 rfl) rfl
theorem q1854 : (Jvm.Cond.selects "ArcRecorder$ParseError" ({ cls := "java/lang/Throwable", name := "getLocalizedMessage", desc := "()Ljava/lang/String;" } : Jvm.MethodName) ({ cls := "java/lang/Throwable", name := "getLocalizedMessage", desc := "()Ljava/lang/String;" } : Jvm.MethodName)) ∈ lw_all := lw_g (lw_at lw_m8 32 rfl) rfl
theorem q1865 : (Jvm.Cond.selects "ArcRecorder$ParseError" ({ cls := "java/lang/Throwable", name := "getMessage", desc := "()Ljava/lang/String;" } : Jvm.MethodName) ({ cls := "java/lang/Throwable", name := "getMessage", desc := "()Ljava/lang/String;" } : Jvm.MethodName)) ∈ lw_all := lw_g (lw_at lw_m8 43 rfl) rfl
theorem q3498 : (Jvm.Cond.castable "ArcRecorder$ParseError" "java/lang/Object") ∈ lw_tbl := lw_at lw_m14 236 rfl
theorem in_X8 : ∀ w ∈ wsX80, w ∈ lw_all := lw_in wsX80 [1024, 1025, 1026, 1027, 1028, 1046, 1042, 1044] (by decide +kernel) (by decide +kernel)
/-! X9.ArcRecorder_Load -/
def RX9 : String := "ArcRecorder$Load"
abbrev cX9_init : ByteArray := prog_13_method_1_code
def yX9_init : MethodName := ⟨RX9, "<init>", "(Ljava/lang/String;II)V"⟩
abbrev cX9_first : ByteArray := prog_13_method_3_code
def yX9_first : MethodName := ⟨RX9, "first", "()I"⟩
abbrev cX9_out : ByteArray := prog_13_method_4_code
def yX9_out : MethodName := ⟨RX9, "out", "()I"⟩
abbrev cX9_at : ByteArray := prog_13_method_5_code
def yX9_at : MethodName := ⟨RX9, "at", "([FIIF)F"⟩
theorem q177 : (Jvm.Cond.initialized "ArcRecorder$Load") ∈ lw_all := lw_g (lw_at lw_m1 35 rfl) rfl
theorem q1292 : (Jvm.Cond.instanceMethod ({ cls := "ArcRecorder$Load", name := "<init>", desc := "(Ljava/lang/String;II)V" } : Jvm.MethodName)) ∈ lw_all := lw_g (lw_at lw_m5 190 rfl) rfl
theorem q1293 : (Jvm.Cond.code ({ cls := "ArcRecorder$Load", name := "<init>", desc := "(Ljava/lang/String;II)V" } : Jvm.MethodName) prog_13_method_1_code (4 : Nat) (Option.none : Option Jvm.ClassFile.FieldType)) ∈ lw_all := lw_g (lw_at lw_m5 191 rfl) rfl
theorem q1294 : (Jvm.Cond.methodLink "ArcRecorder$Load" (1 : Nat) ({ cls := "java/lang/Object", name := "<init>", desc := "()V" } : Jvm.MethodName)) ∈ lw_all := lw_g (lw_at lw_m5 192 rfl) rfl
theorem q1295 : (Jvm.Cond.fieldLink "ArcRecorder$Load" (7 : Nat) "ArcRecorder$Load" "name" "Ljava/lang/String;") ∈ lw_all := lw_g (lw_at lw_m5 193 rfl) rfl
theorem q1297 : (Jvm.Cond.fieldLink "ArcRecorder$Load" (13 : Nat) "ArcRecorder$Load" "branch" "I") ∈ lw_all := lw_g (lw_at lw_m5 195 rfl) rfl
theorem q1300 : (Jvm.Cond.fieldLink "ArcRecorder$Load" (17 : Nat) "ArcRecorder$Load" "amps" "I") ∈ lw_all := lw_g (lw_at lw_m5 198 rfl) rfl
theorem q1303 : (Jvm.Cond.soleField "ArcRecorder$Load" "name") ∈ lw_all := lw_g (lw_at lw_m5 201 rfl) rfl
theorem q1305 : (Jvm.Cond.soleField "ArcRecorder$Load" "branch") ∈ lw_all := lw_g (lw_at lw_m5 203 rfl) rfl
theorem q1307 : (Jvm.Cond.soleField "ArcRecorder$Load" "amps") ∈ lw_all := lw_g (lw_at lw_m5 205 rfl) rfl
theorem q2075 : (Jvm.Cond.declares ({ cls := "ArcRecorder$Load", name := "kind", desc := "()I" } : Jvm.MethodName)) ∈ lw_tbl := lw_at lw_m9 13 rfl
theorem q2076 : (Jvm.Cond.sameMethod "ArcRecorder$Load" "ArcRecorder$Load" "kind" "()I") ∈ lw_all := lw_g (lw_at lw_m9 14 rfl) rfl
theorem q2090 : (Jvm.Cond.instanceMethod ({ cls := "ArcRecorder$Load", name := "first", desc := "()I" } : Jvm.MethodName)) ∈ lw_all := lw_g (lw_at lw_m9 28 rfl) rfl
theorem q2091 : (Jvm.Cond.sameMethod "ArcRecorder$Load" "ArcRecorder$Load" "first" "()I") ∈ lw_all := lw_g (lw_at lw_m9 29 rfl) rfl
theorem q2102 : (Jvm.Cond.code ({ cls := "ArcRecorder$Load", name := "first", desc := "()I" } : Jvm.MethodName) prog_13_method_3_code (1 : Nat) (Option.some Jvm.ClassFile.FieldType.int)) ∈ lw_all := lw_g (lw_at lw_m9 40 rfl) rfl
theorem q2104 : (Jvm.Cond.instanceMethod ({ cls := "ArcRecorder$Load", name := "out", desc := "()I" } : Jvm.MethodName)) ∈ lw_all := lw_g (lw_at lw_m9 42 rfl) rfl
theorem q2105 : (Jvm.Cond.sameMethod "ArcRecorder$Load" "ArcRecorder$Load" "out" "()I") ∈ lw_all := lw_g (lw_at lw_m9 43 rfl) rfl
theorem q2112 : (Jvm.Cond.code ({ cls := "ArcRecorder$Load", name := "out", desc := "()I" } : Jvm.MethodName) prog_13_method_4_code (1 : Nat) (Option.some Jvm.ClassFile.FieldType.int)) ∈ lw_all := lw_g (lw_at lw_m9 50 rfl) rfl
theorem q2209 : (Jvm.Cond.instanceMethod ({ cls := "ArcRecorder$Load", name := "at", desc := "([FIIF)F" } : Jvm.MethodName)) ∈ lw_all := lw_g (lw_at lw_m9 147 rfl) rfl
theorem q2210 : (Jvm.Cond.sameMethod "ArcRecorder$Load" "ArcRecorder$Load" "at" "([FIIF)F") ∈ lw_all := lw_g (lw_at lw_m9 148 rfl) rfl
theorem q2215 : (Jvm.Cond.code ({ cls := "ArcRecorder$Load", name := "at", desc := "([FIIF)F" } : Jvm.MethodName) prog_13_method_5_code (5 : Nat) (Option.some Jvm.ClassFile.FieldType.float)) ∈ lw_all := lw_g (lw_at lw_m9 153 rfl) rfl
/-! X10.ArcRecorder_Heater -/
def RX10 : String := "ArcRecorder$Heater"
def TX10 : u_T := fun k => match k with
  | 0 => ("ArcRecorder$Load", "name", "Ljava/lang/String;", true)
  | 1 => ("ArcRecorder$Load", "branch", "I", true)
  | _ => ("ArcRecorder$Load", "amps", "I", true)
def tyX10 : Nat → FieldType := fun k => match k with
  | 0 => .object "java/lang/String"
  | 1 => .int
  | _ => .int
abbrev wsX100 : List Cond := u_ws RX10 TX10 3
theorem nmX10 : ∀ a, a < 3 → ∀ b, b < 3 → a ≠ b → (TX10 a).2.1 ≠ (TX10 b).2.1 := by decide +kernel
theorem tyX10_ok : ∀ k, k < 3 → parseFieldDescriptor (TX10 k).2.2.1 = some (tyX10 k) := by decide +kernel
abbrev cX10_init : ByteArray := prog_12_method_1_code
def yX10_init : MethodName := ⟨RX10, "<init>", "(Ljava/lang/String;II)V"⟩
abbrev cX10_kind : ByteArray := prog_12_method_2_code
def yX10_kind : MethodName := ⟨RX10, "kind", "()I"⟩
theorem q178 : (Jvm.Cond.initialized "ArcRecorder$Heater") ∈ lw_all := lw_g (lw_at lw_m1 36 rfl) rfl
theorem q780 : (Jvm.Cond.selects "ArcRecorder$Heater" ({ cls := "java/lang/Object", name := "getClass", desc := "()Ljava/lang/Class;" } : Jvm.MethodName) ({ cls := "java/lang/Object", name := "getClass", desc := "()Ljava/lang/Class;" } : Jvm.MethodName)) ∈ lw_all := lw_g (lw_at lw_m3 158 rfl) rfl
theorem q1225 : (Jvm.Cond.selects "ArcRecorder$Heater" ({ cls := "java/lang/Object", name := "equals", desc := "(Ljava/lang/Object;)Z" } : Jvm.MethodName) ({ cls := "java/lang/Object", name := "equals", desc := "(Ljava/lang/Object;)Z" } : Jvm.MethodName)) ∈ lw_all := lw_g (lw_at lw_m5 123 rfl) rfl
theorem q1287 : (Jvm.Cond.instantiable "ArcRecorder$Heater" (3 : Nat)) ∈ lw_all := lw_g (lw_at lw_m5 185 rfl) rfl
theorem q1289 : (Jvm.Cond.instanceMethod ({ cls := "ArcRecorder$Heater", name := "<init>", desc := "(Ljava/lang/String;II)V" } : Jvm.MethodName)) ∈ lw_all := lw_g (lw_at lw_m5 187 rfl) rfl
theorem q1290 : (Jvm.Cond.code ({ cls := "ArcRecorder$Heater", name := "<init>", desc := "(Ljava/lang/String;II)V" } : Jvm.MethodName) prog_12_method_1_code (4 : Nat) (Option.none : Option Jvm.ClassFile.FieldType)) ∈ lw_all := lw_g (lw_at lw_m5 188 rfl) rfl
theorem q1291 : (Jvm.Cond.methodLink "ArcRecorder$Heater" (1 : Nat) ({ cls := "ArcRecorder$Load", name := "<init>", desc := "(Ljava/lang/String;II)V" } : Jvm.MethodName)) ∈ lw_all := lw_g (lw_at lw_m5 189 rfl) rfl
theorem q1302 : (Jvm.Cond.laysFinal "ArcRecorder$Heater" "ArcRecorder$Load" "name" "Ljava/lang/String;") ∈ lw_all := lw_g (lw_at lw_m5 200 rfl) rfl
theorem q1304 : (Jvm.Cond.laysFinal "ArcRecorder$Heater" "ArcRecorder$Load" "branch" "I") ∈ lw_all := lw_g (lw_at lw_m5 202 rfl) rfl
theorem q1306 : (Jvm.Cond.laysFinal "ArcRecorder$Heater" "ArcRecorder$Load" "amps" "I") ∈ lw_all := lw_g (lw_at lw_m5 204 rfl) rfl
theorem q1308 : (Jvm.Cond.superclass "ArcRecorder$Heater" "ArcRecorder$Load") ∈ lw_all := lw_g (lw_at lw_m5 206 rfl) rfl
theorem q2083 : (Jvm.Cond.selects "ArcRecorder$Heater" ({ cls := "ArcRecorder$Load", name := "kind", desc := "()I" } : Jvm.MethodName) ({ cls := "ArcRecorder$Heater", name := "kind", desc := "()I" } : Jvm.MethodName)) ∈ lw_all := lw_g (lw_at lw_m9 21 rfl) rfl
theorem q2084 : (Jvm.Cond.instanceMethod ({ cls := "ArcRecorder$Heater", name := "kind", desc := "()I" } : Jvm.MethodName)) ∈ lw_all := lw_g (lw_at lw_m9 22 rfl) rfl
theorem q2085 : (Jvm.Cond.code ({ cls := "ArcRecorder$Heater", name := "kind", desc := "()I" } : Jvm.MethodName) prog_12_method_2_code (1 : Nat) (Option.some Jvm.ClassFile.FieldType.int)) ∈ lw_all := lw_g (lw_at lw_m9 23 rfl) rfl
theorem q2098 : (Jvm.Cond.selects "ArcRecorder$Heater" ({ cls := "ArcRecorder$Load", name := "first", desc := "()I" } : Jvm.MethodName) ({ cls := "ArcRecorder$Load", name := "first", desc := "()I" } : Jvm.MethodName)) ∈ lw_all := lw_g (lw_at lw_m9 36 rfl) rfl
theorem q2110 : (Jvm.Cond.selects "ArcRecorder$Heater" ({ cls := "ArcRecorder$Load", name := "out", desc := "()I" } : Jvm.MethodName) ({ cls := "ArcRecorder$Load", name := "out", desc := "()I" } : Jvm.MethodName)) ∈ lw_all := lw_g (lw_at lw_m9 48 rfl) rfl
theorem q2220 : (Jvm.Cond.selects "ArcRecorder$Heater" ({ cls := "ArcRecorder$Load", name := "at", desc := "([FIIF)F" } : Jvm.MethodName) ({ cls := "ArcRecorder$Load", name := "at", desc := "([FIIF)F" } : Jvm.MethodName)) ∈ lw_all := lw_g (lw_at lw_m9 158 rfl) rfl
theorem q3475 : (Jvm.Cond.castable "ArcRecorder$Heater" "ArcRecorder$Load") ∈ lw_tbl := lw_at lw_m14 213 rfl
theorem q3500 : (Jvm.Cond.castable "ArcRecorder$Heater" "java/lang/Object") ∈ lw_tbl := lw_at lw_m14 238 rfl
theorem in_X10 : ∀ w ∈ wsX100, w ∈ lw_all := lw_in wsX100 [1302, 1304, 1306] (by decide +kernel) (by decide +kernel)
/-! X11.ArcRecorder_Motor -/
def RX11 : String := "ArcRecorder$Motor"
def TX11 : u_T := fun k => match k with
  | 0 => ("ArcRecorder$Load", "name", "Ljava/lang/String;", true)
  | 1 => ("ArcRecorder$Load", "branch", "I", true)
  | 2 => ("ArcRecorder$Load", "amps", "I", true)
  | _ => ("ArcRecorder$Motor", "lag", "I", true)
def tyX11 : Nat → FieldType := fun k => match k with
  | 0 => .object "java/lang/String"
  | 1 => .int
  | 2 => .int
  | _ => .int
abbrev wsX110 : List Cond := u_ws RX11 TX11 4
theorem nmX11 : ∀ a, a < 4 → ∀ b, b < 4 → a ≠ b → (TX11 a).2.1 ≠ (TX11 b).2.1 := by decide +kernel
theorem tyX11_ok : ∀ k, k < 4 → parseFieldDescriptor (TX11 k).2.2.1 = some (tyX11 k) := by decide +kernel
abbrev cX11_init : ByteArray := prog_14_method_1_code
def yX11_init : MethodName := ⟨RX11, "<init>", "(Ljava/lang/String;III)V"⟩
abbrev cX11_kind : ByteArray := prog_14_method_2_code
def yX11_kind : MethodName := ⟨RX11, "kind", "()I"⟩
abbrev cX11_first : ByteArray := prog_14_method_3_code
def yX11_first : MethodName := ⟨RX11, "first", "()I"⟩
abbrev cX11_at : ByteArray := prog_14_method_4_code
def yX11_at : MethodName := ⟨RX11, "at", "([FIIF)F"⟩
theorem q179 : (Jvm.Cond.initialized "ArcRecorder$Motor") ∈ lw_all := lw_g (lw_at lw_m1 37 rfl) rfl
theorem q781 : (Jvm.Cond.selects "ArcRecorder$Motor" ({ cls := "java/lang/Object", name := "getClass", desc := "()Ljava/lang/Class;" } : Jvm.MethodName) ({ cls := "java/lang/Object", name := "getClass", desc := "()Ljava/lang/Class;" } : Jvm.MethodName)) ∈ lw_all := lw_g (lw_at lw_m3 159 rfl) rfl
theorem q1226 : (Jvm.Cond.selects "ArcRecorder$Motor" ({ cls := "java/lang/Object", name := "equals", desc := "(Ljava/lang/Object;)Z" } : Jvm.MethodName) ({ cls := "java/lang/Object", name := "equals", desc := "(Ljava/lang/Object;)Z" } : Jvm.MethodName)) ∈ lw_all := lw_g (lw_at lw_m5 124 rfl) rfl
theorem q1310 : (Jvm.Cond.instantiable "ArcRecorder$Motor" (4 : Nat)) ∈ lw_all := lw_g (lw_at lw_m5 208 rfl) rfl
theorem q1313 : (Jvm.Cond.instanceMethod ({ cls := "ArcRecorder$Motor", name := "<init>", desc := "(Ljava/lang/String;III)V" } : Jvm.MethodName)) ∈ lw_all := lw_g (lw_at lw_m5 211 rfl) rfl
theorem q1314 : (Jvm.Cond.code ({ cls := "ArcRecorder$Motor", name := "<init>", desc := "(Ljava/lang/String;III)V" } : Jvm.MethodName) prog_14_method_1_code (5 : Nat) (Option.none : Option Jvm.ClassFile.FieldType)) ∈ lw_all := lw_g (lw_at lw_m5 212 rfl) rfl
theorem q1315 : (Jvm.Cond.methodLink "ArcRecorder$Motor" (1 : Nat) ({ cls := "ArcRecorder$Load", name := "<init>", desc := "(Ljava/lang/String;II)V" } : Jvm.MethodName)) ∈ lw_all := lw_g (lw_at lw_m5 213 rfl) rfl
theorem q1316 : (Jvm.Cond.fieldLink "ArcRecorder$Motor" (7 : Nat) "ArcRecorder$Motor" "lag" "I") ∈ lw_all := lw_g (lw_at lw_m5 214 rfl) rfl
theorem q1317 : (Jvm.Cond.laysFinal "ArcRecorder$Motor" "ArcRecorder$Motor" "lag" "I") ∈ lw_all := lw_g (lw_at lw_m5 215 rfl) rfl
theorem q1318 : (Jvm.Cond.soleField "ArcRecorder$Motor" "lag") ∈ lw_all := lw_g (lw_at lw_m5 216 rfl) rfl
theorem q1319 : (Jvm.Cond.laysFinal "ArcRecorder$Motor" "ArcRecorder$Load" "name" "Ljava/lang/String;") ∈ lw_all := lw_g (lw_at lw_m5 217 rfl) rfl
theorem q1320 : (Jvm.Cond.laysFinal "ArcRecorder$Motor" "ArcRecorder$Load" "branch" "I") ∈ lw_all := lw_g (lw_at lw_m5 218 rfl) rfl
theorem q1321 : (Jvm.Cond.laysFinal "ArcRecorder$Motor" "ArcRecorder$Load" "amps" "I") ∈ lw_all := lw_g (lw_at lw_m5 219 rfl) rfl
theorem q1322 : (Jvm.Cond.superclass "ArcRecorder$Motor" "ArcRecorder$Load") ∈ lw_all := lw_g (lw_at lw_m5 220 rfl) rfl
theorem q2086 : (Jvm.Cond.selects "ArcRecorder$Motor" ({ cls := "ArcRecorder$Load", name := "kind", desc := "()I" } : Jvm.MethodName) ({ cls := "ArcRecorder$Motor", name := "kind", desc := "()I" } : Jvm.MethodName)) ∈ lw_all := lw_g (lw_at lw_m9 24 rfl) rfl
theorem q2087 : (Jvm.Cond.instanceMethod ({ cls := "ArcRecorder$Motor", name := "kind", desc := "()I" } : Jvm.MethodName)) ∈ lw_all := lw_g (lw_at lw_m9 25 rfl) rfl
theorem q2088 : (Jvm.Cond.code ({ cls := "ArcRecorder$Motor", name := "kind", desc := "()I" } : Jvm.MethodName) prog_14_method_2_code (1 : Nat) (Option.some Jvm.ClassFile.FieldType.int)) ∈ lw_all := lw_g (lw_at lw_m9 26 rfl) rfl
theorem q2099 : (Jvm.Cond.selects "ArcRecorder$Motor" ({ cls := "ArcRecorder$Load", name := "first", desc := "()I" } : Jvm.MethodName) ({ cls := "ArcRecorder$Motor", name := "first", desc := "()I" } : Jvm.MethodName)) ∈ lw_all := lw_g (lw_at lw_m9 37 rfl) rfl
theorem q2100 : (Jvm.Cond.instanceMethod ({ cls := "ArcRecorder$Motor", name := "first", desc := "()I" } : Jvm.MethodName)) ∈ lw_all := lw_g (lw_at lw_m9 38 rfl) rfl
theorem q2101 : (Jvm.Cond.code ({ cls := "ArcRecorder$Motor", name := "first", desc := "()I" } : Jvm.MethodName) prog_14_method_3_code (1 : Nat) (Option.some Jvm.ClassFile.FieldType.int)) ∈ lw_all := lw_g (lw_at lw_m9 39 rfl) rfl
theorem q2111 : (Jvm.Cond.selects "ArcRecorder$Motor" ({ cls := "ArcRecorder$Load", name := "out", desc := "()I" } : Jvm.MethodName) ({ cls := "ArcRecorder$Load", name := "out", desc := "()I" } : Jvm.MethodName)) ∈ lw_all := lw_g (lw_at lw_m9 49 rfl) rfl
theorem q2221 : (Jvm.Cond.selects "ArcRecorder$Motor" ({ cls := "ArcRecorder$Load", name := "at", desc := "([FIIF)F" } : Jvm.MethodName) ({ cls := "ArcRecorder$Motor", name := "at", desc := "([FIIF)F" } : Jvm.MethodName)) ∈ lw_all := lw_g (lw_at lw_m9 159 rfl) rfl
theorem q2222 : (Jvm.Cond.instanceMethod ({ cls := "ArcRecorder$Motor", name := "at", desc := "([FIIF)F" } : Jvm.MethodName)) ∈ lw_all := lw_g (lw_at lw_m9 160 rfl) rfl
theorem q2223 : (Jvm.Cond.code ({ cls := "ArcRecorder$Motor", name := "at", desc := "([FIIF)F" } : Jvm.MethodName) prog_14_method_4_code (5 : Nat) (Option.some Jvm.ClassFile.FieldType.float)) ∈ lw_all := lw_g (lw_at lw_m9 161 rfl) rfl
theorem q2224 : (Jvm.Cond.methodLink "ArcRecorder$Motor" (13 : Nat) ({ cls := "ArcRecorder$Load", name := "at", desc := "([FIIF)F" } : Jvm.MethodName)) ∈ lw_all := lw_g (lw_at lw_m9 162 rfl) rfl
theorem q3476 : (Jvm.Cond.castable "ArcRecorder$Motor" "ArcRecorder$Load") ∈ lw_tbl := lw_at lw_m14 214 rfl
theorem q3501 : (Jvm.Cond.castable "ArcRecorder$Motor" "java/lang/Object") ∈ lw_tbl := lw_at lw_m14 239 rfl
theorem in_X11 : ∀ w ∈ wsX110, w ∈ lw_all := lw_in wsX110 [1319, 1320, 1321, 1317] (by decide +kernel) (by decide +kernel)
/-! X12.ArcRecorder_Dimmer -/
def RX12 : String := "ArcRecorder$Dimmer"
def TX12 : u_T := fun k => match k with
  | 0 => ("ArcRecorder$Load", "name", "Ljava/lang/String;", true)
  | 1 => ("ArcRecorder$Load", "branch", "I", true)
  | 2 => ("ArcRecorder$Load", "amps", "I", true)
  | _ => ("ArcRecorder$Dimmer", "cut", "I", true)
def tyX12 : Nat → FieldType := fun k => match k with
  | 0 => .object "java/lang/String"
  | 1 => .int
  | 2 => .int
  | _ => .int
abbrev wsX120 : List Cond := u_ws RX12 TX12 4
theorem nmX12 : ∀ a, a < 4 → ∀ b, b < 4 → a ≠ b → (TX12 a).2.1 ≠ (TX12 b).2.1 := by decide +kernel
theorem tyX12_ok : ∀ k, k < 4 → parseFieldDescriptor (TX12 k).2.2.1 = some (tyX12 k) := by decide +kernel
abbrev cX12_init : ByteArray := prog_4_method_1_code
def yX12_init : MethodName := ⟨RX12, "<init>", "(Ljava/lang/String;III)V"⟩
abbrev cX12_kind : ByteArray := prog_4_method_2_code
def yX12_kind : MethodName := ⟨RX12, "kind", "()I"⟩
abbrev cX12_first : ByteArray := prog_4_method_3_code
def yX12_first : MethodName := ⟨RX12, "first", "()I"⟩
abbrev cX12_at : ByteArray := prog_4_method_4_code
def yX12_at : MethodName := ⟨RX12, "at", "([FIIF)F"⟩
theorem q180 : (Jvm.Cond.initialized "ArcRecorder$Dimmer") ∈ lw_all := lw_g (lw_at lw_m1 38 rfl) rfl
theorem q773 : (Jvm.Cond.selects "ArcRecorder$Dimmer" ({ cls := "java/lang/Object", name := "getClass", desc := "()Ljava/lang/Class;" } : Jvm.MethodName) ({ cls := "java/lang/Object", name := "getClass", desc := "()Ljava/lang/Class;" } : Jvm.MethodName)) ∈ lw_all := lw_g (lw_at lw_m3 151 rfl) rfl
theorem q1216 : (Jvm.Cond.selects "ArcRecorder$Dimmer" ({ cls := "java/lang/Object", name := "equals", desc := "(Ljava/lang/Object;)Z" } : Jvm.MethodName) ({ cls := "java/lang/Object", name := "equals", desc := "(Ljava/lang/Object;)Z" } : Jvm.MethodName)) ∈ lw_all := lw_g (lw_at lw_m5 114 rfl) rfl
theorem q1324 : (Jvm.Cond.instantiable "ArcRecorder$Dimmer" (4 : Nat)) ∈ lw_all := lw_g (lw_at lw_m5 222 rfl) rfl
theorem q1327 : (Jvm.Cond.instanceMethod ({ cls := "ArcRecorder$Dimmer", name := "<init>", desc := "(Ljava/lang/String;III)V" } : Jvm.MethodName)) ∈ lw_all := lw_g (lw_at lw_m5 225 rfl) rfl
theorem q1328 : (Jvm.Cond.code ({ cls := "ArcRecorder$Dimmer", name := "<init>", desc := "(Ljava/lang/String;III)V" } : Jvm.MethodName) prog_4_method_1_code (5 : Nat) (Option.none : Option Jvm.ClassFile.FieldType)) ∈ lw_all := lw_g (lw_at lw_m5 226 rfl) rfl
theorem q1329 : (Jvm.Cond.methodLink "ArcRecorder$Dimmer" (1 : Nat) ({ cls := "ArcRecorder$Load", name := "<init>", desc := "(Ljava/lang/String;II)V" } : Jvm.MethodName)) ∈ lw_all := lw_g (lw_at lw_m5 227 rfl) rfl
theorem q1330 : (Jvm.Cond.fieldLink "ArcRecorder$Dimmer" (7 : Nat) "ArcRecorder$Dimmer" "cut" "I") ∈ lw_all := lw_g (lw_at lw_m5 228 rfl) rfl
theorem q1331 : (Jvm.Cond.laysFinal "ArcRecorder$Dimmer" "ArcRecorder$Dimmer" "cut" "I") ∈ lw_all := lw_g (lw_at lw_m5 229 rfl) rfl
theorem q1332 : (Jvm.Cond.soleField "ArcRecorder$Dimmer" "cut") ∈ lw_all := lw_g (lw_at lw_m5 230 rfl) rfl
theorem q1333 : (Jvm.Cond.laysFinal "ArcRecorder$Dimmer" "ArcRecorder$Load" "name" "Ljava/lang/String;") ∈ lw_all := lw_g (lw_at lw_m5 231 rfl) rfl
theorem q1334 : (Jvm.Cond.laysFinal "ArcRecorder$Dimmer" "ArcRecorder$Load" "branch" "I") ∈ lw_all := lw_g (lw_at lw_m5 232 rfl) rfl
theorem q1335 : (Jvm.Cond.laysFinal "ArcRecorder$Dimmer" "ArcRecorder$Load" "amps" "I") ∈ lw_all := lw_g (lw_at lw_m5 233 rfl) rfl
theorem q1336 : (Jvm.Cond.superclass "ArcRecorder$Dimmer" "ArcRecorder$Load") ∈ lw_all := lw_g (lw_at lw_m5 234 rfl) rfl
theorem q2080 : (Jvm.Cond.selects "ArcRecorder$Dimmer" ({ cls := "ArcRecorder$Load", name := "kind", desc := "()I" } : Jvm.MethodName) ({ cls := "ArcRecorder$Dimmer", name := "kind", desc := "()I" } : Jvm.MethodName)) ∈ lw_all := lw_g (lw_at lw_m9 18 rfl) rfl
theorem q2081 : (Jvm.Cond.instanceMethod ({ cls := "ArcRecorder$Dimmer", name := "kind", desc := "()I" } : Jvm.MethodName)) ∈ lw_all := lw_g (lw_at lw_m9 19 rfl) rfl
theorem q2082 : (Jvm.Cond.code ({ cls := "ArcRecorder$Dimmer", name := "kind", desc := "()I" } : Jvm.MethodName) prog_4_method_2_code (1 : Nat) (Option.some Jvm.ClassFile.FieldType.int)) ∈ lw_all := lw_g (lw_at lw_m9 20 rfl) rfl
theorem q2095 : (Jvm.Cond.selects "ArcRecorder$Dimmer" ({ cls := "ArcRecorder$Load", name := "first", desc := "()I" } : Jvm.MethodName) ({ cls := "ArcRecorder$Dimmer", name := "first", desc := "()I" } : Jvm.MethodName)) ∈ lw_all := lw_g (lw_at lw_m9 33 rfl) rfl
theorem q2096 : (Jvm.Cond.instanceMethod ({ cls := "ArcRecorder$Dimmer", name := "first", desc := "()I" } : Jvm.MethodName)) ∈ lw_all := lw_g (lw_at lw_m9 34 rfl) rfl
theorem q2097 : (Jvm.Cond.code ({ cls := "ArcRecorder$Dimmer", name := "first", desc := "()I" } : Jvm.MethodName) prog_4_method_3_code (1 : Nat) (Option.some Jvm.ClassFile.FieldType.int)) ∈ lw_all := lw_g (lw_at lw_m9 35 rfl) rfl
theorem q2109 : (Jvm.Cond.selects "ArcRecorder$Dimmer" ({ cls := "ArcRecorder$Load", name := "out", desc := "()I" } : Jvm.MethodName) ({ cls := "ArcRecorder$Load", name := "out", desc := "()I" } : Jvm.MethodName)) ∈ lw_all := lw_g (lw_at lw_m9 47 rfl) rfl
theorem q2216 : (Jvm.Cond.selects "ArcRecorder$Dimmer" ({ cls := "ArcRecorder$Load", name := "at", desc := "([FIIF)F" } : Jvm.MethodName) ({ cls := "ArcRecorder$Dimmer", name := "at", desc := "([FIIF)F" } : Jvm.MethodName)) ∈ lw_all := lw_g (lw_at lw_m9 154 rfl) rfl
theorem q2217 : (Jvm.Cond.instanceMethod ({ cls := "ArcRecorder$Dimmer", name := "at", desc := "([FIIF)F" } : Jvm.MethodName)) ∈ lw_all := lw_g (lw_at lw_m9 155 rfl) rfl
theorem q2218 : (Jvm.Cond.code ({ cls := "ArcRecorder$Dimmer", name := "at", desc := "([FIIF)F" } : Jvm.MethodName) prog_4_method_4_code (5 : Nat) (Option.some Jvm.ClassFile.FieldType.float)) ∈ lw_all := lw_g (lw_at lw_m9 156 rfl) rfl
theorem q2219 : (Jvm.Cond.methodLink "ArcRecorder$Dimmer" (13 : Nat) ({ cls := "ArcRecorder$Load", name := "at", desc := "([FIIF)F" } : Jvm.MethodName)) ∈ lw_all := lw_g (lw_at lw_m9 157 rfl) rfl
theorem q3474 : (Jvm.Cond.castable "ArcRecorder$Dimmer" "ArcRecorder$Load") ∈ lw_tbl := lw_at lw_m14 212 rfl
theorem q3502 : (Jvm.Cond.castable "ArcRecorder$Dimmer" "java/lang/Object") ∈ lw_tbl := lw_at lw_m15 0 rfl
theorem in_X12 : ∀ w ∈ wsX120, w ∈ lw_all := lw_in wsX120 [1333, 1334, 1335, 1331] (by decide +kernel) (by decide +kernel)
/-! X13.ArcRecorder_Arc -/
def RX13 : String := "ArcRecorder$Arc"
def TX13 : u_T := fun k => match k with
  | 0 => ("ArcRecorder$Load", "name", "Ljava/lang/String;", true)
  | 1 => ("ArcRecorder$Load", "branch", "I", true)
  | 2 => ("ArcRecorder$Load", "amps", "I", true)
  | 3 => ("ArcRecorder$Arc", "gap", "I", true)
  | _ => ("ArcRecorder$Arc", "out", "I", true)
def tyX13 : Nat → FieldType := fun k => match k with
  | 0 => .object "java/lang/String"
  | 1 => .int
  | 2 => .int
  | 3 => .int
  | _ => .int
abbrev wsX130 : List Cond := u_ws RX13 TX13 5
theorem nmX13 : ∀ a, a < 5 → ∀ b, b < 5 → a ≠ b → (TX13 a).2.1 ≠ (TX13 b).2.1 := by decide +kernel
theorem tyX13_ok : ∀ k, k < 5 → parseFieldDescriptor (TX13 k).2.2.1 = some (tyX13 k) := by decide +kernel
abbrev cX13_init : ByteArray := prog_2_method_1_code
def yX13_init : MethodName := ⟨RX13, "<init>", "(Ljava/lang/String;IIII)V"⟩
abbrev cX13_kind : ByteArray := prog_2_method_2_code
def yX13_kind : MethodName := ⟨RX13, "kind", "()I"⟩
abbrev cX13_first : ByteArray := prog_2_method_3_code
def yX13_first : MethodName := ⟨RX13, "first", "()I"⟩
abbrev cX13_out : ByteArray := prog_2_method_4_code
def yX13_out : MethodName := ⟨RX13, "out", "()I"⟩
abbrev cX13_at : ByteArray := prog_2_method_5_code
def yX13_at : MethodName := ⟨RX13, "at", "([FIIF)F"⟩
theorem q181 : (Jvm.Cond.initialized "ArcRecorder$Arc") ∈ lw_all := lw_g (lw_at lw_m1 39 rfl) rfl
theorem q771 : (Jvm.Cond.selects "ArcRecorder$Arc" ({ cls := "java/lang/Object", name := "getClass", desc := "()Ljava/lang/Class;" } : Jvm.MethodName) ({ cls := "java/lang/Object", name := "getClass", desc := "()Ljava/lang/Class;" } : Jvm.MethodName)) ∈ lw_all := lw_g (lw_at lw_m3 149 rfl) rfl
theorem q1214 : (Jvm.Cond.selects "ArcRecorder$Arc" ({ cls := "java/lang/Object", name := "equals", desc := "(Ljava/lang/Object;)Z" } : Jvm.MethodName) ({ cls := "java/lang/Object", name := "equals", desc := "(Ljava/lang/Object;)Z" } : Jvm.MethodName)) ∈ lw_all := lw_g (lw_at lw_m5 112 rfl) rfl
theorem q1339 : (Jvm.Cond.instantiable "ArcRecorder$Arc" (5 : Nat)) ∈ lw_all := lw_g (lw_at lw_m5 237 rfl) rfl
theorem q1342 : (Jvm.Cond.instanceMethod ({ cls := "ArcRecorder$Arc", name := "<init>", desc := "(Ljava/lang/String;IIII)V" } : Jvm.MethodName)) ∈ lw_all := lw_g (lw_at lw_m6 0 rfl) rfl
theorem q1343 : (Jvm.Cond.code ({ cls := "ArcRecorder$Arc", name := "<init>", desc := "(Ljava/lang/String;IIII)V" } : Jvm.MethodName) prog_2_method_1_code (6 : Nat) (Option.none : Option Jvm.ClassFile.FieldType)) ∈ lw_all := lw_g (lw_at lw_m6 1 rfl) rfl
theorem q1344 : (Jvm.Cond.methodLink "ArcRecorder$Arc" (1 : Nat) ({ cls := "ArcRecorder$Load", name := "<init>", desc := "(Ljava/lang/String;II)V" } : Jvm.MethodName)) ∈ lw_all := lw_g (lw_at lw_m6 2 rfl) rfl
theorem q1345 : (Jvm.Cond.fieldLink "ArcRecorder$Arc" (7 : Nat) "ArcRecorder$Arc" "gap" "I") ∈ lw_all := lw_g (lw_at lw_m6 3 rfl) rfl
theorem q1347 : (Jvm.Cond.fieldLink "ArcRecorder$Arc" (13 : Nat) "ArcRecorder$Arc" "out" "I") ∈ lw_all := lw_g (lw_at lw_m6 5 rfl) rfl
theorem q1349 : (Jvm.Cond.laysFinal "ArcRecorder$Arc" "ArcRecorder$Arc" "gap" "I") ∈ lw_all := lw_g (lw_at lw_m6 7 rfl) rfl
theorem q1350 : (Jvm.Cond.soleField "ArcRecorder$Arc" "gap") ∈ lw_all := lw_g (lw_at lw_m6 8 rfl) rfl
theorem q1351 : (Jvm.Cond.laysFinal "ArcRecorder$Arc" "ArcRecorder$Arc" "out" "I") ∈ lw_all := lw_g (lw_at lw_m6 9 rfl) rfl
theorem q1352 : (Jvm.Cond.soleField "ArcRecorder$Arc" "out") ∈ lw_all := lw_g (lw_at lw_m6 10 rfl) rfl
theorem q1353 : (Jvm.Cond.laysFinal "ArcRecorder$Arc" "ArcRecorder$Load" "name" "Ljava/lang/String;") ∈ lw_all := lw_g (lw_at lw_m6 11 rfl) rfl
theorem q1354 : (Jvm.Cond.laysFinal "ArcRecorder$Arc" "ArcRecorder$Load" "branch" "I") ∈ lw_all := lw_g (lw_at lw_m6 12 rfl) rfl
theorem q1355 : (Jvm.Cond.laysFinal "ArcRecorder$Arc" "ArcRecorder$Load" "amps" "I") ∈ lw_all := lw_g (lw_at lw_m6 13 rfl) rfl
theorem q1356 : (Jvm.Cond.superclass "ArcRecorder$Arc" "ArcRecorder$Load") ∈ lw_all := lw_g (lw_at lw_m6 14 rfl) rfl
theorem q2077 : (Jvm.Cond.selects "ArcRecorder$Arc" ({ cls := "ArcRecorder$Load", name := "kind", desc := "()I" } : Jvm.MethodName) ({ cls := "ArcRecorder$Arc", name := "kind", desc := "()I" } : Jvm.MethodName)) ∈ lw_all := lw_g (lw_at lw_m9 15 rfl) rfl
theorem q2078 : (Jvm.Cond.instanceMethod ({ cls := "ArcRecorder$Arc", name := "kind", desc := "()I" } : Jvm.MethodName)) ∈ lw_all := lw_g (lw_at lw_m9 16 rfl) rfl
theorem q2079 : (Jvm.Cond.code ({ cls := "ArcRecorder$Arc", name := "kind", desc := "()I" } : Jvm.MethodName) prog_2_method_2_code (1 : Nat) (Option.some Jvm.ClassFile.FieldType.int)) ∈ lw_all := lw_g (lw_at lw_m9 17 rfl) rfl
theorem q2092 : (Jvm.Cond.selects "ArcRecorder$Arc" ({ cls := "ArcRecorder$Load", name := "first", desc := "()I" } : Jvm.MethodName) ({ cls := "ArcRecorder$Arc", name := "first", desc := "()I" } : Jvm.MethodName)) ∈ lw_all := lw_g (lw_at lw_m9 30 rfl) rfl
theorem q2093 : (Jvm.Cond.instanceMethod ({ cls := "ArcRecorder$Arc", name := "first", desc := "()I" } : Jvm.MethodName)) ∈ lw_all := lw_g (lw_at lw_m9 31 rfl) rfl
theorem q2094 : (Jvm.Cond.code ({ cls := "ArcRecorder$Arc", name := "first", desc := "()I" } : Jvm.MethodName) prog_2_method_3_code (1 : Nat) (Option.some Jvm.ClassFile.FieldType.int)) ∈ lw_all := lw_g (lw_at lw_m9 32 rfl) rfl
theorem q2106 : (Jvm.Cond.selects "ArcRecorder$Arc" ({ cls := "ArcRecorder$Load", name := "out", desc := "()I" } : Jvm.MethodName) ({ cls := "ArcRecorder$Arc", name := "out", desc := "()I" } : Jvm.MethodName)) ∈ lw_all := lw_g (lw_at lw_m9 44 rfl) rfl
theorem q2107 : (Jvm.Cond.instanceMethod ({ cls := "ArcRecorder$Arc", name := "out", desc := "()I" } : Jvm.MethodName)) ∈ lw_all := lw_g (lw_at lw_m9 45 rfl) rfl
theorem q2108 : (Jvm.Cond.code ({ cls := "ArcRecorder$Arc", name := "out", desc := "()I" } : Jvm.MethodName) prog_2_method_4_code (1 : Nat) (Option.some Jvm.ClassFile.FieldType.int)) ∈ lw_all := lw_g (lw_at lw_m9 46 rfl) rfl
theorem q2211 : (Jvm.Cond.selects "ArcRecorder$Arc" ({ cls := "ArcRecorder$Load", name := "at", desc := "([FIIF)F" } : Jvm.MethodName) ({ cls := "ArcRecorder$Arc", name := "at", desc := "([FIIF)F" } : Jvm.MethodName)) ∈ lw_all := lw_g (lw_at lw_m9 149 rfl) rfl
theorem q2212 : (Jvm.Cond.instanceMethod ({ cls := "ArcRecorder$Arc", name := "at", desc := "([FIIF)F" } : Jvm.MethodName)) ∈ lw_all := lw_g (lw_at lw_m9 150 rfl) rfl
theorem q2213 : (Jvm.Cond.code ({ cls := "ArcRecorder$Arc", name := "at", desc := "([FIIF)F" } : Jvm.MethodName) prog_2_method_5_code (5 : Nat) (Option.some Jvm.ClassFile.FieldType.float)) ∈ lw_all := lw_g (lw_at lw_m9 151 rfl) rfl
theorem q2214 : (Jvm.Cond.methodLink "ArcRecorder$Arc" (16 : Nat) ({ cls := "ArcRecorder$Load", name := "at", desc := "([FIIF)F" } : Jvm.MethodName)) ∈ lw_all := lw_g (lw_at lw_m9 152 rfl) rfl
theorem q3473 : (Jvm.Cond.castable "ArcRecorder$Arc" "ArcRecorder$Load") ∈ lw_tbl := lw_at lw_m14 211 rfl
theorem q3503 : (Jvm.Cond.castable "ArcRecorder$Arc" "java/lang/Object") ∈ lw_tbl := lw_at lw_m15 1 rfl
theorem in_X13 : ∀ w ∈ wsX130, w ∈ lw_all := lw_in wsX130 [1353, 1354, 1355, 1349, 1351] (by decide +kernel) (by decide +kernel)
/-! X14.ArcRecorder_Pattern -/
def RX14 : String := "ArcRecorder$Pattern"
def TX14 : u_T := fun k => match k with
  | 0 => ("ArcRecorder$Pattern", "name", "Ljava/lang/String;", true)
  | 1 => ("ArcRecorder$Pattern", "isAlways", "Z", true)
  | _ => ("ArcRecorder$Pattern", "tests", "Ljava/util/ArrayList;", true)
def tyX14 : Nat → FieldType := fun k => match k with
  | 0 => .object "java/lang/String"
  | 1 => .boolean
  | _ => .object "java/util/ArrayList"
abbrev wsX140 : List Cond := u_ws RX14 TX14 3
theorem nmX14 : ∀ a, a < 3 → ∀ b, b < 3 → a ≠ b → (TX14 a).2.1 ≠ (TX14 b).2.1 := by decide +kernel
theorem tyX14_ok : ∀ k, k < 3 → parseFieldDescriptor (TX14 k).2.2.1 = some (tyX14 k) := by decide +kernel
abbrev cX14_init : ByteArray := prog_18_method_1_code
def yX14_init : MethodName := ⟨RX14, "<init>", "(Ljava/lang/String;Z)V"⟩
abbrev cX14_matches : ByteArray := prog_18_method_2_code
def yX14_matches : MethodName := ⟨RX14, "matches", "([F)Z"⟩
theorem q182 : (Jvm.Cond.initialized "ArcRecorder$Pattern") ∈ lw_all := lw_g (lw_at lw_m1 40 rfl) rfl
theorem q785 : (Jvm.Cond.selects "ArcRecorder$Pattern" ({ cls := "java/lang/Object", name := "getClass", desc := "()Ljava/lang/Class;" } : Jvm.MethodName) ({ cls := "java/lang/Object", name := "getClass", desc := "()Ljava/lang/Class;" } : Jvm.MethodName)) ∈ lw_all := lw_g (lw_at lw_m3 163 rfl) rfl
theorem q1230 : (Jvm.Cond.selects "ArcRecorder$Pattern" ({ cls := "java/lang/Object", name := "equals", desc := "(Ljava/lang/Object;)Z" } : Jvm.MethodName) ({ cls := "java/lang/Object", name := "equals", desc := "(Ljava/lang/Object;)Z" } : Jvm.MethodName)) ∈ lw_all := lw_g (lw_at lw_m5 128 rfl) rfl
theorem q1367 : (Jvm.Cond.instantiable "ArcRecorder$Pattern" (3 : Nat)) ∈ lw_all := lw_g (lw_at lw_m6 25 rfl) rfl
theorem q1374 : (Jvm.Cond.instanceMethod ({ cls := "ArcRecorder$Pattern", name := "<init>", desc := "(Ljava/lang/String;Z)V" } : Jvm.MethodName)) ∈ lw_all := lw_g (lw_at lw_m6 32 rfl) rfl
theorem q1375 : (Jvm.Cond.code ({ cls := "ArcRecorder$Pattern", name := "<init>", desc := "(Ljava/lang/String;Z)V" } : Jvm.MethodName) prog_18_method_1_code (3 : Nat) (Option.none : Option Jvm.ClassFile.FieldType)) ∈ lw_all := lw_g (lw_at lw_m6 33 rfl) rfl
theorem q1376 : (Jvm.Cond.methodLink "ArcRecorder$Pattern" (1 : Nat) ({ cls := "java/lang/Object", name := "<init>", desc := "()V" } : Jvm.MethodName)) ∈ lw_all := lw_g (lw_at lw_m6 34 rfl) rfl
theorem q1377 : (Jvm.Cond.classLink "ArcRecorder$Pattern" (7 : Nat) "java/util/ArrayList") ∈ lw_all := lw_g (lw_at lw_m6 35 rfl) rfl
theorem q1378 : (Jvm.Cond.methodLink "ArcRecorder$Pattern" (9 : Nat) ({ cls := "java/util/ArrayList", name := "<init>", desc := "(I)V" } : Jvm.MethodName)) ∈ lw_all := lw_g (lw_at lw_m6 36 rfl) rfl
theorem q1379 : (Jvm.Cond.fieldLink "ArcRecorder$Pattern" (18 : Nat) "ArcRecorder$Pattern" "name" "Ljava/lang/String;") ∈ lw_all := lw_g (lw_at lw_m6 37 rfl) rfl
theorem q1383 : (Jvm.Cond.fieldLink "ArcRecorder$Pattern" (22 : Nat) "ArcRecorder$Pattern" "isAlways" "Z") ∈ lw_all := lw_g (lw_at lw_m6 41 rfl) rfl
theorem q1386 : (Jvm.Cond.fieldLink "ArcRecorder$Pattern" (12 : Nat) "ArcRecorder$Pattern" "tests" "Ljava/util/ArrayList;") ∈ lw_all := lw_g (lw_at lw_m6 44 rfl) rfl
theorem q1389 : (Jvm.Cond.laysFinal "ArcRecorder$Pattern" "ArcRecorder$Pattern" "name" "Ljava/lang/String;") ∈ lw_all := lw_g (lw_at lw_m6 47 rfl) rfl
theorem q1390 : (Jvm.Cond.soleField "ArcRecorder$Pattern" "name") ∈ lw_all := lw_g (lw_at lw_m6 48 rfl) rfl
theorem q1391 : (Jvm.Cond.laysFinal "ArcRecorder$Pattern" "ArcRecorder$Pattern" "isAlways" "Z") ∈ lw_all := lw_g (lw_at lw_m6 49 rfl) rfl
theorem q1392 : (Jvm.Cond.soleField "ArcRecorder$Pattern" "isAlways") ∈ lw_all := lw_g (lw_at lw_m6 50 rfl) rfl
theorem q1393 : (Jvm.Cond.laysFinal "ArcRecorder$Pattern" "ArcRecorder$Pattern" "tests" "Ljava/util/ArrayList;") ∈ lw_all := lw_g (lw_at lw_m6 51 rfl) rfl
theorem q1394 : (Jvm.Cond.soleField "ArcRecorder$Pattern" "tests") ∈ lw_all := lw_g (lw_at lw_m6 52 rfl) rfl
theorem q1395 : (Jvm.Cond.superclass "ArcRecorder$Pattern" "java/lang/Object") ∈ lw_all := lw_g (lw_at lw_m6 53 rfl) rfl
theorem q2282 : (Jvm.Cond.instanceMethod ({ cls := "ArcRecorder$Pattern", name := "matches", desc := "([F)Z" } : Jvm.MethodName)) ∈ lw_all := lw_g (lw_at lw_m9 220 rfl) rfl
theorem q2283 : (Jvm.Cond.selects "ArcRecorder$Pattern" ({ cls := "ArcRecorder$Pattern", name := "matches", desc := "([F)Z" } : Jvm.MethodName) ({ cls := "ArcRecorder$Pattern", name := "matches", desc := "([F)Z" } : Jvm.MethodName)) ∈ lw_all := lw_g (lw_at lw_m9 221 rfl) rfl
theorem q2284 : (Jvm.Cond.code ({ cls := "ArcRecorder$Pattern", name := "matches", desc := "([F)Z" } : Jvm.MethodName) prog_18_method_2_code (3 : Nat) (Option.some Jvm.ClassFile.FieldType.boolean)) ∈ lw_all := lw_g (lw_at lw_m9 222 rfl) rfl
theorem q2285 : (Jvm.Cond.methodLink "ArcRecorder$Pattern" (26 : Nat) ({ cls := "java/util/ArrayList", name := "size", desc := "()I" } : Jvm.MethodName)) ∈ lw_all := lw_g (lw_at lw_m9 223 rfl) rfl
theorem q2286 : (Jvm.Cond.methodLink "ArcRecorder$Pattern" (30 : Nat) ({ cls := "java/util/ArrayList", name := "get", desc := "(I)Ljava/lang/Object;" } : Jvm.MethodName)) ∈ lw_all := lw_g (lw_at lw_m9 224 rfl) rfl
theorem q2287 : (Jvm.Cond.classLink "ArcRecorder$Pattern" (34 : Nat) "ArcRecorder$Test") ∈ lw_all := lw_g (lw_at lw_m9 225 rfl) rfl
theorem q2288 : (Jvm.Cond.methodLink "ArcRecorder$Pattern" (36 : Nat) ({ cls := "ArcRecorder$Test", name := "holds", desc := "([F)Z" } : Jvm.MethodName)) ∈ lw_all := lw_g (lw_at lw_m9 226 rfl) rfl
theorem q3504 : (Jvm.Cond.castable "ArcRecorder$Pattern" "java/lang/Object") ∈ lw_tbl := lw_at lw_m15 2 rfl
theorem in_X14 : ∀ w ∈ wsX140, w ∈ lw_all := lw_in wsX140 [1389, 1391, 1393] (by decide +kernel) (by decide +kernel)
/-! X15.ArcRecorder_Test -/
def RX15 : String := "ArcRecorder$Test"
def TX15 : u_T := fun k => match k with
  | 0 => ("ArcRecorder$Test", "feature", "I", true)
  | 1 => ("ArcRecorder$Test", "number", "I", true)
  | _ => ("ArcRecorder$Test", "isLess", "Z", true)
def tyX15 : Nat → FieldType := fun k => match k with
  | 0 => .int
  | 1 => .int
  | _ => .boolean
abbrev wsX150 : List Cond := u_ws RX15 TX15 3
theorem nmX15 : ∀ a, a < 3 → ∀ b, b < 3 → a ≠ b → (TX15 a).2.1 ≠ (TX15 b).2.1 := by decide +kernel
theorem tyX15_ok : ∀ k, k < 3 → parseFieldDescriptor (TX15 k).2.2.1 = some (tyX15 k) := by decide +kernel
abbrev cX15_init : ByteArray := prog_22_method_1_code
def yX15_init : MethodName := ⟨RX15, "<init>", "(IZI)V"⟩
abbrev cX15_holds : ByteArray := prog_22_method_2_code
def yX15_holds : MethodName := ⟨RX15, "holds", "([F)Z"⟩
theorem q183 : (Jvm.Cond.initialized "ArcRecorder$Test") ∈ lw_all := lw_g (lw_at lw_m1 41 rfl) rfl
theorem q789 : (Jvm.Cond.selects "ArcRecorder$Test" ({ cls := "java/lang/Object", name := "getClass", desc := "()Ljava/lang/Class;" } : Jvm.MethodName) ({ cls := "java/lang/Object", name := "getClass", desc := "()Ljava/lang/Class;" } : Jvm.MethodName)) ∈ lw_all := lw_g (lw_at lw_m3 167 rfl) rfl
theorem q1234 : (Jvm.Cond.selects "ArcRecorder$Test" ({ cls := "java/lang/Object", name := "equals", desc := "(Ljava/lang/Object;)Z" } : Jvm.MethodName) ({ cls := "java/lang/Object", name := "equals", desc := "(Ljava/lang/Object;)Z" } : Jvm.MethodName)) ∈ lw_all := lw_g (lw_at lw_m5 132 rfl) rfl
theorem q1406 : (Jvm.Cond.instantiable "ArcRecorder$Test" (3 : Nat)) ∈ lw_all := lw_g (lw_at lw_m6 64 rfl) rfl
theorem q1408 : (Jvm.Cond.instanceMethod ({ cls := "ArcRecorder$Test", name := "<init>", desc := "(IZI)V" } : Jvm.MethodName)) ∈ lw_all := lw_g (lw_at lw_m6 66 rfl) rfl
theorem q1409 : (Jvm.Cond.code ({ cls := "ArcRecorder$Test", name := "<init>", desc := "(IZI)V" } : Jvm.MethodName) prog_22_method_1_code (4 : Nat) (Option.none : Option Jvm.ClassFile.FieldType)) ∈ lw_all := lw_g (lw_at lw_m6 67 rfl) rfl
theorem q1410 : (Jvm.Cond.methodLink "ArcRecorder$Test" (1 : Nat) ({ cls := "java/lang/Object", name := "<init>", desc := "()V" } : Jvm.MethodName)) ∈ lw_all := lw_g (lw_at lw_m6 68 rfl) rfl
theorem q1411 : (Jvm.Cond.fieldLink "ArcRecorder$Test" (7 : Nat) "ArcRecorder$Test" "feature" "I") ∈ lw_all := lw_g (lw_at lw_m6 69 rfl) rfl
theorem q1412 : (Jvm.Cond.fieldLink "ArcRecorder$Test" (17 : Nat) "ArcRecorder$Test" "number" "I") ∈ lw_all := lw_g (lw_at lw_m6 70 rfl) rfl
theorem q1413 : (Jvm.Cond.fieldLink "ArcRecorder$Test" (13 : Nat) "ArcRecorder$Test" "isLess" "Z") ∈ lw_all := lw_g (lw_at lw_m6 71 rfl) rfl
theorem q1414 : (Jvm.Cond.laysFinal "ArcRecorder$Test" "ArcRecorder$Test" "feature" "I") ∈ lw_all := lw_g (lw_at lw_m6 72 rfl) rfl
theorem q1415 : (Jvm.Cond.soleField "ArcRecorder$Test" "feature") ∈ lw_all := lw_g (lw_at lw_m6 73 rfl) rfl
theorem q1416 : (Jvm.Cond.laysFinal "ArcRecorder$Test" "ArcRecorder$Test" "number" "I") ∈ lw_all := lw_g (lw_at lw_m6 74 rfl) rfl
theorem q1417 : (Jvm.Cond.soleField "ArcRecorder$Test" "number") ∈ lw_all := lw_g (lw_at lw_m6 75 rfl) rfl
theorem q1418 : (Jvm.Cond.laysFinal "ArcRecorder$Test" "ArcRecorder$Test" "isLess" "Z") ∈ lw_all := lw_g (lw_at lw_m6 76 rfl) rfl
theorem q1419 : (Jvm.Cond.soleField "ArcRecorder$Test" "isLess") ∈ lw_all := lw_g (lw_at lw_m6 77 rfl) rfl
theorem q1420 : (Jvm.Cond.superclass "ArcRecorder$Test" "java/lang/Object") ∈ lw_all := lw_g (lw_at lw_m6 78 rfl) rfl
theorem q2289 : (Jvm.Cond.instanceMethod ({ cls := "ArcRecorder$Test", name := "holds", desc := "([F)Z" } : Jvm.MethodName)) ∈ lw_all := lw_g (lw_at lw_m9 227 rfl) rfl
theorem q2290 : (Jvm.Cond.selects "ArcRecorder$Test" ({ cls := "ArcRecorder$Test", name := "holds", desc := "([F)Z" } : Jvm.MethodName) ({ cls := "ArcRecorder$Test", name := "holds", desc := "([F)Z" } : Jvm.MethodName)) ∈ lw_all := lw_g (lw_at lw_m9 228 rfl) rfl
theorem q2291 : (Jvm.Cond.code ({ cls := "ArcRecorder$Test", name := "holds", desc := "([F)Z" } : Jvm.MethodName) prog_22_method_2_code (2 : Nat) (Option.some Jvm.ClassFile.FieldType.boolean)) ∈ lw_all := lw_g (lw_at lw_m9 229 rfl) rfl
theorem q3505 : (Jvm.Cond.castable "ArcRecorder$Test" "java/lang/Object") ∈ lw_tbl := lw_at lw_m15 3 rfl
theorem in_X15 : ∀ w ∈ wsX150, w ∈ lw_all := lw_in wsX150 [1414, 1416, 1418] (by decide +kernel) (by decide +kernel)
/-! X16.ArcRecorder_Nuisance -/
def RX16 : String := "ArcRecorder$Nuisance"
def TX16 : u_T := fun k => match k with
  | 0 => ("ArcRecorder$Nuisance", "pattern", "LArcRecorder$Pattern;", true)
  | _ => ("ArcRecorder$Nuisance", "hits", "I", false)
def tyX16 : Nat → FieldType := fun k => match k with
  | 0 => .object "ArcRecorder$Pattern"
  | _ => .int
abbrev wsX160 : List Cond := u_ws RX16 TX16 2
theorem nmX16 : ∀ a, a < 2 → ∀ b, b < 2 → a ≠ b → (TX16 a).2.1 ≠ (TX16 b).2.1 := by decide +kernel
theorem tyX16_ok : ∀ k, k < 2 → parseFieldDescriptor (TX16 k).2.2.1 = some (tyX16 k) := by decide +kernel
abbrev cX16_init : ByteArray := prog_15_method_1_code
def yX16_init : MethodName := ⟨RX16, "<init>", "(LArcRecorder$Pattern;I)V"⟩
theorem q184 : (Jvm.Cond.initialized "ArcRecorder$Nuisance") ∈ lw_all := lw_g (lw_at lw_m1 42 rfl) rfl
theorem q782 : (Jvm.Cond.selects "ArcRecorder$Nuisance" ({ cls := "java/lang/Object", name := "getClass", desc := "()Ljava/lang/Class;" } : Jvm.MethodName) ({ cls := "java/lang/Object", name := "getClass", desc := "()Ljava/lang/Class;" } : Jvm.MethodName)) ∈ lw_all := lw_g (lw_at lw_m3 160 rfl) rfl
theorem q1227 : (Jvm.Cond.selects "ArcRecorder$Nuisance" ({ cls := "java/lang/Object", name := "equals", desc := "(Ljava/lang/Object;)Z" } : Jvm.MethodName) ({ cls := "java/lang/Object", name := "equals", desc := "(Ljava/lang/Object;)Z" } : Jvm.MethodName)) ∈ lw_all := lw_g (lw_at lw_m5 125 rfl) rfl
theorem q1426 : (Jvm.Cond.instantiable "ArcRecorder$Nuisance" (2 : Nat)) ∈ lw_all := lw_g (lw_at lw_m6 84 rfl) rfl
theorem q1428 : (Jvm.Cond.instanceMethod ({ cls := "ArcRecorder$Nuisance", name := "<init>", desc := "(LArcRecorder$Pattern;I)V" } : Jvm.MethodName)) ∈ lw_all := lw_g (lw_at lw_m6 86 rfl) rfl
theorem q1429 : (Jvm.Cond.code ({ cls := "ArcRecorder$Nuisance", name := "<init>", desc := "(LArcRecorder$Pattern;I)V" } : Jvm.MethodName) prog_15_method_1_code (3 : Nat) (Option.none : Option Jvm.ClassFile.FieldType)) ∈ lw_all := lw_g (lw_at lw_m6 87 rfl) rfl
theorem q1430 : (Jvm.Cond.methodLink "ArcRecorder$Nuisance" (1 : Nat) ({ cls := "java/lang/Object", name := "<init>", desc := "()V" } : Jvm.MethodName)) ∈ lw_all := lw_g (lw_at lw_m6 88 rfl) rfl
theorem q1431 : (Jvm.Cond.fieldLink "ArcRecorder$Nuisance" (7 : Nat) "ArcRecorder$Nuisance" "pattern" "LArcRecorder$Pattern;") ∈ lw_all := lw_g (lw_at lw_m6 89 rfl) rfl
theorem q1434 : (Jvm.Cond.fieldLink "ArcRecorder$Nuisance" (13 : Nat) "ArcRecorder$Nuisance" "hits" "I") ∈ lw_all := lw_g (lw_at lw_m6 92 rfl) rfl
theorem q1437 : (Jvm.Cond.laysFinal "ArcRecorder$Nuisance" "ArcRecorder$Nuisance" "pattern" "LArcRecorder$Pattern;") ∈ lw_all := lw_g (lw_at lw_m6 95 rfl) rfl
theorem q1438 : (Jvm.Cond.soleField "ArcRecorder$Nuisance" "pattern") ∈ lw_all := lw_g (lw_at lw_m6 96 rfl) rfl
theorem q1439 : (Jvm.Cond.lays "ArcRecorder$Nuisance" "ArcRecorder$Nuisance" "hits" "I") ∈ lw_all := lw_g (lw_at lw_m6 97 rfl) rfl
theorem q1440 : (Jvm.Cond.soleField "ArcRecorder$Nuisance" "hits") ∈ lw_all := lw_g (lw_at lw_m6 98 rfl) rfl
theorem q1441 : (Jvm.Cond.superclass "ArcRecorder$Nuisance" "java/lang/Object") ∈ lw_all := lw_g (lw_at lw_m6 99 rfl) rfl
theorem q3506 : (Jvm.Cond.castable "ArcRecorder$Nuisance" "java/lang/Object") ∈ lw_tbl := lw_at lw_m15 4 rfl
theorem in_X16 : ∀ w ∈ wsX160, w ∈ lw_all := lw_in wsX160 [1437, 1439] (by decide +kernel) (by decide +kernel)
/-! X17.ArcRecorder_Switch -/
def RX17 : String := "ArcRecorder$Switch"
def TX17 : u_T := fun k => match k with
  | 0 => ("ArcRecorder$Switch", "time", "I", true)
  | 1 => ("ArcRecorder$Switch", "load", "I", true)
  | _ => ("ArcRecorder$Switch", "on", "Z", true)
def tyX17 : Nat → FieldType := fun k => match k with
  | 0 => .int
  | 1 => .int
  | _ => .boolean
abbrev wsX170 : List Cond := u_ws RX17 TX17 3
theorem nmX17 : ∀ a, a < 3 → ∀ b, b < 3 → a ≠ b → (TX17 a).2.1 ≠ (TX17 b).2.1 := by decide +kernel
theorem tyX17_ok : ∀ k, k < 3 → parseFieldDescriptor (TX17 k).2.2.1 = some (tyX17 k) := by decide +kernel
abbrev cX17_init : ByteArray := prog_21_method_1_code
def yX17_init : MethodName := ⟨RX17, "<init>", "(IIZ)V"⟩
theorem q185 : (Jvm.Cond.initialized "ArcRecorder$Switch") ∈ lw_all := lw_g (lw_at lw_m1 43 rfl) rfl
theorem q788 : (Jvm.Cond.selects "ArcRecorder$Switch" ({ cls := "java/lang/Object", name := "getClass", desc := "()Ljava/lang/Class;" } : Jvm.MethodName) ({ cls := "java/lang/Object", name := "getClass", desc := "()Ljava/lang/Class;" } : Jvm.MethodName)) ∈ lw_all := lw_g (lw_at lw_m3 166 rfl) rfl
theorem q1233 : (Jvm.Cond.selects "ArcRecorder$Switch" ({ cls := "java/lang/Object", name := "equals", desc := "(Ljava/lang/Object;)Z" } : Jvm.MethodName) ({ cls := "java/lang/Object", name := "equals", desc := "(Ljava/lang/Object;)Z" } : Jvm.MethodName)) ∈ lw_all := lw_g (lw_at lw_m5 131 rfl) rfl
theorem q1449 : (Jvm.Cond.instantiable "ArcRecorder$Switch" (3 : Nat)) ∈ lw_all := lw_g (lw_at lw_m6 107 rfl) rfl
theorem q1451 : (Jvm.Cond.instanceMethod ({ cls := "ArcRecorder$Switch", name := "<init>", desc := "(IIZ)V" } : Jvm.MethodName)) ∈ lw_all := lw_g (lw_at lw_m6 109 rfl) rfl
theorem q1452 : (Jvm.Cond.code ({ cls := "ArcRecorder$Switch", name := "<init>", desc := "(IIZ)V" } : Jvm.MethodName) prog_21_method_1_code (4 : Nat) (Option.none : Option Jvm.ClassFile.FieldType)) ∈ lw_all := lw_g (lw_at lw_m6 110 rfl) rfl
theorem q1453 : (Jvm.Cond.methodLink "ArcRecorder$Switch" (1 : Nat) ({ cls := "java/lang/Object", name := "<init>", desc := "()V" } : Jvm.MethodName)) ∈ lw_all := lw_g (lw_at lw_m6 111 rfl) rfl
theorem q1454 : (Jvm.Cond.fieldLink "ArcRecorder$Switch" (7 : Nat) "ArcRecorder$Switch" "time" "I") ∈ lw_all := lw_g (lw_at lw_m6 112 rfl) rfl
theorem q1457 : (Jvm.Cond.fieldLink "ArcRecorder$Switch" (13 : Nat) "ArcRecorder$Switch" "load" "I") ∈ lw_all := lw_g (lw_at lw_m6 115 rfl) rfl
theorem q1460 : (Jvm.Cond.fieldLink "ArcRecorder$Switch" (16 : Nat) "ArcRecorder$Switch" "on" "Z") ∈ lw_all := lw_g (lw_at lw_m6 118 rfl) rfl
theorem q1462 : (Jvm.Cond.laysFinal "ArcRecorder$Switch" "ArcRecorder$Switch" "time" "I") ∈ lw_all := lw_g (lw_at lw_m6 120 rfl) rfl
theorem q1463 : (Jvm.Cond.soleField "ArcRecorder$Switch" "time") ∈ lw_all := lw_g (lw_at lw_m6 121 rfl) rfl
theorem q1464 : (Jvm.Cond.laysFinal "ArcRecorder$Switch" "ArcRecorder$Switch" "load" "I") ∈ lw_all := lw_g (lw_at lw_m6 122 rfl) rfl
theorem q1465 : (Jvm.Cond.soleField "ArcRecorder$Switch" "load") ∈ lw_all := lw_g (lw_at lw_m6 123 rfl) rfl
theorem q1466 : (Jvm.Cond.laysFinal "ArcRecorder$Switch" "ArcRecorder$Switch" "on" "Z") ∈ lw_all := lw_g (lw_at lw_m6 124 rfl) rfl
theorem q1467 : (Jvm.Cond.soleField "ArcRecorder$Switch" "on") ∈ lw_all := lw_g (lw_at lw_m6 125 rfl) rfl
theorem q1468 : (Jvm.Cond.superclass "ArcRecorder$Switch" "java/lang/Object") ∈ lw_all := lw_g (lw_at lw_m6 126 rfl) rfl
theorem q3507 : (Jvm.Cond.castable "ArcRecorder$Switch" "java/lang/Object") ∈ lw_tbl := lw_at lw_m15 5 rfl
theorem in_X17 : ∀ w ∈ wsX170, w ∈ lw_all := lw_in wsX170 [1462, 1464, 1466] (by decide +kernel) (by decide +kernel)
/-! X18.ArcRecorder_Feature_3 -/
def RX18 : String := "ArcRecorder$Feature$3"
abbrev cX18_of : ByteArray := prog_8_method_2_code
def yX18_of : MethodName := ⟨RX18, "of", "([F[FF)F"⟩
theorem q196 : (Jvm.Cond.initialized "ArcRecorder$Feature$3") ∈ lw_all := lw_g (lw_at lw_m1 54 rfl) rfl
theorem q776 : (Jvm.Cond.selects "ArcRecorder$Feature$3" ({ cls := "java/lang/Object", name := "getClass", desc := "()Ljava/lang/Class;" } : Jvm.MethodName) ({ cls := "java/lang/Object", name := "getClass", desc := "()Ljava/lang/Class;" } : Jvm.MethodName)) ∈ lw_all := lw_g (lw_at lw_m3 154 rfl) rfl
theorem q1221 : (Jvm.Cond.selects "ArcRecorder$Feature$3" ({ cls := "java/lang/Object", name := "equals", desc := "(Ljava/lang/Object;)Z" } : Jvm.MethodName) ({ cls := "java/lang/Enum", name := "equals", desc := "(Ljava/lang/Object;)Z" } : Jvm.MethodName)) ∈ lw_all := lw_g (lw_at lw_m5 119 rfl) rfl
theorem q2242 : (Jvm.Cond.selects "ArcRecorder$Feature$3" ({ cls := "ArcRecorder$Feature", name := "of", desc := "([F[FF)F" } : Jvm.MethodName) ({ cls := "ArcRecorder$Feature$3", name := "of", desc := "([F[FF)F" } : Jvm.MethodName)) ∈ lw_all := lw_g (lw_at lw_m9 180 rfl) rfl
theorem q2243 : (Jvm.Cond.instanceMethod ({ cls := "ArcRecorder$Feature$3", name := "of", desc := "([F[FF)F" } : Jvm.MethodName)) ∈ lw_all := lw_g (lw_at lw_m9 181 rfl) rfl
theorem q2244 : (Jvm.Cond.code ({ cls := "ArcRecorder$Feature$3", name := "of", desc := "([F[FF)F" } : Jvm.MethodName) prog_8_method_2_code (7 : Nat) (Option.some Jvm.ClassFile.FieldType.float)) ∈ lw_all := lw_g (lw_at lw_m9 182 rfl) rfl
theorem q2245 : (Jvm.Cond.fieldLink "ArcRecorder$Feature$3" (7 : Nat) "ArcRecorder$Feature$3" "PEAK" "LArcRecorder$Feature;") ∈ lw_all := lw_g (lw_at lw_m9 183 rfl) rfl
theorem q2246 : (Jvm.Cond.sameField "ArcRecorder$Feature$3" "ArcRecorder$Feature" "PEAK" "LArcRecorder$Feature;") ∈ lw_all := lw_g (lw_at lw_m9 184 rfl) rfl
theorem q2248 : (Jvm.Cond.methodLink "ArcRecorder$Feature$3" (13 : Nat) ({ cls := "ArcRecorder$Feature", name := "ordinal", desc := "()I" } : Jvm.MethodName)) ∈ lw_all := lw_g (lw_at lw_m9 186 rfl) rfl
theorem q2253 : (Jvm.Cond.selects "ArcRecorder$Feature$3" ({ cls := "ArcRecorder$Feature", name := "ordinal", desc := "()I" } : Jvm.MethodName) ({ cls := "java/lang/Enum", name := "ordinal", desc := "()I" } : Jvm.MethodName)) ∈ lw_all := lw_g (lw_at lw_m9 191 rfl) rfl
theorem q2259 : (Jvm.Cond.constantFloat "ArcRecorder$Feature$3" (17 : Nat) (1028443341 : UInt32)) ∈ lw_all := lw_g (lw_at lw_m9 197 rfl) rfl
theorem q2260 : (Jvm.Cond.methodLinkNest "ArcRecorder$Feature$3" (18 : Nat) ({ cls := "ArcRecorder", name := "magnitude", desc := "(F)F" } : Jvm.MethodName) "ArcRecorder") ∈ lw_tbl := lw_at lw_m9 198 rfl
theorem q3489 : (Jvm.Cond.castable "ArcRecorder$Feature$3" "java/lang/Object") ∈ lw_tbl := lw_at lw_m14 227 rfl
theorem q3521 : (Jvm.Cond.castable "ArcRecorder$Feature$3" "ArcRecorder$Feature") ∈ lw_tbl := lw_at lw_m15 19 rfl
/-! X19.ArcRecorder_Feature_5 -/
def RX19 : String := "ArcRecorder$Feature$5"
abbrev cX19_of : ByteArray := prog_10_method_2_code
def yX19_of : MethodName := ⟨RX19, "of", "([F[FF)F"⟩
theorem q197 : (Jvm.Cond.initialized "ArcRecorder$Feature$5") ∈ lw_all := lw_g (lw_at lw_m1 55 rfl) rfl
theorem q778 : (Jvm.Cond.selects "ArcRecorder$Feature$5" ({ cls := "java/lang/Object", name := "getClass", desc := "()Ljava/lang/Class;" } : Jvm.MethodName) ({ cls := "java/lang/Object", name := "getClass", desc := "()Ljava/lang/Class;" } : Jvm.MethodName)) ∈ lw_all := lw_g (lw_at lw_m3 156 rfl) rfl
theorem q1223 : (Jvm.Cond.selects "ArcRecorder$Feature$5" ({ cls := "java/lang/Object", name := "equals", desc := "(Ljava/lang/Object;)Z" } : Jvm.MethodName) ({ cls := "java/lang/Enum", name := "equals", desc := "(Ljava/lang/Object;)Z" } : Jvm.MethodName)) ∈ lw_all := lw_g (lw_at lw_m5 121 rfl) rfl
theorem q2255 : (Jvm.Cond.selects "ArcRecorder$Feature$5" ({ cls := "ArcRecorder$Feature", name := "ordinal", desc := "()I" } : Jvm.MethodName) ({ cls := "java/lang/Enum", name := "ordinal", desc := "()I" } : Jvm.MethodName)) ∈ lw_all := lw_g (lw_at lw_m9 193 rfl) rfl
theorem q2265 : (Jvm.Cond.selects "ArcRecorder$Feature$5" ({ cls := "ArcRecorder$Feature", name := "of", desc := "([F[FF)F" } : Jvm.MethodName) ({ cls := "ArcRecorder$Feature$5", name := "of", desc := "([F[FF)F" } : Jvm.MethodName)) ∈ lw_all := lw_g (lw_at lw_m9 203 rfl) rfl
theorem q2266 : (Jvm.Cond.instanceMethod ({ cls := "ArcRecorder$Feature$5", name := "of", desc := "([F[FF)F" } : Jvm.MethodName)) ∈ lw_all := lw_g (lw_at lw_m9 204 rfl) rfl
theorem q2267 : (Jvm.Cond.code ({ cls := "ArcRecorder$Feature$5", name := "of", desc := "([F[FF)F" } : Jvm.MethodName) prog_10_method_2_code (4 : Nat) (Option.some Jvm.ClassFile.FieldType.float)) ∈ lw_all := lw_g (lw_at lw_m9 205 rfl) rfl
theorem q2268 : (Jvm.Cond.fieldLink "ArcRecorder$Feature$5" (7 : Nat) "ArcRecorder$Feature$5" "MEAN" "LArcRecorder$Feature;") ∈ lw_all := lw_g (lw_at lw_m9 206 rfl) rfl
theorem q2269 : (Jvm.Cond.sameField "ArcRecorder$Feature$5" "ArcRecorder$Feature" "MEAN" "LArcRecorder$Feature;") ∈ lw_all := lw_g (lw_at lw_m9 207 rfl) rfl
theorem q2271 : (Jvm.Cond.methodLink "ArcRecorder$Feature$5" (13 : Nat) ({ cls := "ArcRecorder$Feature", name := "ordinal", desc := "()I" } : Jvm.MethodName)) ∈ lw_all := lw_g (lw_at lw_m9 209 rfl) rfl
theorem q2272 : (Jvm.Cond.methodLinkNest "ArcRecorder$Feature$5" (17 : Nat) ({ cls := "ArcRecorder", name := "magnitude", desc := "(F)F" } : Jvm.MethodName) "ArcRecorder") ∈ lw_tbl := lw_at lw_m9 210 rfl
theorem q3491 : (Jvm.Cond.castable "ArcRecorder$Feature$5" "java/lang/Object") ∈ lw_tbl := lw_at lw_m14 229 rfl
theorem q3523 : (Jvm.Cond.castable "ArcRecorder$Feature$5" "ArcRecorder$Feature") ∈ lw_tbl := lw_at lw_m15 21 rfl
/-! X20.ArcRecorder_Trip -/
def RX20 : String := "ArcRecorder$Trip"
def TX20 : u_T := fun k => match k with
  | 0 => ("ArcRecorder$Trip", "time", "I", true)
  | 1 => ("ArcRecorder$Trip", "branch", "I", true)
  | 2 => ("ArcRecorder$Trip", "kind", "I", true)
  | 3 => ("ArcRecorder$Trip", "cause", "I", true)
  | 4 => ("ArcRecorder$Trip", "peak", "F", true)
  | _ => ("ArcRecorder$Trip", "named", "[I", true)
def tyX20 : Nat → FieldType := fun k => match k with
  | 0 => .int
  | 1 => .int
  | 2 => .int
  | 3 => .int
  | 4 => .float
  | _ => .array .int
abbrev wsX200 : List Cond := u_ws RX20 TX20 6
theorem nmX20 : ∀ a, a < 6 → ∀ b, b < 6 → a ≠ b → (TX20 a).2.1 ≠ (TX20 b).2.1 := by decide +kernel
theorem tyX20_ok : ∀ k, k < 6 → parseFieldDescriptor (TX20 k).2.2.1 = some (tyX20 k) := by decide +kernel
abbrev cX20_init : ByteArray := prog_24_method_1_code
def yX20_init : MethodName := ⟨RX20, "<init>", "(IIIIF[I)V"⟩
theorem q198 : (Jvm.Cond.initialized "ArcRecorder$Trip") ∈ lw_all := lw_g (lw_at lw_m1 56 rfl) rfl
theorem q791 : (Jvm.Cond.selects "ArcRecorder$Trip" ({ cls := "java/lang/Object", name := "getClass", desc := "()Ljava/lang/Class;" } : Jvm.MethodName) ({ cls := "java/lang/Object", name := "getClass", desc := "()Ljava/lang/Class;" } : Jvm.MethodName)) ∈ lw_all := lw_g (lw_at lw_m3 169 rfl) rfl
theorem q1236 : (Jvm.Cond.selects "ArcRecorder$Trip" ({ cls := "java/lang/Object", name := "equals", desc := "(Ljava/lang/Object;)Z" } : Jvm.MethodName) ({ cls := "java/lang/Object", name := "equals", desc := "(Ljava/lang/Object;)Z" } : Jvm.MethodName)) ∈ lw_all := lw_g (lw_at lw_m5 134 rfl) rfl
theorem q2314 : (Jvm.Cond.instantiable "ArcRecorder$Trip" (6 : Nat)) ∈ lw_all := lw_g (lw_at lw_m10 12 rfl) rfl
theorem q2316 : (Jvm.Cond.instanceMethod ({ cls := "ArcRecorder$Trip", name := "<init>", desc := "(IIIIF[I)V" } : Jvm.MethodName)) ∈ lw_all := lw_g (lw_at lw_m10 14 rfl) rfl
theorem q2317 : (Jvm.Cond.code ({ cls := "ArcRecorder$Trip", name := "<init>", desc := "(IIIIF[I)V" } : Jvm.MethodName) prog_24_method_1_code (7 : Nat) (Option.none : Option Jvm.ClassFile.FieldType)) ∈ lw_all := lw_g (lw_at lw_m10 15 rfl) rfl
theorem q2318 : (Jvm.Cond.methodLink "ArcRecorder$Trip" (1 : Nat) ({ cls := "java/lang/Object", name := "<init>", desc := "()V" } : Jvm.MethodName)) ∈ lw_all := lw_g (lw_at lw_m10 16 rfl) rfl
theorem q2319 : (Jvm.Cond.fieldLink "ArcRecorder$Trip" (7 : Nat) "ArcRecorder$Trip" "time" "I") ∈ lw_all := lw_g (lw_at lw_m10 17 rfl) rfl
theorem q2321 : (Jvm.Cond.fieldLink "ArcRecorder$Trip" (13 : Nat) "ArcRecorder$Trip" "branch" "I") ∈ lw_all := lw_g (lw_at lw_m10 19 rfl) rfl
theorem q2323 : (Jvm.Cond.fieldLink "ArcRecorder$Trip" (16 : Nat) "ArcRecorder$Trip" "kind" "I") ∈ lw_all := lw_g (lw_at lw_m10 21 rfl) rfl
theorem q2325 : (Jvm.Cond.fieldLink "ArcRecorder$Trip" (19 : Nat) "ArcRecorder$Trip" "cause" "I") ∈ lw_all := lw_g (lw_at lw_m10 23 rfl) rfl
theorem q2327 : (Jvm.Cond.fieldLink "ArcRecorder$Trip" (22 : Nat) "ArcRecorder$Trip" "peak" "F") ∈ lw_all := lw_g (lw_at lw_m10 25 rfl) rfl
theorem q2329 : (Jvm.Cond.fieldLink "ArcRecorder$Trip" (26 : Nat) "ArcRecorder$Trip" "named" "[I") ∈ lw_all := lw_g (lw_at lw_m10 27 rfl) rfl
theorem q2331 : (Jvm.Cond.laysFinal "ArcRecorder$Trip" "ArcRecorder$Trip" "time" "I") ∈ lw_all := lw_g (lw_at lw_m10 29 rfl) rfl
theorem q2332 : (Jvm.Cond.soleField "ArcRecorder$Trip" "time") ∈ lw_all := lw_g (lw_at lw_m10 30 rfl) rfl
theorem q2333 : (Jvm.Cond.laysFinal "ArcRecorder$Trip" "ArcRecorder$Trip" "branch" "I") ∈ lw_all := lw_g (lw_at lw_m10 31 rfl) rfl
theorem q2334 : (Jvm.Cond.soleField "ArcRecorder$Trip" "branch") ∈ lw_all := lw_g (lw_at lw_m10 32 rfl) rfl
theorem q2335 : (Jvm.Cond.laysFinal "ArcRecorder$Trip" "ArcRecorder$Trip" "kind" "I") ∈ lw_all := lw_g (lw_at lw_m10 33 rfl) rfl
theorem q2336 : (Jvm.Cond.soleField "ArcRecorder$Trip" "kind") ∈ lw_all := lw_g (lw_at lw_m10 34 rfl) rfl
theorem q2337 : (Jvm.Cond.laysFinal "ArcRecorder$Trip" "ArcRecorder$Trip" "cause" "I") ∈ lw_all := lw_g (lw_at lw_m10 35 rfl) rfl
theorem q2338 : (Jvm.Cond.soleField "ArcRecorder$Trip" "cause") ∈ lw_all := lw_g (lw_at lw_m10 36 rfl) rfl
theorem q2339 : (Jvm.Cond.laysFinal "ArcRecorder$Trip" "ArcRecorder$Trip" "peak" "F") ∈ lw_all := lw_g (lw_at lw_m10 37 rfl) rfl
theorem q2340 : (Jvm.Cond.soleField "ArcRecorder$Trip" "peak") ∈ lw_all := lw_g (lw_at lw_m10 38 rfl) rfl
theorem q2341 : (Jvm.Cond.laysFinal "ArcRecorder$Trip" "ArcRecorder$Trip" "named" "[I") ∈ lw_all := lw_g (lw_at lw_m10 39 rfl) rfl
theorem q2342 : (Jvm.Cond.soleField "ArcRecorder$Trip" "named") ∈ lw_all := lw_g (lw_at lw_m10 40 rfl) rfl
theorem q2343 : (Jvm.Cond.superclass "ArcRecorder$Trip" "java/lang/Object") ∈ lw_all := lw_g (lw_at lw_m10 41 rfl) rfl
theorem q3516 : (Jvm.Cond.castable "ArcRecorder$Trip" "java/lang/Object") ∈ lw_tbl := lw_at lw_m15 14 rfl
theorem in_X20 : ∀ w ∈ wsX200, w ∈ lw_all := lw_in wsX200 [2331, 2333, 2335, 2337, 2339, 2341] (by decide +kernel) (by decide +kernel)
/-! X21.ArcRecorder_Feature_1 -/
def RX21 : String := "ArcRecorder$Feature$1"
abbrev cX21_of : ByteArray := prog_6_method_2_code
def yX21_of : MethodName := ⟨RX21, "of", "([F[FF)F"⟩
theorem q774 : (Jvm.Cond.selects "ArcRecorder$Feature$1" ({ cls := "java/lang/Object", name := "getClass", desc := "()Ljava/lang/Class;" } : Jvm.MethodName) ({ cls := "java/lang/Object", name := "getClass", desc := "()Ljava/lang/Class;" } : Jvm.MethodName)) ∈ lw_all := lw_g (lw_at lw_m3 152 rfl) rfl
theorem q1217 : (Jvm.Cond.selects "ArcRecorder$Feature$1" ({ cls := "java/lang/Object", name := "equals", desc := "(Ljava/lang/Object;)Z" } : Jvm.MethodName) ({ cls := "java/lang/Enum", name := "equals", desc := "(Ljava/lang/Object;)Z" } : Jvm.MethodName)) ∈ lw_all := lw_g (lw_at lw_m5 115 rfl) rfl
theorem q2232 : (Jvm.Cond.selects "ArcRecorder$Feature$1" ({ cls := "ArcRecorder$Feature", name := "of", desc := "([F[FF)F" } : Jvm.MethodName) ({ cls := "ArcRecorder$Feature$1", name := "of", desc := "([F[FF)F" } : Jvm.MethodName)) ∈ lw_all := lw_g (lw_at lw_m9 170 rfl) rfl
theorem q2233 : (Jvm.Cond.instanceMethod ({ cls := "ArcRecorder$Feature$1", name := "of", desc := "([F[FF)F" } : Jvm.MethodName)) ∈ lw_all := lw_g (lw_at lw_m9 171 rfl) rfl
theorem q2234 : (Jvm.Cond.code ({ cls := "ArcRecorder$Feature$1", name := "of", desc := "([F[FF)F" } : Jvm.MethodName) prog_6_method_2_code (6 : Nat) (Option.some Jvm.ClassFile.FieldType.float)) ∈ lw_all := lw_g (lw_at lw_m9 172 rfl) rfl
theorem q2235 : (Jvm.Cond.methodLinkNest "ArcRecorder$Feature$1" (7 : Nat) ({ cls := "ArcRecorder", name := "magnitude", desc := "(F)F" } : Jvm.MethodName) "ArcRecorder") ∈ lw_tbl := lw_at lw_m9 173 rfl
theorem q2251 : (Jvm.Cond.selects "ArcRecorder$Feature$1" ({ cls := "ArcRecorder$Feature", name := "ordinal", desc := "()I" } : Jvm.MethodName) ({ cls := "java/lang/Enum", name := "ordinal", desc := "()I" } : Jvm.MethodName)) ∈ lw_all := lw_g (lw_at lw_m9 189 rfl) rfl
theorem q3487 : (Jvm.Cond.castable "ArcRecorder$Feature$1" "java/lang/Object") ∈ lw_tbl := lw_at lw_m14 225 rfl
theorem q3519 : (Jvm.Cond.castable "ArcRecorder$Feature$1" "ArcRecorder$Feature") ∈ lw_tbl := lw_at lw_m15 17 rfl
/-! X22.ArcRecorder_Feature_2 -/
def RX22 : String := "ArcRecorder$Feature$2"
abbrev cX22_of : ByteArray := prog_7_method_2_code
def yX22_of : MethodName := ⟨RX22, "of", "([F[FF)F"⟩
theorem q775 : (Jvm.Cond.selects "ArcRecorder$Feature$2" ({ cls := "java/lang/Object", name := "getClass", desc := "()Ljava/lang/Class;" } : Jvm.MethodName) ({ cls := "java/lang/Object", name := "getClass", desc := "()Ljava/lang/Class;" } : Jvm.MethodName)) ∈ lw_all := lw_g (lw_at lw_m3 153 rfl) rfl
theorem q1220 : (Jvm.Cond.selects "ArcRecorder$Feature$2" ({ cls := "java/lang/Object", name := "equals", desc := "(Ljava/lang/Object;)Z" } : Jvm.MethodName) ({ cls := "java/lang/Enum", name := "equals", desc := "(Ljava/lang/Object;)Z" } : Jvm.MethodName)) ∈ lw_all := lw_g (lw_at lw_m5 118 rfl) rfl
theorem q2238 : (Jvm.Cond.selects "ArcRecorder$Feature$2" ({ cls := "ArcRecorder$Feature", name := "of", desc := "([F[FF)F" } : Jvm.MethodName) ({ cls := "ArcRecorder$Feature$2", name := "of", desc := "([F[FF)F" } : Jvm.MethodName)) ∈ lw_all := lw_g (lw_at lw_m9 176 rfl) rfl
theorem q2239 : (Jvm.Cond.instanceMethod ({ cls := "ArcRecorder$Feature$2", name := "of", desc := "([F[FF)F" } : Jvm.MethodName)) ∈ lw_all := lw_g (lw_at lw_m9 177 rfl) rfl
theorem q2240 : (Jvm.Cond.code ({ cls := "ArcRecorder$Feature$2", name := "of", desc := "([F[FF)F" } : Jvm.MethodName) prog_7_method_2_code (6 : Nat) (Option.some Jvm.ClassFile.FieldType.float)) ∈ lw_all := lw_g (lw_at lw_m9 178 rfl) rfl
theorem q2241 : (Jvm.Cond.methodLinkNest "ArcRecorder$Feature$2" (7 : Nat) ({ cls := "ArcRecorder", name := "magnitude", desc := "(F)F" } : Jvm.MethodName) "ArcRecorder") ∈ lw_tbl := lw_at lw_m9 179 rfl
theorem q2252 : (Jvm.Cond.selects "ArcRecorder$Feature$2" ({ cls := "ArcRecorder$Feature", name := "ordinal", desc := "()I" } : Jvm.MethodName) ({ cls := "java/lang/Enum", name := "ordinal", desc := "()I" } : Jvm.MethodName)) ∈ lw_all := lw_g (lw_at lw_m9 190 rfl) rfl
theorem q3488 : (Jvm.Cond.castable "ArcRecorder$Feature$2" "java/lang/Object") ∈ lw_tbl := lw_at lw_m14 226 rfl
theorem q3520 : (Jvm.Cond.castable "ArcRecorder$Feature$2" "ArcRecorder$Feature") ∈ lw_tbl := lw_at lw_m15 18 rfl
/-! X23.ArcRecorder_Feature_4 -/
def RX23 : String := "ArcRecorder$Feature$4"
abbrev cX23_of : ByteArray := prog_9_method_2_code
def yX23_of : MethodName := ⟨RX23, "of", "([F[FF)F"⟩
theorem q777 : (Jvm.Cond.selects "ArcRecorder$Feature$4" ({ cls := "java/lang/Object", name := "getClass", desc := "()Ljava/lang/Class;" } : Jvm.MethodName) ({ cls := "java/lang/Object", name := "getClass", desc := "()Ljava/lang/Class;" } : Jvm.MethodName)) ∈ lw_all := lw_g (lw_at lw_m3 155 rfl) rfl
theorem q1222 : (Jvm.Cond.selects "ArcRecorder$Feature$4" ({ cls := "java/lang/Object", name := "equals", desc := "(Ljava/lang/Object;)Z" } : Jvm.MethodName) ({ cls := "java/lang/Enum", name := "equals", desc := "(Ljava/lang/Object;)Z" } : Jvm.MethodName)) ∈ lw_all := lw_g (lw_at lw_m5 120 rfl) rfl
theorem q2254 : (Jvm.Cond.selects "ArcRecorder$Feature$4" ({ cls := "ArcRecorder$Feature", name := "ordinal", desc := "()I" } : Jvm.MethodName) ({ cls := "java/lang/Enum", name := "ordinal", desc := "()I" } : Jvm.MethodName)) ∈ lw_all := lw_g (lw_at lw_m9 192 rfl) rfl
theorem q2261 : (Jvm.Cond.selects "ArcRecorder$Feature$4" ({ cls := "ArcRecorder$Feature", name := "of", desc := "([F[FF)F" } : Jvm.MethodName) ({ cls := "ArcRecorder$Feature$4", name := "of", desc := "([F[FF)F" } : Jvm.MethodName)) ∈ lw_all := lw_g (lw_at lw_m9 199 rfl) rfl
theorem q2262 : (Jvm.Cond.instanceMethod ({ cls := "ArcRecorder$Feature$4", name := "of", desc := "([F[FF)F" } : Jvm.MethodName)) ∈ lw_all := lw_g (lw_at lw_m9 200 rfl) rfl
theorem q2263 : (Jvm.Cond.code ({ cls := "ArcRecorder$Feature$4", name := "of", desc := "([F[FF)F" } : Jvm.MethodName) prog_9_method_2_code (8 : Nat) (Option.some Jvm.ClassFile.FieldType.float)) ∈ lw_all := lw_g (lw_at lw_m9 201 rfl) rfl
theorem q2264 : (Jvm.Cond.methodLinkNest "ArcRecorder$Feature$4" (7 : Nat) ({ cls := "ArcRecorder", name := "magnitude", desc := "(F)F" } : Jvm.MethodName) "ArcRecorder") ∈ lw_tbl := lw_at lw_m9 202 rfl
theorem q3490 : (Jvm.Cond.castable "ArcRecorder$Feature$4" "java/lang/Object") ∈ lw_tbl := lw_at lw_m14 228 rfl
theorem q3522 : (Jvm.Cond.castable "ArcRecorder$Feature$4" "ArcRecorder$Feature") ∈ lw_tbl := lw_at lw_m15 20 rfl
/-! X24.ArcRecorder_Feature_6 -/
def RX24 : String := "ArcRecorder$Feature$6"
abbrev cX24_of : ByteArray := prog_11_method_2_code
def yX24_of : MethodName := ⟨RX24, "of", "([F[FF)F"⟩
theorem q779 : (Jvm.Cond.selects "ArcRecorder$Feature$6" ({ cls := "java/lang/Object", name := "getClass", desc := "()Ljava/lang/Class;" } : Jvm.MethodName) ({ cls := "java/lang/Object", name := "getClass", desc := "()Ljava/lang/Class;" } : Jvm.MethodName)) ∈ lw_all := lw_g (lw_at lw_m3 157 rfl) rfl
theorem q1224 : (Jvm.Cond.selects "ArcRecorder$Feature$6" ({ cls := "java/lang/Object", name := "equals", desc := "(Ljava/lang/Object;)Z" } : Jvm.MethodName) ({ cls := "java/lang/Enum", name := "equals", desc := "(Ljava/lang/Object;)Z" } : Jvm.MethodName)) ∈ lw_all := lw_g (lw_at lw_m5 122 rfl) rfl
theorem q2256 : (Jvm.Cond.selects "ArcRecorder$Feature$6" ({ cls := "ArcRecorder$Feature", name := "ordinal", desc := "()I" } : Jvm.MethodName) ({ cls := "java/lang/Enum", name := "ordinal", desc := "()I" } : Jvm.MethodName)) ∈ lw_all := lw_g (lw_at lw_m9 194 rfl) rfl
theorem q2273 : (Jvm.Cond.selects "ArcRecorder$Feature$6" ({ cls := "ArcRecorder$Feature", name := "of", desc := "([F[FF)F" } : Jvm.MethodName) ({ cls := "ArcRecorder$Feature$6", name := "of", desc := "([F[FF)F" } : Jvm.MethodName)) ∈ lw_all := lw_g (lw_at lw_m9 211 rfl) rfl
theorem q2274 : (Jvm.Cond.instanceMethod ({ cls := "ArcRecorder$Feature$6", name := "of", desc := "([F[FF)F" } : Jvm.MethodName)) ∈ lw_all := lw_g (lw_at lw_m9 212 rfl) rfl
theorem q2275 : (Jvm.Cond.code ({ cls := "ArcRecorder$Feature$6", name := "of", desc := "([F[FF)F" } : Jvm.MethodName) prog_11_method_2_code (6 : Nat) (Option.some Jvm.ClassFile.FieldType.float)) ∈ lw_all := lw_g (lw_at lw_m9 213 rfl) rfl
theorem q3492 : (Jvm.Cond.castable "ArcRecorder$Feature$6" "java/lang/Object") ∈ lw_tbl := lw_at lw_m14 230 rfl
theorem q3524 : (Jvm.Cond.castable "ArcRecorder$Feature$6" "ArcRecorder$Feature") ∈ lw_tbl := lw_at lw_m15 22 rfl
/-! J0.java_util_AbstractCollection -/
def RJ0 : String := "java/util/AbstractCollection"
abbrev cJ0_init : ByteArray := prog_54_method_1_code
def yJ0_init : MethodName := ⟨RJ0, "<init>", "()V"⟩
theorem q146 : (Jvm.Cond.initialized "java/util/AbstractCollection") ∈ lw_all := lw_g (lw_at lw_m1 4 rfl) rfl
theorem q225 : (Jvm.Cond.instanceMethod ({ cls := "java/util/AbstractCollection", name := "<init>", desc := "()V" } : Jvm.MethodName)) ∈ lw_all := lw_g (lw_at lw_m1 83 rfl) rfl
theorem q226 : (Jvm.Cond.code ({ cls := "java/util/AbstractCollection", name := "<init>", desc := "()V" } : Jvm.MethodName) prog_54_method_1_code (1 : Nat) (Option.none : Option Jvm.ClassFile.FieldType)) ∈ lw_all := lw_g (lw_at lw_m1 84 rfl) rfl
theorem q227 : (Jvm.Cond.methodLink "java/util/AbstractCollection" (1 : Nat) ({ cls := "java/lang/Object", name := "<init>", desc := "()V" } : Jvm.MethodName)) ∈ lw_all := lw_g (lw_at lw_m1 85 rfl) rfl
theorem q1773 : (Jvm.Cond.declares ({ cls := "java/util/AbstractCollection", name := "size", desc := "()I" } : Jvm.MethodName)) ∈ lw_tbl := lw_at lw_m7 191 rfl
/-! J1.java_util_AbstractList -/
def RJ1 : String := "java/util/AbstractList"
abbrev cJ1_init : ByteArray := prog_55_method_1_code
def yJ1_init : MethodName := ⟨RJ1, "<init>", "()V"⟩
abbrev cJ1_listIterator : ByteArray := prog_55_method_12_code
def yJ1_listIterator : MethodName := ⟨RJ1, "listIterator", "()Ljava/util/ListIterator;"⟩
theorem q147 : (Jvm.Cond.initialized "java/util/AbstractList") ∈ lw_all := lw_g (lw_at lw_m1 5 rfl) rfl
theorem q222 : (Jvm.Cond.instanceMethod ({ cls := "java/util/AbstractList", name := "<init>", desc := "()V" } : Jvm.MethodName)) ∈ lw_all := lw_g (lw_at lw_m1 80 rfl) rfl
theorem q223 : (Jvm.Cond.code ({ cls := "java/util/AbstractList", name := "<init>", desc := "()V" } : Jvm.MethodName) prog_55_method_1_code (1 : Nat) (Option.none : Option Jvm.ClassFile.FieldType)) ∈ lw_all := lw_g (lw_at lw_m1 81 rfl) rfl
theorem q224 : (Jvm.Cond.methodLink "java/util/AbstractList" (1 : Nat) ({ cls := "java/util/AbstractCollection", name := "<init>", desc := "()V" } : Jvm.MethodName)) ∈ lw_all := lw_g (lw_at lw_m1 82 rfl) rfl
theorem q556 : (Jvm.Cond.fieldLink "java/util/AbstractList" (7 : Nat) "java/util/AbstractList" "modCount" "I") ∈ lw_all := lw_g (lw_at lw_m2 174 rfl) rfl
theorem q569 : (Jvm.Cond.soleField "java/util/AbstractList" "modCount") ∈ lw_all := lw_g (lw_at lw_m2 187 rfl) rfl
theorem q1648 : (Jvm.Cond.declares ({ cls := "java/util/AbstractList", name := "listIterator", desc := "()Ljava/util/ListIterator;" } : Jvm.MethodName)) ∈ lw_tbl := lw_at lw_m7 66 rfl
theorem q1650 : (Jvm.Cond.instanceMethod ({ cls := "java/util/AbstractList", name := "listIterator", desc := "()Ljava/util/ListIterator;" } : Jvm.MethodName)) ∈ lw_all := lw_g (lw_at lw_m7 68 rfl) rfl
theorem q1651 : (Jvm.Cond.code ({ cls := "java/util/AbstractList", name := "listIterator", desc := "()Ljava/util/ListIterator;" } : Jvm.MethodName) prog_55_method_12_code (1 : Nat) (Option.some (Jvm.ClassFile.FieldType.object "java/util/ListIterator"))) ∈ lw_all := lw_g (lw_at lw_m7 69 rfl) rfl
theorem q1652 : (Jvm.Cond.methodLink "java/util/AbstractList" (47 : Nat) ({ cls := "java/util/AbstractList", name := "listIterator", desc := "(I)Ljava/util/ListIterator;" } : Jvm.MethodName)) ∈ lw_all := lw_g (lw_at lw_m7 70 rfl) rfl
theorem q1653 : (Jvm.Cond.instanceMethod ({ cls := "java/util/AbstractList", name := "listIterator", desc := "(I)Ljava/util/ListIterator;" } : Jvm.MethodName)) ∈ lw_all := lw_g (lw_at lw_m7 71 rfl) rfl
theorem q1654 : (Jvm.Cond.sameMethod "java/util/AbstractList" "java/util/AbstractList" "listIterator" "(I)Ljava/util/ListIterator;") ∈ lw_all := lw_g (lw_at lw_m7 72 rfl) rfl
theorem q1760 : (Jvm.Cond.declares ({ cls := "java/util/AbstractList", name := "listIterator", desc := "(I)Ljava/util/ListIterator;" } : Jvm.MethodName)) ∈ lw_tbl := lw_at lw_m7 178 rfl
theorem q1772 : (Jvm.Cond.sameMethod "java/util/AbstractList" "java/util/AbstractCollection" "size" "()I") ∈ lw_all := lw_g (lw_at lw_m7 190 rfl) rfl
theorem q1811 : (Jvm.Cond.declares ({ cls := "java/util/AbstractList", name := "get", desc := "(I)Ljava/lang/Object;" } : Jvm.MethodName)) ∈ lw_tbl := lw_at lw_m7 229 rfl
theorem q1812 : (Jvm.Cond.sameMethod "java/util/AbstractList" "java/util/AbstractList" "get" "(I)Ljava/lang/Object;") ∈ lw_all := lw_g (lw_at lw_m7 230 rfl) rfl
/-! J2.java_util_ArrayList -/
def RJ2 : String := "java/util/ArrayList"
def TJ2 : u_T := fun k => match k with
  | 0 => ("java/util/AbstractList", "modCount", "I", false)
  | 1 => ("java/util/ArrayList", "elementData", "[Ljava/lang/Object;", false)
  | _ => ("java/util/ArrayList", "size", "I", false)
def tyJ2 : Nat → FieldType := fun k => match k with
  | 0 => .int
  | 1 => .array (.object "java/lang/Object")
  | _ => .int
abbrev wsJ20 : List Cond := u_ws RJ2 TJ2 3
theorem nmJ2 : ∀ a, a < 3 → ∀ b, b < 3 → a ≠ b → (TJ2 a).2.1 ≠ (TJ2 b).2.1 := by decide +kernel
theorem tyJ2_ok : ∀ k, k < 3 → parseFieldDescriptor (TJ2 k).2.2.1 = some (tyJ2 k) := by decide +kernel
abbrev cJ2_init : ByteArray := prog_61_method_1_code
def yJ2_init : MethodName := ⟨RJ2, "<init>", "(I)V"⟩
abbrev cJ2_size : ByteArray := prog_61_method_8_code
def yJ2_size : MethodName := ⟨RJ2, "size", "()I"⟩
abbrev cJ2_add : ByteArray := prog_61_method_25_code
def yJ2_add : MethodName := ⟨RJ2, "add", "(Ljava/lang/Object;)Z"⟩
abbrev cJ2_add_2 : ByteArray := prog_61_method_24_code
def yJ2_add_2 : MethodName := ⟨RJ2, "add", "(Ljava/lang/Object;[Ljava/lang/Object;I)V"⟩
abbrev cJ2_grow : ByteArray := prog_61_method_7_code
def yJ2_grow : MethodName := ⟨RJ2, "grow", "()[Ljava/lang/Object;"⟩
abbrev cJ2_grow_2 : ByteArray := prog_61_method_6_code
def yJ2_grow_2 : MethodName := ⟨RJ2, "grow", "(I)[Ljava/lang/Object;"⟩
abbrev cJ2_contains : ByteArray := prog_61_method_10_code
def yJ2_contains : MethodName := ⟨RJ2, "contains", "(Ljava/lang/Object;)Z"⟩
abbrev cJ2_indexOf : ByteArray := prog_61_method_11_code
def yJ2_indexOf : MethodName := ⟨RJ2, "indexOf", "(Ljava/lang/Object;)I"⟩
abbrev cJ2_indexOfRange : ByteArray := prog_61_method_12_code
def yJ2_indexOfRange : MethodName := ⟨RJ2, "indexOfRange", "(Ljava/lang/Object;II)I"⟩
abbrev cJ2_get : ByteArray := prog_61_method_20_code
def yJ2_get : MethodName := ⟨RJ2, "get", "(I)Ljava/lang/Object;"⟩
abbrev cJ2_elementData : ByteArray := prog_61_method_18_code
def yJ2_elementData : MethodName := ⟨RJ2, "elementData", "(I)Ljava/lang/Object;"⟩
abbrev cJ2_listIterator : ByteArray := prog_61_method_53_code
def yJ2_listIterator : MethodName := ⟨RJ2, "listIterator", "(I)Ljava/util/ListIterator;"⟩
abbrev cJ2_rangeCheckForAdd : ByteArray := prog_61_method_45_code
def yJ2_rangeCheckForAdd : MethodName := ⟨RJ2, "rangeCheckForAdd", "(I)V"⟩
abbrev cJ2_outOfBoundsMsg : ByteArray := prog_61_method_46_code
def yJ2_outOfBoundsMsg : MethodName := ⟨RJ2, "outOfBoundsMsg", "(I)Ljava/lang/String;"⟩
abbrev cJ2_remove : ByteArray := prog_61_method_29_code
def yJ2_remove : MethodName := ⟨RJ2, "remove", "(I)Ljava/lang/Object;"⟩
abbrev cJ2_fastRemove : ByteArray := prog_61_method_39_code
def yJ2_fastRemove : MethodName := ⟨RJ2, "fastRemove", "([Ljava/lang/Object;I)V"⟩
theorem q148 : (Jvm.Cond.initialized "java/util/ArrayList") ∈ lw_all := lw_g (lw_at lw_m1 6 rfl) rfl
theorem q217 : (Jvm.Cond.instantiable "java/util/ArrayList" (3 : Nat)) ∈ lw_all := lw_g (lw_at lw_m1 75 rfl) rfl
theorem q219 : (Jvm.Cond.instanceMethod ({ cls := "java/util/ArrayList", name := "<init>", desc := "(I)V" } : Jvm.MethodName)) ∈ lw_all := lw_g (lw_at lw_m1 77 rfl) rfl
theorem q220 : (Jvm.Cond.code ({ cls := "java/util/ArrayList", name := "<init>", desc := "(I)V" } : Jvm.MethodName) prog_61_method_1_code (2 : Nat) (Option.none : Option Jvm.ClassFile.FieldType)) ∈ lw_all := lw_g (lw_at lw_m1 78 rfl) rfl
theorem q221 : (Jvm.Cond.methodLink "java/util/ArrayList" (1 : Nat) ({ cls := "java/util/AbstractList", name := "<init>", desc := "()V" } : Jvm.MethodName)) ∈ lw_all := lw_g (lw_at lw_m1 79 rfl) rfl
theorem q228 : (Jvm.Cond.classLink "java/util/ArrayList" (7 : Nat) "java/lang/Object") ∈ lw_all := lw_g (lw_at lw_m1 86 rfl) rfl
theorem q230 : (Jvm.Cond.fieldLink "java/util/ArrayList" (15 : Nat) "java/util/ArrayList" "EMPTY_ELEMENTDATA" "[Ljava/lang/Object;") ∈ lw_all := lw_g (lw_at lw_m1 88 rfl) rfl
theorem q231 : (Jvm.Cond.laysStatic "java/util/ArrayList" "EMPTY_ELEMENTDATA" "[Ljava/lang/Object;") ∈ lw_tbl := lw_at lw_m1 89 rfl
theorem q232 : (Jvm.Cond.classLink "java/util/ArrayList" (18 : Nat) "java/lang/IllegalArgumentException") ∈ lw_all := lw_g (lw_at lw_m1 90 rfl) rfl
theorem q277 : (Jvm.Cond.classLink "java/util/ArrayList" (20 : Nat) "java/lang/StringBuilder") ∈ lw_all := lw_g (lw_at lw_m1 135 rfl) rfl
theorem q279 : (Jvm.Cond.methodLink "java/util/ArrayList" (22 : Nat) ({ cls := "java/lang/StringBuilder", name := "<init>", desc := "()V" } : Jvm.MethodName)) ∈ lw_all := lw_g (lw_at lw_m1 137 rfl) rfl
theorem q311 : (Jvm.Cond.stringRef "java/util/ArrayList" (23 : Nat) "Illegal Capacity: ") ∈ lw_tbl := lw_at lw_m1 169 rfl
theorem q312 : (Jvm.Cond.methodLink "java/util/ArrayList" (25 : Nat) ({ cls := "java/lang/StringBuilder", name := "append", desc := "(Ljava/lang/String;)Ljava/lang/StringBuilder;" } : Jvm.MethodName)) ∈ lw_all := lw_g (lw_at lw_m1 170 rfl) rfl
theorem q432 : (Jvm.Cond.methodLink "java/util/ArrayList" (29 : Nat) ({ cls := "java/lang/StringBuilder", name := "append", desc := "(I)Ljava/lang/StringBuilder;" } : Jvm.MethodName)) ∈ lw_all := lw_g (lw_at lw_m2 50 rfl) rfl
theorem q457 : (Jvm.Cond.methodLink "java/util/ArrayList" (32 : Nat) ({ cls := "java/lang/StringBuilder", name := "toString", desc := "()Ljava/lang/String;" } : Jvm.MethodName)) ∈ lw_all := lw_g (lw_at lw_m2 75 rfl) rfl
theorem q551 : (Jvm.Cond.methodLink "java/util/ArrayList" (36 : Nat) ({ cls := "java/lang/IllegalArgumentException", name := "<init>", desc := "(Ljava/lang/String;)V" } : Jvm.MethodName)) ∈ lw_all := lw_g (lw_at lw_m2 169 rfl) rfl
theorem q552 : (Jvm.Cond.fieldLink "java/util/ArrayList" (9 : Nat) "java/util/ArrayList" "elementData" "[Ljava/lang/Object;") ∈ lw_all := lw_g (lw_at lw_m2 170 rfl) rfl
theorem q555 : (Jvm.Cond.fieldLink "java/util/ArrayList" (48 : Nat) "java/util/ArrayList" "size" "I") ∈ lw_all := lw_g (lw_at lw_m2 173 rfl) rfl
theorem q560 : (Jvm.Cond.sameField "java/util/ArrayList" "java/util/AbstractList" "modCount" "I") ∈ lw_all := lw_g (lw_at lw_m2 178 rfl) rfl
theorem q563 : (Jvm.Cond.fieldLink "java/util/ArrayList" (63 : Nat) "java/util/ArrayList" "modCount" "I") ∈ lw_all := lw_g (lw_at lw_m2 181 rfl) rfl
theorem q564 : (Jvm.Cond.lays "java/util/ArrayList" "java/util/ArrayList" "elementData" "[Ljava/lang/Object;") ∈ lw_all := lw_g (lw_at lw_m2 182 rfl) rfl
theorem q565 : (Jvm.Cond.soleField "java/util/ArrayList" "elementData") ∈ lw_all := lw_g (lw_at lw_m2 183 rfl) rfl
theorem q566 : (Jvm.Cond.lays "java/util/ArrayList" "java/util/ArrayList" "size" "I") ∈ lw_all := lw_g (lw_at lw_m2 184 rfl) rfl
theorem q567 : (Jvm.Cond.soleField "java/util/ArrayList" "size") ∈ lw_all := lw_g (lw_at lw_m2 185 rfl) rfl
theorem q568 : (Jvm.Cond.lays "java/util/ArrayList" "java/util/AbstractList" "modCount" "I") ∈ lw_all := lw_g (lw_at lw_m2 186 rfl) rfl
theorem q570 : (Jvm.Cond.superclass "java/util/ArrayList" "java/util/AbstractList") ∈ lw_all := lw_g (lw_at lw_m2 188 rfl) rfl
theorem q676 : (Jvm.Cond.instanceMethod ({ cls := "java/util/ArrayList", name := "size", desc := "()I" } : Jvm.MethodName)) ∈ lw_all := lw_g (lw_at lw_m3 54 rfl) rfl
theorem q677 : (Jvm.Cond.selects "java/util/ArrayList" ({ cls := "java/util/ArrayList", name := "size", desc := "()I" } : Jvm.MethodName) ({ cls := "java/util/ArrayList", name := "size", desc := "()I" } : Jvm.MethodName)) ∈ lw_all := lw_g (lw_at lw_m3 55 rfl) rfl
theorem q678 : (Jvm.Cond.code ({ cls := "java/util/ArrayList", name := "size", desc := "()I" } : Jvm.MethodName) prog_61_method_8_code (1 : Nat) (Option.some Jvm.ClassFile.FieldType.int)) ∈ lw_all := lw_g (lw_at lw_m3 56 rfl) rfl
theorem q746 : (Jvm.Cond.instanceMethod ({ cls := "java/util/ArrayList", name := "add", desc := "(Ljava/lang/Object;)Z" } : Jvm.MethodName)) ∈ lw_all := lw_g (lw_at lw_m3 124 rfl) rfl
theorem q747 : (Jvm.Cond.selects "java/util/ArrayList" ({ cls := "java/util/ArrayList", name := "add", desc := "(Ljava/lang/Object;)Z" } : Jvm.MethodName) ({ cls := "java/util/ArrayList", name := "add", desc := "(Ljava/lang/Object;)Z" } : Jvm.MethodName)) ∈ lw_all := lw_g (lw_at lw_m3 125 rfl) rfl
theorem q748 : (Jvm.Cond.code ({ cls := "java/util/ArrayList", name := "add", desc := "(Ljava/lang/Object;)Z" } : Jvm.MethodName) prog_61_method_25_code (2 : Nat) (Option.some Jvm.ClassFile.FieldType.boolean)) ∈ lw_all := lw_g (lw_at lw_m3 126 rfl) rfl
theorem q749 : (Jvm.Cond.methodLink "java/util/ArrayList" (131 : Nat) ({ cls := "java/util/ArrayList", name := "add", desc := "(Ljava/lang/Object;[Ljava/lang/Object;I)V" } : Jvm.MethodName)) ∈ lw_all := lw_g (lw_at lw_m3 127 rfl) rfl
theorem q750 : (Jvm.Cond.privateMethod ({ cls := "java/util/ArrayList", name := "add", desc := "(Ljava/lang/Object;[Ljava/lang/Object;I)V" } : Jvm.MethodName)) ∈ lw_tbl := lw_at lw_m3 128 rfl
theorem q751 : (Jvm.Cond.instanceMethod ({ cls := "java/util/ArrayList", name := "add", desc := "(Ljava/lang/Object;[Ljava/lang/Object;I)V" } : Jvm.MethodName)) ∈ lw_all := lw_g (lw_at lw_m3 129 rfl) rfl
theorem q752 : (Jvm.Cond.code ({ cls := "java/util/ArrayList", name := "add", desc := "(Ljava/lang/Object;[Ljava/lang/Object;I)V" } : Jvm.MethodName) prog_61_method_24_code (4 : Nat) (Option.none : Option Jvm.ClassFile.FieldType)) ∈ lw_all := lw_g (lw_at lw_m3 130 rfl) rfl
theorem q753 : (Jvm.Cond.methodLink "java/util/ArrayList" (129 : Nat) ({ cls := "java/util/ArrayList", name := "grow", desc := "()[Ljava/lang/Object;" } : Jvm.MethodName)) ∈ lw_all := lw_g (lw_at lw_m3 131 rfl) rfl
theorem q754 : (Jvm.Cond.privateMethod ({ cls := "java/util/ArrayList", name := "grow", desc := "()[Ljava/lang/Object;" } : Jvm.MethodName)) ∈ lw_tbl := lw_at lw_m3 132 rfl
theorem q755 : (Jvm.Cond.instanceMethod ({ cls := "java/util/ArrayList", name := "grow", desc := "()[Ljava/lang/Object;" } : Jvm.MethodName)) ∈ lw_all := lw_g (lw_at lw_m3 133 rfl) rfl
theorem q756 : (Jvm.Cond.code ({ cls := "java/util/ArrayList", name := "grow", desc := "()[Ljava/lang/Object;" } : Jvm.MethodName) prog_61_method_7_code (1 : Nat) (Option.some (Jvm.ClassFile.FieldType.array (Jvm.ClassFile.FieldType.object "java/lang/Object")))) ∈ lw_all := lw_g (lw_at lw_m3 134 rfl) rfl
theorem q757 : (Jvm.Cond.methodLink "java/util/ArrayList" (69 : Nat) ({ cls := "java/util/ArrayList", name := "grow", desc := "(I)[Ljava/lang/Object;" } : Jvm.MethodName)) ∈ lw_all := lw_g (lw_at lw_m3 135 rfl) rfl
theorem q758 : (Jvm.Cond.privateMethod ({ cls := "java/util/ArrayList", name := "grow", desc := "(I)[Ljava/lang/Object;" } : Jvm.MethodName)) ∈ lw_tbl := lw_at lw_m3 136 rfl
theorem q759 : (Jvm.Cond.instanceMethod ({ cls := "java/util/ArrayList", name := "grow", desc := "(I)[Ljava/lang/Object;" } : Jvm.MethodName)) ∈ lw_all := lw_g (lw_at lw_m3 137 rfl) rfl
theorem q760 : (Jvm.Cond.code ({ cls := "java/util/ArrayList", name := "grow", desc := "(I)[Ljava/lang/Object;" } : Jvm.MethodName) prog_61_method_6_code (4 : Nat) (Option.some (Jvm.ClassFile.FieldType.array (Jvm.ClassFile.FieldType.object "java/lang/Object")))) ∈ lw_all := lw_g (lw_at lw_m3 138 rfl) rfl
theorem q761 : (Jvm.Cond.fieldLink "java/util/ArrayList" (39 : Nat) "java/util/ArrayList" "DEFAULTCAPACITY_EMPTY_ELEMENTDATA" "[Ljava/lang/Object;") ∈ lw_all := lw_g (lw_at lw_m3 139 rfl) rfl
theorem q762 : (Jvm.Cond.laysStatic "java/util/ArrayList" "DEFAULTCAPACITY_EMPTY_ELEMENTDATA" "[Ljava/lang/Object;") ∈ lw_tbl := lw_at lw_m3 140 rfl
theorem q763 : (Jvm.Cond.methodLink "java/util/ArrayList" (73 : Nat) ({ cls := "jdk/internal/util/ArraysSupport", name := "newLength", desc := "(III)I" } : Jvm.MethodName)) ∈ lw_all := lw_g (lw_at lw_m3 141 rfl) rfl
theorem q764 : (Jvm.Cond.methodLink "java/util/ArrayList" (66 : Nat) ({ cls := "java/util/Arrays", name := "copyOf", desc := "([Ljava/lang/Object;I)[Ljava/lang/Object;" } : Jvm.MethodName)) ∈ lw_all := lw_g (lw_at lw_m3 142 rfl) rfl
theorem q804 : (Jvm.Cond.selects "java/util/ArrayList" ({ cls := "java/lang/Object", name := "getClass", desc := "()Ljava/lang/Class;" } : Jvm.MethodName) ({ cls := "java/lang/Object", name := "getClass", desc := "()Ljava/lang/Class;" } : Jvm.MethodName)) ∈ lw_all := lw_g (lw_at lw_m3 182 rfl) rfl
theorem q816 : (Jvm.Cond.methodLink "java/util/ArrayList" (79 : Nat) ({ cls := "java/lang/Math", name := "max", desc := "(II)I" } : Jvm.MethodName)) ∈ lw_all := lw_g (lw_at lw_m3 194 rfl) rfl
theorem q1198 : (Jvm.Cond.instanceMethod ({ cls := "java/util/ArrayList", name := "contains", desc := "(Ljava/lang/Object;)Z" } : Jvm.MethodName)) ∈ lw_all := lw_g (lw_at lw_m5 96 rfl) rfl
theorem q1199 : (Jvm.Cond.selects "java/util/ArrayList" ({ cls := "java/util/ArrayList", name := "contains", desc := "(Ljava/lang/Object;)Z" } : Jvm.MethodName) ({ cls := "java/util/ArrayList", name := "contains", desc := "(Ljava/lang/Object;)Z" } : Jvm.MethodName)) ∈ lw_all := lw_g (lw_at lw_m5 97 rfl) rfl
theorem q1200 : (Jvm.Cond.code ({ cls := "java/util/ArrayList", name := "contains", desc := "(Ljava/lang/Object;)Z" } : Jvm.MethodName) prog_61_method_10_code (2 : Nat) (Option.some Jvm.ClassFile.FieldType.boolean)) ∈ lw_all := lw_g (lw_at lw_m5 98 rfl) rfl
theorem q1201 : (Jvm.Cond.methodLink "java/util/ArrayList" (85 : Nat) ({ cls := "java/util/ArrayList", name := "indexOf", desc := "(Ljava/lang/Object;)I" } : Jvm.MethodName)) ∈ lw_all := lw_g (lw_at lw_m5 99 rfl) rfl
theorem q1202 : (Jvm.Cond.instanceMethod ({ cls := "java/util/ArrayList", name := "indexOf", desc := "(Ljava/lang/Object;)I" } : Jvm.MethodName)) ∈ lw_all := lw_g (lw_at lw_m5 100 rfl) rfl
theorem q1203 : (Jvm.Cond.selects "java/util/ArrayList" ({ cls := "java/util/ArrayList", name := "indexOf", desc := "(Ljava/lang/Object;)I" } : Jvm.MethodName) ({ cls := "java/util/ArrayList", name := "indexOf", desc := "(Ljava/lang/Object;)I" } : Jvm.MethodName)) ∈ lw_all := lw_g (lw_at lw_m5 101 rfl) rfl
theorem q1204 : (Jvm.Cond.code ({ cls := "java/util/ArrayList", name := "indexOf", desc := "(Ljava/lang/Object;)I" } : Jvm.MethodName) prog_61_method_11_code (2 : Nat) (Option.some Jvm.ClassFile.FieldType.int)) ∈ lw_all := lw_g (lw_at lw_m5 102 rfl) rfl
theorem q1205 : (Jvm.Cond.methodLink "java/util/ArrayList" (89 : Nat) ({ cls := "java/util/ArrayList", name := "indexOfRange", desc := "(Ljava/lang/Object;II)I" } : Jvm.MethodName)) ∈ lw_all := lw_g (lw_at lw_m5 103 rfl) rfl
theorem q1206 : (Jvm.Cond.instanceMethod ({ cls := "java/util/ArrayList", name := "indexOfRange", desc := "(Ljava/lang/Object;II)I" } : Jvm.MethodName)) ∈ lw_all := lw_g (lw_at lw_m5 104 rfl) rfl
theorem q1207 : (Jvm.Cond.selects "java/util/ArrayList" ({ cls := "java/util/ArrayList", name := "indexOfRange", desc := "(Ljava/lang/Object;II)I" } : Jvm.MethodName) ({ cls := "java/util/ArrayList", name := "indexOfRange", desc := "(Ljava/lang/Object;II)I" } : Jvm.MethodName)) ∈ lw_all := lw_g (lw_at lw_m5 105 rfl) rfl
theorem q1208 : (Jvm.Cond.code ({ cls := "java/util/ArrayList", name := "indexOfRange", desc := "(Ljava/lang/Object;II)I" } : Jvm.MethodName) prog_61_method_12_code (6 : Nat) (Option.some Jvm.ClassFile.FieldType.int)) ∈ lw_all := lw_g (lw_at lw_m5 106 rfl) rfl
theorem q1210 : (Jvm.Cond.methodLink "java/util/ArrayList" (93 : Nat) ({ cls := "java/lang/Object", name := "equals", desc := "(Ljava/lang/Object;)Z" } : Jvm.MethodName)) ∈ lw_all := lw_g (lw_at lw_m5 108 rfl) rfl
theorem q1253 : (Jvm.Cond.instanceMethod ({ cls := "java/util/ArrayList", name := "get", desc := "(I)Ljava/lang/Object;" } : Jvm.MethodName)) ∈ lw_all := lw_g (lw_at lw_m5 151 rfl) rfl
theorem q1254 : (Jvm.Cond.selects "java/util/ArrayList" ({ cls := "java/util/ArrayList", name := "get", desc := "(I)Ljava/lang/Object;" } : Jvm.MethodName) ({ cls := "java/util/ArrayList", name := "get", desc := "(I)Ljava/lang/Object;" } : Jvm.MethodName)) ∈ lw_all := lw_g (lw_at lw_m5 152 rfl) rfl
theorem q1255 : (Jvm.Cond.code ({ cls := "java/util/ArrayList", name := "get", desc := "(I)Ljava/lang/Object;" } : Jvm.MethodName) prog_61_method_20_code (2 : Nat) (Option.some (Jvm.ClassFile.FieldType.object "java/lang/Object"))) ∈ lw_all := lw_g (lw_at lw_m5 153 rfl) rfl
theorem q1256 : (Jvm.Cond.methodLink "java/util/ArrayList" (118 : Nat) ({ cls := "java/util/Objects", name := "checkIndex", desc := "(II)I" } : Jvm.MethodName)) ∈ lw_all := lw_g (lw_at lw_m5 154 rfl) rfl
theorem q1260 : (Jvm.Cond.methodLink "java/util/ArrayList" (123 : Nat) ({ cls := "java/util/ArrayList", name := "elementData", desc := "(I)Ljava/lang/Object;" } : Jvm.MethodName)) ∈ lw_all := lw_g (lw_at lw_m5 158 rfl) rfl
theorem q1261 : (Jvm.Cond.instanceMethod ({ cls := "java/util/ArrayList", name := "elementData", desc := "(I)Ljava/lang/Object;" } : Jvm.MethodName)) ∈ lw_all := lw_g (lw_at lw_m5 159 rfl) rfl
theorem q1262 : (Jvm.Cond.selects "java/util/ArrayList" ({ cls := "java/util/ArrayList", name := "elementData", desc := "(I)Ljava/lang/Object;" } : Jvm.MethodName) ({ cls := "java/util/ArrayList", name := "elementData", desc := "(I)Ljava/lang/Object;" } : Jvm.MethodName)) ∈ lw_all := lw_g (lw_at lw_m5 160 rfl) rfl
theorem q1263 : (Jvm.Cond.code ({ cls := "java/util/ArrayList", name := "elementData", desc := "(I)Ljava/lang/Object;" } : Jvm.MethodName) prog_61_method_18_code (2 : Nat) (Option.some (Jvm.ClassFile.FieldType.object "java/lang/Object"))) ∈ lw_all := lw_g (lw_at lw_m5 161 rfl) rfl
theorem q1655 : (Jvm.Cond.selects "java/util/ArrayList" ({ cls := "java/util/AbstractList", name := "listIterator", desc := "(I)Ljava/util/ListIterator;" } : Jvm.MethodName) ({ cls := "java/util/ArrayList", name := "listIterator", desc := "(I)Ljava/util/ListIterator;" } : Jvm.MethodName)) ∈ lw_all := lw_g (lw_at lw_m7 73 rfl) rfl
theorem q1656 : (Jvm.Cond.instanceMethod ({ cls := "java/util/ArrayList", name := "listIterator", desc := "(I)Ljava/util/ListIterator;" } : Jvm.MethodName)) ∈ lw_all := lw_g (lw_at lw_m7 74 rfl) rfl
theorem q1657 : (Jvm.Cond.code ({ cls := "java/util/ArrayList", name := "listIterator", desc := "(I)Ljava/util/ListIterator;" } : Jvm.MethodName) prog_61_method_53_code (2 : Nat) (Option.some (Jvm.ClassFile.FieldType.object "java/util/ListIterator"))) ∈ lw_all := lw_g (lw_at lw_m7 75 rfl) rfl
theorem q1658 : (Jvm.Cond.methodLink "java/util/ArrayList" (135 : Nat) ({ cls := "java/util/ArrayList", name := "rangeCheckForAdd", desc := "(I)V" } : Jvm.MethodName)) ∈ lw_all := lw_g (lw_at lw_m7 76 rfl) rfl
theorem q1659 : (Jvm.Cond.privateMethod ({ cls := "java/util/ArrayList", name := "rangeCheckForAdd", desc := "(I)V" } : Jvm.MethodName)) ∈ lw_tbl := lw_at lw_m7 77 rfl
theorem q1660 : (Jvm.Cond.instanceMethod ({ cls := "java/util/ArrayList", name := "rangeCheckForAdd", desc := "(I)V" } : Jvm.MethodName)) ∈ lw_all := lw_g (lw_at lw_m7 78 rfl) rfl
theorem q1661 : (Jvm.Cond.code ({ cls := "java/util/ArrayList", name := "rangeCheckForAdd", desc := "(I)V" } : Jvm.MethodName) prog_61_method_45_code (2 : Nat) (Option.none : Option Jvm.ClassFile.FieldType)) ∈ lw_all := lw_g (lw_at lw_m7 79 rfl) rfl
theorem q1662 : (Jvm.Cond.classLink "java/util/ArrayList" (187 : Nat) "java/lang/IndexOutOfBoundsException") ∈ lw_all := lw_g (lw_at lw_m7 80 rfl) rfl
theorem q1671 : (Jvm.Cond.methodLink "java/util/ArrayList" (198 : Nat) ({ cls := "java/util/ArrayList", name := "outOfBoundsMsg", desc := "(I)Ljava/lang/String;" } : Jvm.MethodName)) ∈ lw_all := lw_g (lw_at lw_m7 89 rfl) rfl
theorem q1672 : (Jvm.Cond.privateMethod ({ cls := "java/util/ArrayList", name := "outOfBoundsMsg", desc := "(I)Ljava/lang/String;" } : Jvm.MethodName)) ∈ lw_tbl := lw_at lw_m7 90 rfl
theorem q1673 : (Jvm.Cond.instanceMethod ({ cls := "java/util/ArrayList", name := "outOfBoundsMsg", desc := "(I)Ljava/lang/String;" } : Jvm.MethodName)) ∈ lw_all := lw_g (lw_at lw_m7 91 rfl) rfl
theorem q1674 : (Jvm.Cond.code ({ cls := "java/util/ArrayList", name := "outOfBoundsMsg", desc := "(I)Ljava/lang/String;" } : Jvm.MethodName) prog_61_method_46_code (2 : Nat) (Option.some (Jvm.ClassFile.FieldType.object "java/lang/String"))) ∈ lw_all := lw_g (lw_at lw_m7 92 rfl) rfl
theorem q1675 : (Jvm.Cond.stringRef "java/util/ArrayList" (201 : Nat) "Index: ") ∈ lw_tbl := lw_at lw_m7 93 rfl
theorem q1676 : (Jvm.Cond.stringRef "java/util/ArrayList" (203 : Nat) ", Size: ") ∈ lw_tbl := lw_at lw_m7 94 rfl
theorem q1677 : (Jvm.Cond.methodLink "java/util/ArrayList" (193 : Nat) ({ cls := "java/lang/IndexOutOfBoundsException", name := "<init>", desc := "(Ljava/lang/String;)V" } : Jvm.MethodName)) ∈ lw_all := lw_g (lw_at lw_m7 95 rfl) rfl
theorem q1683 : (Jvm.Cond.classLink "java/util/ArrayList" (262 : Nat) "java/util/ArrayList$ListItr") ∈ lw_all := lw_g (lw_at lw_m7 101 rfl) rfl
theorem q1685 : (Jvm.Cond.methodLink "java/util/ArrayList" (264 : Nat) ({ cls := "java/util/ArrayList$ListItr", name := "<init>", desc := "(Ljava/util/ArrayList;I)V" } : Jvm.MethodName)) ∈ lw_all := lw_g (lw_at lw_m7 103 rfl) rfl
theorem q1774 : (Jvm.Cond.selects "java/util/ArrayList" ({ cls := "java/util/AbstractList", name := "size", desc := "()I" } : Jvm.MethodName) ({ cls := "java/util/ArrayList", name := "size", desc := "()I" } : Jvm.MethodName)) ∈ lw_all := lw_g (lw_at lw_m7 192 rfl) rfl
theorem q1813 : (Jvm.Cond.selects "java/util/ArrayList" ({ cls := "java/util/AbstractList", name := "get", desc := "(I)Ljava/lang/Object;" } : Jvm.MethodName) ({ cls := "java/util/ArrayList", name := "get", desc := "(I)Ljava/lang/Object;" } : Jvm.MethodName)) ∈ lw_all := lw_g (lw_at lw_m7 231 rfl) rfl
theorem q2503 : (Jvm.Cond.instanceMethod ({ cls := "java/util/ArrayList", name := "remove", desc := "(I)Ljava/lang/Object;" } : Jvm.MethodName)) ∈ lw_all := lw_g (lw_at lw_m10 201 rfl) rfl
theorem q2504 : (Jvm.Cond.selects "java/util/ArrayList" ({ cls := "java/util/ArrayList", name := "remove", desc := "(I)Ljava/lang/Object;" } : Jvm.MethodName) ({ cls := "java/util/ArrayList", name := "remove", desc := "(I)Ljava/lang/Object;" } : Jvm.MethodName)) ∈ lw_all := lw_g (lw_at lw_m10 202 rfl) rfl
theorem q2505 : (Jvm.Cond.code ({ cls := "java/util/ArrayList", name := "remove", desc := "(I)Ljava/lang/Object;" } : Jvm.MethodName) prog_61_method_29_code (4 : Nat) (Option.some (Jvm.ClassFile.FieldType.object "java/lang/Object"))) ∈ lw_all := lw_g (lw_at lw_m10 203 rfl) rfl
theorem q2506 : (Jvm.Cond.methodLink "java/util/ArrayList" (144 : Nat) ({ cls := "java/util/ArrayList", name := "fastRemove", desc := "([Ljava/lang/Object;I)V" } : Jvm.MethodName)) ∈ lw_all := lw_g (lw_at lw_m10 204 rfl) rfl
theorem q2507 : (Jvm.Cond.privateMethod ({ cls := "java/util/ArrayList", name := "fastRemove", desc := "([Ljava/lang/Object;I)V" } : Jvm.MethodName)) ∈ lw_tbl := lw_at lw_m10 205 rfl
theorem q2508 : (Jvm.Cond.instanceMethod ({ cls := "java/util/ArrayList", name := "fastRemove", desc := "([Ljava/lang/Object;I)V" } : Jvm.MethodName)) ∈ lw_all := lw_g (lw_at lw_m10 206 rfl) rfl
theorem q2509 : (Jvm.Cond.code ({ cls := "java/util/ArrayList", name := "fastRemove", desc := "([Ljava/lang/Object;I)V" } : Jvm.MethodName) prog_61_method_39_code (4 : Nat) (Option.none : Option Jvm.ClassFile.FieldType)) ∈ lw_all := lw_g (lw_at lw_m10 207 rfl) rfl
theorem q2510 : (Jvm.Cond.methodLink "java/util/ArrayList" (112 : Nat) ({ cls := "java/lang/System", name := "arraycopy", desc := "(Ljava/lang/Object;ILjava/lang/Object;II)V" } : Jvm.MethodName)) ∈ lw_all := lw_g (lw_at lw_m10 208 rfl) rfl
theorem q3481 : (Jvm.Cond.castable "java/util/ArrayList" "java/lang/Object") ∈ lw_tbl := lw_at lw_m14 219 rfl
theorem in_J2 : ∀ w ∈ wsJ20, w ∈ lw_all := lw_in wsJ20 [568, 564, 566] (by decide +kernel) (by decide +kernel)
/-! J3.java_lang_Throwable -/
def RJ3 : String := "java/lang/Throwable"
def TJ3 : u_T := fun k => match k with
  | 0 => ("java/lang/Throwable", "cause", "Ljava/lang/Throwable;", false)
  | 1 => ("java/lang/Throwable", "stackTrace", "[Ljava/lang/StackTraceElement;", false)
  | 2 => ("java/lang/Throwable", "suppressedExceptions", "Ljava/util/List;", false)
  | 3 => ("java/lang/Throwable", "detailMessage", "Ljava/lang/String;", false)
  | _ => ("java/lang/Throwable", "backtrace", "Ljava/lang/Object;", false)
def tyJ3 : Nat → FieldType := fun k => match k with
  | 0 => .object "java/lang/Throwable"
  | 1 => .array (.object "java/lang/StackTraceElement")
  | 2 => .object "java/util/List"
  | 3 => .object "java/lang/String"
  | _ => .object "java/lang/Object"
abbrev wsJ30 : List Cond := u_ws RJ3 TJ3 5
theorem nmJ3 : ∀ a, a < 5 → ∀ b, b < 5 → a ≠ b → (TJ3 a).2.1 ≠ (TJ3 b).2.1 := by decide +kernel
theorem tyJ3_ok : ∀ k, k < 5 → parseFieldDescriptor (TJ3 k).2.2.1 = some (tyJ3 k) := by decide +kernel
abbrev cJ3_init : ByteArray := prog_51_method_1_code
def yJ3_init : MethodName := ⟨RJ3, "<init>", "()V"⟩
abbrev cJ3_init_2 : ByteArray := prog_51_method_2_code
def yJ3_init_2 : MethodName := ⟨RJ3, "<init>", "(Ljava/lang/String;)V"⟩
abbrev cJ3_init_3 : ByteArray := prog_51_method_5_code
def yJ3_init_3 : MethodName := ⟨RJ3, "<init>", "(Ljava/lang/String;Ljava/lang/Throwable;ZZ)V"⟩
abbrev cJ3_init_4 : ByteArray := prog_51_method_4_code
def yJ3_init_4 : MethodName := ⟨RJ3, "<init>", "(Ljava/lang/Throwable;)V"⟩
abbrev cJ3_toString : ByteArray := prog_51_method_11_code
def yJ3_toString : MethodName := ⟨RJ3, "toString", "()Ljava/lang/String;"⟩
abbrev cJ3_getLocalizedMessage : ByteArray := prog_51_method_7_code
def yJ3_getLocalizedMessage : MethodName := ⟨RJ3, "getLocalizedMessage", "()Ljava/lang/String;"⟩
abbrev cJ3_getMessage : ByteArray := prog_51_method_6_code
def yJ3_getMessage : MethodName := ⟨RJ3, "getMessage", "()Ljava/lang/String;"⟩
theorem q149 : (Jvm.Cond.initialized "java/lang/Throwable") ∈ lw_all := lw_g (lw_at lw_m1 7 rfl) rfl
theorem q239 : (Jvm.Cond.declares ({ cls := "java/lang/Throwable", name := "<init>", desc := "()V" } : Jvm.MethodName)) ∈ lw_tbl := lw_at lw_m1 97 rfl
theorem q240 : (Jvm.Cond.declares ({ cls := "java/lang/Throwable", name := "<init>", desc := "(Ljava/lang/String;)V" } : Jvm.MethodName)) ∈ lw_tbl := lw_at lw_m1 98 rfl
theorem q244 : (Jvm.Cond.lays "java/lang/Throwable" "java/lang/Throwable" "cause" "Ljava/lang/Throwable;") ∈ lw_all := lw_g (lw_at lw_m1 102 rfl) rfl
theorem q246 : (Jvm.Cond.lays "java/lang/Throwable" "java/lang/Throwable" "stackTrace" "[Ljava/lang/StackTraceElement;") ∈ lw_all := lw_g (lw_at lw_m1 104 rfl) rfl
theorem q248 : (Jvm.Cond.lays "java/lang/Throwable" "java/lang/Throwable" "suppressedExceptions" "Ljava/util/List;") ∈ lw_all := lw_g (lw_at lw_m1 106 rfl) rfl
theorem q250 : (Jvm.Cond.lays "java/lang/Throwable" "java/lang/Throwable" "detailMessage" "Ljava/lang/String;") ∈ lw_all := lw_g (lw_at lw_m1 108 rfl) rfl
theorem q252 : (Jvm.Cond.lays "java/lang/Throwable" "java/lang/Throwable" "backtrace" "Ljava/lang/Object;") ∈ lw_all := lw_g (lw_at lw_m1 110 rfl) rfl
theorem q253 : (Jvm.Cond.fieldLink "java/lang/Throwable" (198 : Nat) "java/lang/Throwable" "backtrace" "Ljava/lang/Object;") ∈ lw_all := lw_g (lw_at lw_m1 111 rfl) rfl
theorem q254 : (Jvm.Cond.superclass "java/lang/Throwable" "java/lang/Object") ∈ lw_all := lw_g (lw_at lw_m1 112 rfl) rfl
theorem q255 : (Jvm.Cond.instanceMethod ({ cls := "java/lang/Throwable", name := "<init>", desc := "()V" } : Jvm.MethodName)) ∈ lw_all := lw_g (lw_at lw_m1 113 rfl) rfl
theorem q256 : (Jvm.Cond.code ({ cls := "java/lang/Throwable", name := "<init>", desc := "()V" } : Jvm.MethodName) prog_51_method_1_code (1 : Nat) (Option.none : Option Jvm.ClassFile.FieldType)) ∈ lw_all := lw_g (lw_at lw_m1 114 rfl) rfl
theorem q257 : (Jvm.Cond.methodLink "java/lang/Throwable" (1 : Nat) ({ cls := "java/lang/Object", name := "<init>", desc := "()V" } : Jvm.MethodName)) ∈ lw_all := lw_g (lw_at lw_m1 115 rfl) rfl
theorem q258 : (Jvm.Cond.fieldLink "java/lang/Throwable" (13 : Nat) "java/lang/Throwable" "UNASSIGNED_STACK" "[Ljava/lang/StackTraceElement;") ∈ lw_all := lw_g (lw_at lw_m1 116 rfl) rfl
theorem q259 : (Jvm.Cond.laysStatic "java/lang/Throwable" "UNASSIGNED_STACK" "[Ljava/lang/StackTraceElement;") ∈ lw_tbl := lw_at lw_m1 117 rfl
theorem q260 : (Jvm.Cond.fieldLink "java/lang/Throwable" (20 : Nat) "java/lang/Throwable" "SUPPRESSED_SENTINEL" "Ljava/util/List;") ∈ lw_all := lw_g (lw_at lw_m1 118 rfl) rfl
theorem q261 : (Jvm.Cond.laysStatic "java/lang/Throwable" "SUPPRESSED_SENTINEL" "Ljava/util/List;") ∈ lw_tbl := lw_at lw_m1 119 rfl
theorem q262 : (Jvm.Cond.methodLink "java/lang/Throwable" (27 : Nat) ({ cls := "java/lang/Throwable", name := "fillInStackTrace", desc := "()Ljava/lang/Throwable;" } : Jvm.MethodName)) ∈ lw_all := lw_g (lw_at lw_m1 120 rfl) rfl
theorem q263 : (Jvm.Cond.instanceMethod ({ cls := "java/lang/Throwable", name := "fillInStackTrace", desc := "()Ljava/lang/Throwable;" } : Jvm.MethodName)) ∈ lw_all := lw_g (lw_at lw_m1 121 rfl) rfl
theorem q264 : (Jvm.Cond.sameMethod "java/lang/Throwable" "java/lang/Throwable" "fillInStackTrace" "()Ljava/lang/Throwable;") ∈ lw_all := lw_g (lw_at lw_m1 122 rfl) rfl
theorem q271 : (Jvm.Cond.codeSync ({ cls := "java/lang/Throwable", name := "fillInStackTrace", desc := "()Ljava/lang/Throwable;" } : Jvm.MethodName) prog_51_method_18_code (1 : Nat) (Option.some (Jvm.ClassFile.FieldType.object "java/lang/Throwable"))) ∈ lw_all := lw_g (lw_at lw_m1 129 rfl) rfl
theorem q272 : (Jvm.Cond.methodLink "java/lang/Throwable" (202 : Nat) ({ cls := "java/lang/Throwable", name := "fillInStackTrace", desc := "(I)Ljava/lang/Throwable;" } : Jvm.MethodName)) ∈ lw_all := lw_g (lw_at lw_m1 130 rfl) rfl
theorem q273 : (Jvm.Cond.privateMethod ({ cls := "java/lang/Throwable", name := "fillInStackTrace", desc := "(I)Ljava/lang/Throwable;" } : Jvm.MethodName)) ∈ lw_tbl := lw_at lw_m1 131 rfl
theorem q274 : (Jvm.Cond.instanceMethod ({ cls := "java/lang/Throwable", name := "fillInStackTrace", desc := "(I)Ljava/lang/Throwable;" } : Jvm.MethodName)) ∈ lw_all := lw_g (lw_at lw_m1 132 rfl) rfl
theorem q275 : (Jvm.Cond.instantiable "java/lang/Throwable" (6 : Nat)) ∈ lw_all := lw_g (lw_at lw_m1 133 rfl) rfl
theorem q276 : (Jvm.Cond.native ({ cls := "java/lang/Throwable", name := "fillInStackTrace", desc := "(I)Ljava/lang/Throwable;" } : Jvm.MethodName)) ∈ lw_all := lw_g (lw_at lw_m1 134 rfl) rfl
theorem q510 : (Jvm.Cond.instanceMethod ({ cls := "java/lang/Throwable", name := "<init>", desc := "(Ljava/lang/String;)V" } : Jvm.MethodName)) ∈ lw_all := lw_g (lw_at lw_m2 128 rfl) rfl
theorem q511 : (Jvm.Cond.code ({ cls := "java/lang/Throwable", name := "<init>", desc := "(Ljava/lang/String;)V" } : Jvm.MethodName) prog_51_method_2_code (2 : Nat) (Option.none : Option Jvm.ClassFile.FieldType)) ∈ lw_all := lw_g (lw_at lw_m2 129 rfl) rfl
theorem q512 : (Jvm.Cond.fieldLink "java/lang/Throwable" (198 : Nat) "java/lang/Throwable" "backtrace" "Ljava/lang/Object;") ∈ lw_all := lw_g (lw_at lw_m2 130 rfl) rfl
theorem q513 : (Jvm.Cond.fieldLink "java/lang/Throwable" (31 : Nat) "java/lang/Throwable" "detailMessage" "Ljava/lang/String;") ∈ lw_all := lw_g (lw_at lw_m2 131 rfl) rfl
theorem q514 : (Jvm.Cond.fieldLink "java/lang/Throwable" (7 : Nat) "java/lang/Throwable" "cause" "Ljava/lang/Throwable;") ∈ lw_all := lw_g (lw_at lw_m2 132 rfl) rfl
theorem q515 : (Jvm.Cond.fieldLink "java/lang/Throwable" (17 : Nat) "java/lang/Throwable" "stackTrace" "[Ljava/lang/StackTraceElement;") ∈ lw_all := lw_g (lw_at lw_m2 133 rfl) rfl
theorem q516 : (Jvm.Cond.fieldLink "java/lang/Throwable" (24 : Nat) "java/lang/Throwable" "suppressedExceptions" "Ljava/util/List;") ∈ lw_all := lw_g (lw_at lw_m2 134 rfl) rfl
theorem q517 : (Jvm.Cond.soleField "java/lang/Throwable" "backtrace") ∈ lw_all := lw_g (lw_at lw_m2 135 rfl) rfl
theorem q518 : (Jvm.Cond.soleField "java/lang/Throwable" "detailMessage") ∈ lw_all := lw_g (lw_at lw_m2 136 rfl) rfl
theorem q519 : (Jvm.Cond.soleField "java/lang/Throwable" "cause") ∈ lw_all := lw_g (lw_at lw_m2 137 rfl) rfl
theorem q520 : (Jvm.Cond.soleField "java/lang/Throwable" "stackTrace") ∈ lw_all := lw_g (lw_at lw_m2 138 rfl) rfl
theorem q522 : (Jvm.Cond.soleField "java/lang/Throwable" "depth") ∈ lw_all := lw_g (lw_at lw_m2 140 rfl) rfl
theorem q523 : (Jvm.Cond.soleField "java/lang/Throwable" "suppressedExceptions") ∈ lw_all := lw_g (lw_at lw_m2 141 rfl) rfl
theorem q1036 : (Jvm.Cond.instanceMethod ({ cls := "java/lang/Throwable", name := "<init>", desc := "(Ljava/lang/String;Ljava/lang/Throwable;ZZ)V" } : Jvm.MethodName)) ∈ lw_all := lw_g (lw_at lw_m4 174 rfl) rfl
theorem q1037 : (Jvm.Cond.code ({ cls := "java/lang/Throwable", name := "<init>", desc := "(Ljava/lang/String;Ljava/lang/Throwable;ZZ)V" } : Jvm.MethodName) prog_51_method_5_code (5 : Nat) (Option.none : Option Jvm.ClassFile.FieldType)) ∈ lw_all := lw_g (lw_at lw_m4 175 rfl) rfl
theorem q1837 : (Jvm.Cond.instanceMethod ({ cls := "java/lang/Throwable", name := "<init>", desc := "(Ljava/lang/Throwable;)V" } : Jvm.MethodName)) ∈ lw_all := lw_g (lw_at lw_m8 15 rfl) rfl
theorem q1838 : (Jvm.Cond.code ({ cls := "java/lang/Throwable", name := "<init>", desc := "(Ljava/lang/Throwable;)V" } : Jvm.MethodName) prog_51_method_4_code (2 : Nat) (Option.none : Option Jvm.ClassFile.FieldType)) ∈ lw_all := lw_g (lw_at lw_m8 16 rfl) rfl
theorem q1839 : (Jvm.Cond.methodLink "java/lang/Throwable" (35 : Nat) ({ cls := "java/lang/Throwable", name := "toString", desc := "()Ljava/lang/String;" } : Jvm.MethodName)) ∈ lw_all := lw_g (lw_at lw_m8 17 rfl) rfl
theorem q1840 : (Jvm.Cond.instanceMethod ({ cls := "java/lang/Throwable", name := "toString", desc := "()Ljava/lang/String;" } : Jvm.MethodName)) ∈ lw_all := lw_g (lw_at lw_m8 18 rfl) rfl
theorem q1841 : (Jvm.Cond.sameMethod "java/lang/Throwable" "java/lang/Throwable" "toString" "()Ljava/lang/String;") ∈ lw_all := lw_g (lw_at lw_m8 19 rfl) rfl
theorem q1849 : (Jvm.Cond.code ({ cls := "java/lang/Throwable", name := "toString", desc := "()Ljava/lang/String;" } : Jvm.MethodName) prog_51_method_11_code (3 : Nat) (Option.some (Jvm.ClassFile.FieldType.object "java/lang/String"))) ∈ lw_all := lw_g (lw_at lw_m8 27 rfl) rfl
theorem q1850 : (Jvm.Cond.methodLink "java/lang/Throwable" (69 : Nat) ({ cls := "java/lang/Object", name := "getClass", desc := "()Ljava/lang/Class;" } : Jvm.MethodName)) ∈ lw_all := lw_g (lw_at lw_m8 28 rfl) rfl
theorem q1851 : (Jvm.Cond.methodLink "java/lang/Throwable" (78 : Nat) ({ cls := "java/lang/Throwable", name := "getLocalizedMessage", desc := "()Ljava/lang/String;" } : Jvm.MethodName)) ∈ lw_all := lw_g (lw_at lw_m8 29 rfl) rfl
theorem q1852 : (Jvm.Cond.instanceMethod ({ cls := "java/lang/Throwable", name := "getLocalizedMessage", desc := "()Ljava/lang/String;" } : Jvm.MethodName)) ∈ lw_all := lw_g (lw_at lw_m8 30 rfl) rfl
theorem q1853 : (Jvm.Cond.sameMethod "java/lang/Throwable" "java/lang/Throwable" "getLocalizedMessage" "()Ljava/lang/String;") ∈ lw_all := lw_g (lw_at lw_m8 31 rfl) rfl
theorem q1861 : (Jvm.Cond.code ({ cls := "java/lang/Throwable", name := "getLocalizedMessage", desc := "()Ljava/lang/String;" } : Jvm.MethodName) prog_51_method_7_code (1 : Nat) (Option.some (Jvm.ClassFile.FieldType.object "java/lang/String"))) ∈ lw_all := lw_g (lw_at lw_m8 39 rfl) rfl
theorem q1862 : (Jvm.Cond.methodLink "java/lang/Throwable" (39 : Nat) ({ cls := "java/lang/Throwable", name := "getMessage", desc := "()Ljava/lang/String;" } : Jvm.MethodName)) ∈ lw_all := lw_g (lw_at lw_m8 40 rfl) rfl
theorem q1863 : (Jvm.Cond.instanceMethod ({ cls := "java/lang/Throwable", name := "getMessage", desc := "()Ljava/lang/String;" } : Jvm.MethodName)) ∈ lw_all := lw_g (lw_at lw_m8 41 rfl) rfl
theorem q1864 : (Jvm.Cond.sameMethod "java/lang/Throwable" "java/lang/Throwable" "getMessage" "()Ljava/lang/String;") ∈ lw_all := lw_g (lw_at lw_m8 42 rfl) rfl
theorem q1872 : (Jvm.Cond.code ({ cls := "java/lang/Throwable", name := "getMessage", desc := "()Ljava/lang/String;" } : Jvm.MethodName) prog_51_method_6_code (1 : Nat) (Option.some (Jvm.ClassFile.FieldType.object "java/lang/String"))) ∈ lw_all := lw_g (lw_at lw_m8 50 rfl) rfl
theorem q1873 : (Jvm.Cond.classLink "java/lang/Throwable" (44 : Nat) "java/lang/StringBuilder") ∈ lw_all := lw_g (lw_at lw_m8 51 rfl) rfl
theorem q1874 : (Jvm.Cond.methodLink "java/lang/Throwable" (46 : Nat) ({ cls := "java/lang/StringBuilder", name := "<init>", desc := "()V" } : Jvm.MethodName)) ∈ lw_all := lw_g (lw_at lw_m8 52 rfl) rfl
theorem q1875 : (Jvm.Cond.methodLink "java/lang/Throwable" (49 : Nat) ({ cls := "java/lang/StringBuilder", name := "append", desc := "(Ljava/lang/String;)Ljava/lang/StringBuilder;" } : Jvm.MethodName)) ∈ lw_all := lw_g (lw_at lw_m8 53 rfl) rfl
theorem q1876 : (Jvm.Cond.stringRef "java/lang/Throwable" (81 : Nat) ": ") ∈ lw_tbl := lw_at lw_m8 54 rfl
theorem q1877 : (Jvm.Cond.methodLink "java/lang/Throwable" (60 : Nat) ({ cls := "java/lang/StringBuilder", name := "toString", desc := "()Ljava/lang/String;" } : Jvm.MethodName)) ∈ lw_all := lw_g (lw_at lw_m8 55 rfl) rfl
theorem q3454 : (Jvm.Cond.sameMethod "java/lang/Throwable" "java/lang/Throwable" "fillInStackTrace" "(I)Ljava/lang/Throwable;") ∈ lw_all := lw_g (lw_at lw_m14 192 rfl) rfl
theorem q3518 : (Jvm.Cond.castable "java/lang/Throwable" "java/lang/Object") ∈ lw_tbl := lw_at lw_m15 16 rfl
theorem in_J3 : ∀ w ∈ wsJ30, w ∈ lw_all := lw_in wsJ30 [244, 246, 248, 250, 252] (by decide +kernel) (by decide +kernel)
/-! J4.java_lang_Exception -/
def RJ4 : String := "java/lang/Exception"
abbrev cJ4_init : ByteArray := prog_35_method_2_code
def yJ4_init : MethodName := ⟨RJ4, "<init>", "(Ljava/lang/String;)V"⟩
abbrev cJ4_init_2 : ByteArray := prog_35_method_5_code
def yJ4_init_2 : MethodName := ⟨RJ4, "<init>", "(Ljava/lang/String;Ljava/lang/Throwable;ZZ)V"⟩
abbrev cJ4_init_3 : ByteArray := prog_35_method_1_code
def yJ4_init_3 : MethodName := ⟨RJ4, "<init>", "()V"⟩
abbrev cJ4_init_4 : ByteArray := prog_35_method_4_code
def yJ4_init_4 : MethodName := ⟨RJ4, "<init>", "(Ljava/lang/Throwable;)V"⟩
theorem q150 : (Jvm.Cond.initialized "java/lang/Exception") ∈ lw_all := lw_g (lw_at lw_m1 8 rfl) rfl
theorem q237 : (Jvm.Cond.declares ({ cls := "java/lang/Exception", name := "<init>", desc := "()V" } : Jvm.MethodName)) ∈ lw_tbl := lw_at lw_m1 95 rfl
theorem q238 : (Jvm.Cond.declares ({ cls := "java/lang/Exception", name := "<init>", desc := "(Ljava/lang/String;)V" } : Jvm.MethodName)) ∈ lw_tbl := lw_at lw_m1 96 rfl
theorem q507 : (Jvm.Cond.instanceMethod ({ cls := "java/lang/Exception", name := "<init>", desc := "(Ljava/lang/String;)V" } : Jvm.MethodName)) ∈ lw_all := lw_g (lw_at lw_m2 125 rfl) rfl
theorem q508 : (Jvm.Cond.code ({ cls := "java/lang/Exception", name := "<init>", desc := "(Ljava/lang/String;)V" } : Jvm.MethodName) prog_35_method_2_code (2 : Nat) (Option.none : Option Jvm.ClassFile.FieldType)) ∈ lw_all := lw_g (lw_at lw_m2 126 rfl) rfl
theorem q509 : (Jvm.Cond.methodLink "java/lang/Exception" (7 : Nat) ({ cls := "java/lang/Throwable", name := "<init>", desc := "(Ljava/lang/String;)V" } : Jvm.MethodName)) ∈ lw_all := lw_g (lw_at lw_m2 127 rfl) rfl
theorem q1033 : (Jvm.Cond.instanceMethod ({ cls := "java/lang/Exception", name := "<init>", desc := "(Ljava/lang/String;Ljava/lang/Throwable;ZZ)V" } : Jvm.MethodName)) ∈ lw_all := lw_g (lw_at lw_m4 171 rfl) rfl
theorem q1034 : (Jvm.Cond.code ({ cls := "java/lang/Exception", name := "<init>", desc := "(Ljava/lang/String;Ljava/lang/Throwable;ZZ)V" } : Jvm.MethodName) prog_35_method_5_code (5 : Nat) (Option.none : Option Jvm.ClassFile.FieldType)) ∈ lw_all := lw_g (lw_at lw_m4 172 rfl) rfl
theorem q1035 : (Jvm.Cond.methodLink "java/lang/Exception" (16 : Nat) ({ cls := "java/lang/Throwable", name := "<init>", desc := "(Ljava/lang/String;Ljava/lang/Throwable;ZZ)V" } : Jvm.MethodName)) ∈ lw_all := lw_g (lw_at lw_m4 173 rfl) rfl
theorem q1546 : (Jvm.Cond.instanceMethod ({ cls := "java/lang/Exception", name := "<init>", desc := "()V" } : Jvm.MethodName)) ∈ lw_all := lw_g (lw_at lw_m6 204 rfl) rfl
theorem q1547 : (Jvm.Cond.code ({ cls := "java/lang/Exception", name := "<init>", desc := "()V" } : Jvm.MethodName) prog_35_method_1_code (1 : Nat) (Option.none : Option Jvm.ClassFile.FieldType)) ∈ lw_all := lw_g (lw_at lw_m6 205 rfl) rfl
theorem q1548 : (Jvm.Cond.methodLink "java/lang/Exception" (1 : Nat) ({ cls := "java/lang/Throwable", name := "<init>", desc := "()V" } : Jvm.MethodName)) ∈ lw_all := lw_g (lw_at lw_m6 206 rfl) rfl
theorem q1834 : (Jvm.Cond.instanceMethod ({ cls := "java/lang/Exception", name := "<init>", desc := "(Ljava/lang/Throwable;)V" } : Jvm.MethodName)) ∈ lw_all := lw_g (lw_at lw_m8 12 rfl) rfl
theorem q1835 : (Jvm.Cond.code ({ cls := "java/lang/Exception", name := "<init>", desc := "(Ljava/lang/Throwable;)V" } : Jvm.MethodName) prog_35_method_4_code (2 : Nat) (Option.none : Option Jvm.ClassFile.FieldType)) ∈ lw_all := lw_g (lw_at lw_m8 13 rfl) rfl
theorem q1836 : (Jvm.Cond.methodLink "java/lang/Exception" (13 : Nat) ({ cls := "java/lang/Throwable", name := "<init>", desc := "(Ljava/lang/Throwable;)V" } : Jvm.MethodName)) ∈ lw_all := lw_g (lw_at lw_m8 14 rfl) rfl
/-! J5.java_lang_RuntimeException -/
def RJ5 : String := "java/lang/RuntimeException"
abbrev cJ5_init : ByteArray := prog_43_method_2_code
def yJ5_init : MethodName := ⟨RJ5, "<init>", "(Ljava/lang/String;)V"⟩
abbrev cJ5_init_2 : ByteArray := prog_43_method_1_code
def yJ5_init_2 : MethodName := ⟨RJ5, "<init>", "()V"⟩
abbrev cJ5_init_3 : ByteArray := prog_43_method_4_code
def yJ5_init_3 : MethodName := ⟨RJ5, "<init>", "(Ljava/lang/Throwable;)V"⟩
theorem q151 : (Jvm.Cond.initialized "java/lang/RuntimeException") ∈ lw_all := lw_g (lw_at lw_m1 9 rfl) rfl
theorem q235 : (Jvm.Cond.declares ({ cls := "java/lang/RuntimeException", name := "<init>", desc := "()V" } : Jvm.MethodName)) ∈ lw_tbl := lw_at lw_m1 93 rfl
theorem q236 : (Jvm.Cond.declares ({ cls := "java/lang/RuntimeException", name := "<init>", desc := "(Ljava/lang/String;)V" } : Jvm.MethodName)) ∈ lw_tbl := lw_at lw_m1 94 rfl
theorem q504 : (Jvm.Cond.instanceMethod ({ cls := "java/lang/RuntimeException", name := "<init>", desc := "(Ljava/lang/String;)V" } : Jvm.MethodName)) ∈ lw_all := lw_g (lw_at lw_m2 122 rfl) rfl
theorem q505 : (Jvm.Cond.code ({ cls := "java/lang/RuntimeException", name := "<init>", desc := "(Ljava/lang/String;)V" } : Jvm.MethodName) prog_43_method_2_code (2 : Nat) (Option.none : Option Jvm.ClassFile.FieldType)) ∈ lw_all := lw_g (lw_at lw_m2 123 rfl) rfl
theorem q506 : (Jvm.Cond.methodLink "java/lang/RuntimeException" (7 : Nat) ({ cls := "java/lang/Exception", name := "<init>", desc := "(Ljava/lang/String;)V" } : Jvm.MethodName)) ∈ lw_all := lw_g (lw_at lw_m2 124 rfl) rfl
theorem q1543 : (Jvm.Cond.instanceMethod ({ cls := "java/lang/RuntimeException", name := "<init>", desc := "()V" } : Jvm.MethodName)) ∈ lw_all := lw_g (lw_at lw_m6 201 rfl) rfl
theorem q1544 : (Jvm.Cond.code ({ cls := "java/lang/RuntimeException", name := "<init>", desc := "()V" } : Jvm.MethodName) prog_43_method_1_code (1 : Nat) (Option.none : Option Jvm.ClassFile.FieldType)) ∈ lw_all := lw_g (lw_at lw_m6 202 rfl) rfl
theorem q1545 : (Jvm.Cond.methodLink "java/lang/RuntimeException" (1 : Nat) ({ cls := "java/lang/Exception", name := "<init>", desc := "()V" } : Jvm.MethodName)) ∈ lw_all := lw_g (lw_at lw_m6 203 rfl) rfl
theorem q1831 : (Jvm.Cond.instanceMethod ({ cls := "java/lang/RuntimeException", name := "<init>", desc := "(Ljava/lang/Throwable;)V" } : Jvm.MethodName)) ∈ lw_all := lw_g (lw_at lw_m8 9 rfl) rfl
theorem q1832 : (Jvm.Cond.code ({ cls := "java/lang/RuntimeException", name := "<init>", desc := "(Ljava/lang/Throwable;)V" } : Jvm.MethodName) prog_43_method_4_code (2 : Nat) (Option.none : Option Jvm.ClassFile.FieldType)) ∈ lw_all := lw_g (lw_at lw_m8 10 rfl) rfl
theorem q1833 : (Jvm.Cond.methodLink "java/lang/RuntimeException" (13 : Nat) ({ cls := "java/lang/Exception", name := "<init>", desc := "(Ljava/lang/Throwable;)V" } : Jvm.MethodName)) ∈ lw_all := lw_g (lw_at lw_m8 11 rfl) rfl
/-! J6.java_lang_IllegalArgumentException -/
def RJ6 : String := "java/lang/IllegalArgumentException"
def TJ6 : u_T := fun k => match k with
  | 0 => ("java/lang/Throwable", "cause", "Ljava/lang/Throwable;", false)
  | 1 => ("java/lang/Throwable", "stackTrace", "[Ljava/lang/StackTraceElement;", false)
  | 2 => ("java/lang/Throwable", "suppressedExceptions", "Ljava/util/List;", false)
  | 3 => ("java/lang/Throwable", "detailMessage", "Ljava/lang/String;", false)
  | 4 => ("java/lang/Throwable", "backtrace", "Ljava/lang/Object;", false)
  | _ => ("java/lang/Throwable", "depth", "I", false)
def tyJ6 : Nat → FieldType := fun k => match k with
  | 0 => .object "java/lang/Throwable"
  | 1 => .array (.object "java/lang/StackTraceElement")
  | 2 => .object "java/util/List"
  | 3 => .object "java/lang/String"
  | 4 => .object "java/lang/Object"
  | _ => .int
abbrev wsJ60 : List Cond := u_ws RJ6 TJ6 6
theorem nmJ6 : ∀ a, a < 6 → ∀ b, b < 6 → a ≠ b → (TJ6 a).2.1 ≠ (TJ6 b).2.1 := by decide +kernel
theorem tyJ6_ok : ∀ k, k < 6 → parseFieldDescriptor (TJ6 k).2.2.1 = some (tyJ6 k) := by decide +kernel
abbrev cJ6_init : ByteArray := prog_36_method_2_code
def yJ6_init : MethodName := ⟨RJ6, "<init>", "(Ljava/lang/String;)V"⟩
abbrev cJ6_init_2 : ByteArray := prog_36_method_1_code
def yJ6_init_2 : MethodName := ⟨RJ6, "<init>", "()V"⟩
theorem q152 : (Jvm.Cond.initialized "java/lang/IllegalArgumentException") ∈ lw_all := lw_g (lw_at lw_m1 10 rfl) rfl
theorem q233 : (Jvm.Cond.instantiable "java/lang/IllegalArgumentException" (6 : Nat)) ∈ lw_all := lw_g (lw_at lw_m1 91 rfl) rfl
theorem q234 : (Jvm.Cond.castable "java/lang/IllegalArgumentException" "java/lang/IllegalArgumentException") ∈ lw_tbl := lw_at lw_m1 92 rfl
theorem q241 : (Jvm.Cond.selects "java/lang/IllegalArgumentException" ({ cls := "java/lang/Throwable", name := "fillInStackTrace", desc := "(I)Ljava/lang/Throwable;" } : Jvm.MethodName) ({ cls := "java/lang/Throwable", name := "fillInStackTrace", desc := "(I)Ljava/lang/Throwable;" } : Jvm.MethodName)) ∈ lw_all := lw_g (lw_at lw_m1 99 rfl) rfl
theorem q242 : (Jvm.Cond.selects "java/lang/IllegalArgumentException" ({ cls := "java/lang/Throwable", name := "fillInStackTrace", desc := "()Ljava/lang/Throwable;" } : Jvm.MethodName) ({ cls := "java/lang/Throwable", name := "fillInStackTrace", desc := "()Ljava/lang/Throwable;" } : Jvm.MethodName)) ∈ lw_all := lw_g (lw_at lw_m1 100 rfl) rfl
theorem q243 : (Jvm.Cond.lays "java/lang/IllegalArgumentException" "java/lang/Throwable" "cause" "Ljava/lang/Throwable;") ∈ lw_all := lw_g (lw_at lw_m1 101 rfl) rfl
theorem q245 : (Jvm.Cond.lays "java/lang/IllegalArgumentException" "java/lang/Throwable" "stackTrace" "[Ljava/lang/StackTraceElement;") ∈ lw_all := lw_g (lw_at lw_m1 103 rfl) rfl
theorem q247 : (Jvm.Cond.lays "java/lang/IllegalArgumentException" "java/lang/Throwable" "suppressedExceptions" "Ljava/util/List;") ∈ lw_all := lw_g (lw_at lw_m1 105 rfl) rfl
theorem q249 : (Jvm.Cond.lays "java/lang/IllegalArgumentException" "java/lang/Throwable" "detailMessage" "Ljava/lang/String;") ∈ lw_all := lw_g (lw_at lw_m1 107 rfl) rfl
theorem q251 : (Jvm.Cond.lays "java/lang/IllegalArgumentException" "java/lang/Throwable" "backtrace" "Ljava/lang/Object;") ∈ lw_all := lw_g (lw_at lw_m1 109 rfl) rfl
theorem q501 : (Jvm.Cond.instanceMethod ({ cls := "java/lang/IllegalArgumentException", name := "<init>", desc := "(Ljava/lang/String;)V" } : Jvm.MethodName)) ∈ lw_all := lw_g (lw_at lw_m2 119 rfl) rfl
theorem q502 : (Jvm.Cond.code ({ cls := "java/lang/IllegalArgumentException", name := "<init>", desc := "(Ljava/lang/String;)V" } : Jvm.MethodName) prog_36_method_2_code (2 : Nat) (Option.none : Option Jvm.ClassFile.FieldType)) ∈ lw_all := lw_g (lw_at lw_m2 120 rfl) rfl
theorem q503 : (Jvm.Cond.methodLink "java/lang/IllegalArgumentException" (7 : Nat) ({ cls := "java/lang/RuntimeException", name := "<init>", desc := "(Ljava/lang/String;)V" } : Jvm.MethodName)) ∈ lw_all := lw_g (lw_at lw_m2 121 rfl) rfl
theorem q521 : (Jvm.Cond.lays "java/lang/IllegalArgumentException" "java/lang/Throwable" "depth" "I") ∈ lw_all := lw_g (lw_at lw_m2 139 rfl) rfl
theorem q524 : (Jvm.Cond.superclass "java/lang/IllegalArgumentException" "java/lang/RuntimeException") ∈ lw_all := lw_g (lw_at lw_m2 142 rfl) rfl
theorem q794 : (Jvm.Cond.selects "java/lang/IllegalArgumentException" ({ cls := "java/lang/Object", name := "getClass", desc := "()Ljava/lang/Class;" } : Jvm.MethodName) ({ cls := "java/lang/Object", name := "getClass", desc := "()Ljava/lang/Class;" } : Jvm.MethodName)) ∈ lw_all := lw_g (lw_at lw_m3 172 rfl) rfl
theorem q1239 : (Jvm.Cond.selects "java/lang/IllegalArgumentException" ({ cls := "java/lang/Object", name := "equals", desc := "(Ljava/lang/Object;)Z" } : Jvm.MethodName) ({ cls := "java/lang/Object", name := "equals", desc := "(Ljava/lang/Object;)Z" } : Jvm.MethodName)) ∈ lw_all := lw_g (lw_at lw_m5 137 rfl) rfl
theorem q1844 : (Jvm.Cond.selects "java/lang/IllegalArgumentException" ({ cls := "java/lang/Throwable", name := "toString", desc := "()Ljava/lang/String;" } : Jvm.MethodName) ({ cls := "java/lang/Throwable", name := "toString", desc := "()Ljava/lang/String;" } : Jvm.MethodName)) ∈ lw_all := lw_g (lw_at lw_m8 22 rfl) rfl
theorem q1856 : (Jvm.Cond.selects "java/lang/IllegalArgumentException" ({ cls := "java/lang/Throwable", name := "getLocalizedMessage", desc := "()Ljava/lang/String;" } : Jvm.MethodName) ({ cls := "java/lang/Throwable", name := "getLocalizedMessage", desc := "()Ljava/lang/String;" } : Jvm.MethodName)) ∈ lw_all := lw_g (lw_at lw_m8 34 rfl) rfl
theorem q1867 : (Jvm.Cond.selects "java/lang/IllegalArgumentException" ({ cls := "java/lang/Throwable", name := "getMessage", desc := "()Ljava/lang/String;" } : Jvm.MethodName) ({ cls := "java/lang/Throwable", name := "getMessage", desc := "()Ljava/lang/String;" } : Jvm.MethodName)) ∈ lw_all := lw_g (lw_at lw_m8 45 rfl) rfl
theorem q2006 : (Jvm.Cond.instanceMethod ({ cls := "java/lang/IllegalArgumentException", name := "<init>", desc := "()V" } : Jvm.MethodName)) ∈ lw_all := lw_g (lw_at lw_m8 184 rfl) rfl
theorem q2007 : (Jvm.Cond.code ({ cls := "java/lang/IllegalArgumentException", name := "<init>", desc := "()V" } : Jvm.MethodName) prog_36_method_1_code (1 : Nat) (Option.none : Option Jvm.ClassFile.FieldType)) ∈ lw_all := lw_g (lw_at lw_m8 185 rfl) rfl
theorem q2008 : (Jvm.Cond.methodLink "java/lang/IllegalArgumentException" (1 : Nat) ({ cls := "java/lang/RuntimeException", name := "<init>", desc := "()V" } : Jvm.MethodName)) ∈ lw_all := lw_g (lw_at lw_m8 186 rfl) rfl
theorem q3482 : (Jvm.Cond.castable "java/lang/IllegalArgumentException" "java/lang/Object") ∈ lw_tbl := lw_at lw_m14 220 rfl
theorem in_J6 : ∀ w ∈ wsJ60, w ∈ lw_all := lw_in wsJ60 [243, 245, 247, 249, 251, 521] (by decide +kernel) (by decide +kernel)
/-! J7.java_lang_AbstractStringBuilder -/
def RJ7 : String := "java/lang/AbstractStringBuilder"
abbrev cJ7_init : ByteArray := prog_28_method_2_code
def yJ7_init : MethodName := ⟨RJ7, "<init>", "(I)V"⟩
abbrev cJ7_append : ByteArray := prog_28_method_22_code
def yJ7_append : MethodName := ⟨RJ7, "append", "(Ljava/lang/String;)Ljava/lang/AbstractStringBuilder;"⟩
abbrev cJ7_appendNull : ByteArray := prog_28_method_26_code
def yJ7_appendNull : MethodName := ⟨RJ7, "appendNull", "()Ljava/lang/AbstractStringBuilder;"⟩
abbrev cJ7_ensureCapacityInternal : ByteArray := prog_28_method_9_code
def yJ7_ensureCapacityInternal : MethodName := ⟨RJ7, "ensureCapacityInternal", "(I)V"⟩
abbrev cJ7_newCapacity : ByteArray := prog_28_method_10_code
def yJ7_newCapacity : MethodName := ⟨RJ7, "newCapacity", "(I)I"⟩
abbrev cJ7_isLatin1 : ByteArray := prog_28_method_68_code
def yJ7_isLatin1 : MethodName := ⟨RJ7, "isLatin1", "()Z"⟩
abbrev cJ7_putStringAt : ByteArray := prog_28_method_73_code
def yJ7_putStringAt : MethodName := ⟨RJ7, "putStringAt", "(ILjava/lang/String;)V"⟩
abbrev cJ7_inflateIfNeededFor : ByteArray := prog_28_method_71_code
def yJ7_inflateIfNeededFor : MethodName := ⟨RJ7, "inflateIfNeededFor", "(Ljava/lang/String;)V"⟩
abbrev cJ7_inflate : ByteArray := prog_28_method_11_code
def yJ7_inflate : MethodName := ⟨RJ7, "inflate", "()V"⟩
abbrev cJ7_append_2 : ByteArray := prog_28_method_32_code
def yJ7_append_2 : MethodName := ⟨RJ7, "append", "(I)Ljava/lang/AbstractStringBuilder;"⟩
abbrev cJ7_getValue : ByteArray := prog_28_method_64_code
def yJ7_getValue : MethodName := ⟨RJ7, "getValue", "()[B"⟩
abbrev cJ7_length : ByteArray := prog_28_method_6_code
def yJ7_length : MethodName := ⟨RJ7, "length", "()I"⟩
abbrev cJ7_append_3 : ByteArray := prog_28_method_31_code
def yJ7_append_3 : MethodName := ⟨RJ7, "append", "(C)Ljava/lang/AbstractStringBuilder;"⟩
abbrev cJ7_setLength : ByteArray := prog_28_method_13_code
def yJ7_setLength : MethodName := ⟨RJ7, "setLength", "(I)V"⟩
abbrev cJ7_charAt : ByteArray := prog_28_method_14_code
def yJ7_charAt : MethodName := ⟨RJ7, "charAt", "(I)C"⟩
theorem q153 : (Jvm.Cond.initialized "java/lang/AbstractStringBuilder") ∈ lw_all := lw_g (lw_at lw_m1 11 rfl) rfl
theorem q283 : (Jvm.Cond.instanceMethod ({ cls := "java/lang/AbstractStringBuilder", name := "<init>", desc := "(I)V" } : Jvm.MethodName)) ∈ lw_all := lw_g (lw_at lw_m1 141 rfl) rfl
theorem q284 : (Jvm.Cond.code ({ cls := "java/lang/AbstractStringBuilder", name := "<init>", desc := "(I)V" } : Jvm.MethodName) prog_28_method_2_code (2 : Nat) (Option.none : Option Jvm.ClassFile.FieldType)) ∈ lw_all := lw_g (lw_at lw_m1 142 rfl) rfl
theorem q285 : (Jvm.Cond.methodLink "java/lang/AbstractStringBuilder" (3 : Nat) ({ cls := "java/lang/Object", name := "<init>", desc := "()V" } : Jvm.MethodName)) ∈ lw_all := lw_g (lw_at lw_m1 143 rfl) rfl
theorem q286 : (Jvm.Cond.fieldLink "java/lang/AbstractStringBuilder" (18 : Nat) "java/lang/String" "COMPACT_STRINGS" "Z") ∈ lw_all := lw_g (lw_at lw_m1 144 rfl) rfl
theorem q288 : (Jvm.Cond.methodLink "java/lang/AbstractStringBuilder" (26 : Nat) ({ cls := "java/lang/StringUTF16", name := "newBytesFor", desc := "(I)[B" } : Jvm.MethodName)) ∈ lw_all := lw_g (lw_at lw_m1 146 rfl) rfl
theorem q295 : (Jvm.Cond.fieldLink "java/lang/AbstractStringBuilder" (15 : Nat) "java/lang/AbstractStringBuilder" "value" "[B") ∈ lw_all := lw_g (lw_at lw_m1 153 rfl) rfl
theorem q296 : (Jvm.Cond.fieldLink "java/lang/AbstractStringBuilder" (22 : Nat) "java/lang/AbstractStringBuilder" "coder" "B") ∈ lw_all := lw_g (lw_at lw_m1 154 rfl) rfl
theorem q297 : (Jvm.Cond.fieldLink "java/lang/AbstractStringBuilder" (73 : Nat) "java/lang/AbstractStringBuilder" "maybeLatin1" "Z") ∈ lw_all := lw_g (lw_at lw_m1 155 rfl) rfl
theorem q299 : (Jvm.Cond.fieldLink "java/lang/AbstractStringBuilder" (79 : Nat) "java/lang/AbstractStringBuilder" "count" "I") ∈ lw_all := lw_g (lw_at lw_m1 157 rfl) rfl
theorem q301 : (Jvm.Cond.soleField "java/lang/AbstractStringBuilder" "value") ∈ lw_all := lw_g (lw_at lw_m1 159 rfl) rfl
theorem q303 : (Jvm.Cond.soleField "java/lang/AbstractStringBuilder" "coder") ∈ lw_all := lw_g (lw_at lw_m1 161 rfl) rfl
theorem q305 : (Jvm.Cond.soleField "java/lang/AbstractStringBuilder" "maybeLatin1") ∈ lw_all := lw_g (lw_at lw_m1 163 rfl) rfl
theorem q307 : (Jvm.Cond.soleField "java/lang/AbstractStringBuilder" "count") ∈ lw_all := lw_g (lw_at lw_m1 165 rfl) rfl
theorem q317 : (Jvm.Cond.instanceMethod ({ cls := "java/lang/AbstractStringBuilder", name := "append", desc := "(Ljava/lang/String;)Ljava/lang/AbstractStringBuilder;" } : Jvm.MethodName)) ∈ lw_all := lw_g (lw_at lw_m1 175 rfl) rfl
theorem q318 : (Jvm.Cond.code ({ cls := "java/lang/AbstractStringBuilder", name := "append", desc := "(Ljava/lang/String;)Ljava/lang/AbstractStringBuilder;" } : Jvm.MethodName) prog_28_method_22_code (3 : Nat) (Option.some (Jvm.ClassFile.FieldType.object "java/lang/AbstractStringBuilder"))) ∈ lw_all := lw_g (lw_at lw_m1 176 rfl) rfl
theorem q319 : (Jvm.Cond.methodLink "java/lang/AbstractStringBuilder" (204 : Nat) ({ cls := "java/lang/AbstractStringBuilder", name := "appendNull", desc := "()Ljava/lang/AbstractStringBuilder;" } : Jvm.MethodName)) ∈ lw_all := lw_g (lw_at lw_m1 177 rfl) rfl
theorem q320 : (Jvm.Cond.privateMethod ({ cls := "java/lang/AbstractStringBuilder", name := "appendNull", desc := "()Ljava/lang/AbstractStringBuilder;" } : Jvm.MethodName)) ∈ lw_tbl := lw_at lw_m1 178 rfl
theorem q321 : (Jvm.Cond.instanceMethod ({ cls := "java/lang/AbstractStringBuilder", name := "appendNull", desc := "()Ljava/lang/AbstractStringBuilder;" } : Jvm.MethodName)) ∈ lw_all := lw_g (lw_at lw_m1 179 rfl) rfl
theorem q322 : (Jvm.Cond.code ({ cls := "java/lang/AbstractStringBuilder", name := "appendNull", desc := "()Ljava/lang/AbstractStringBuilder;" } : Jvm.MethodName) prog_28_method_26_code (3 : Nat) (Option.some (Jvm.ClassFile.FieldType.object "java/lang/AbstractStringBuilder"))) ∈ lw_all := lw_g (lw_at lw_m1 180 rfl) rfl
theorem q323 : (Jvm.Cond.methodLink "java/lang/AbstractStringBuilder" (100 : Nat) ({ cls := "java/lang/AbstractStringBuilder", name := "ensureCapacityInternal", desc := "(I)V" } : Jvm.MethodName)) ∈ lw_all := lw_g (lw_at lw_m1 181 rfl) rfl
theorem q324 : (Jvm.Cond.privateMethod ({ cls := "java/lang/AbstractStringBuilder", name := "ensureCapacityInternal", desc := "(I)V" } : Jvm.MethodName)) ∈ lw_tbl := lw_at lw_m1 182 rfl
theorem q325 : (Jvm.Cond.instanceMethod ({ cls := "java/lang/AbstractStringBuilder", name := "ensureCapacityInternal", desc := "(I)V" } : Jvm.MethodName)) ∈ lw_all := lw_g (lw_at lw_m1 183 rfl) rfl
theorem q326 : (Jvm.Cond.code ({ cls := "java/lang/AbstractStringBuilder", name := "ensureCapacityInternal", desc := "(I)V" } : Jvm.MethodName) prog_28_method_9_code (3 : Nat) (Option.none : Option Jvm.ClassFile.FieldType)) ∈ lw_all := lw_g (lw_at lw_m1 184 rfl) rfl
theorem q327 : (Jvm.Cond.methodLink "java/lang/AbstractStringBuilder" (104 : Nat) ({ cls := "java/lang/AbstractStringBuilder", name := "newCapacity", desc := "(I)I" } : Jvm.MethodName)) ∈ lw_all := lw_g (lw_at lw_m1 185 rfl) rfl
theorem q328 : (Jvm.Cond.privateMethod ({ cls := "java/lang/AbstractStringBuilder", name := "newCapacity", desc := "(I)I" } : Jvm.MethodName)) ∈ lw_tbl := lw_at lw_m1 186 rfl
theorem q329 : (Jvm.Cond.instanceMethod ({ cls := "java/lang/AbstractStringBuilder", name := "newCapacity", desc := "(I)I" } : Jvm.MethodName)) ∈ lw_all := lw_g (lw_at lw_m1 187 rfl) rfl
theorem q330 : (Jvm.Cond.code ({ cls := "java/lang/AbstractStringBuilder", name := "newCapacity", desc := "(I)I" } : Jvm.MethodName) prog_28_method_10_code (6 : Nat) (Option.some Jvm.ClassFile.FieldType.int)) ∈ lw_all := lw_g (lw_at lw_m1 188 rfl) rfl
theorem q331 : (Jvm.Cond.methodLink "java/lang/AbstractStringBuilder" (114 : Nat) ({ cls := "jdk/internal/util/ArraysSupport", name := "newLength", desc := "(III)I" } : Jvm.MethodName)) ∈ lw_all := lw_g (lw_at lw_m1 189 rfl) rfl
theorem q341 : (Jvm.Cond.constant "java/lang/AbstractStringBuilder" (39 : Nat) (2147483647 : Int32)) ∈ lw_all := lw_g (lw_at lw_m1 199 rfl) rfl
theorem q342 : (Jvm.Cond.methodLink "java/lang/AbstractStringBuilder" (108 : Nat) ({ cls := "java/util/Arrays", name := "copyOf", desc := "([BI)[B" } : Jvm.MethodName)) ∈ lw_all := lw_g (lw_at lw_m1 200 rfl) rfl
theorem q358 : (Jvm.Cond.methodLink "java/lang/AbstractStringBuilder" (83 : Nat) ({ cls := "java/lang/AbstractStringBuilder", name := "isLatin1", desc := "()Z" } : Jvm.MethodName)) ∈ lw_all := lw_g (lw_at lw_m1 216 rfl) rfl
theorem q359 : (Jvm.Cond.instanceMethod ({ cls := "java/lang/AbstractStringBuilder", name := "isLatin1", desc := "()Z" } : Jvm.MethodName)) ∈ lw_all := lw_g (lw_at lw_m1 217 rfl) rfl
theorem q360 : (Jvm.Cond.sameMethod "java/lang/AbstractStringBuilder" "java/lang/AbstractStringBuilder" "isLatin1" "()Z") ∈ lw_all := lw_g (lw_at lw_m1 218 rfl) rfl
theorem q362 : (Jvm.Cond.code ({ cls := "java/lang/AbstractStringBuilder", name := "isLatin1", desc := "()Z" } : Jvm.MethodName) prog_28_method_68_code (1 : Nat) (Option.some Jvm.ClassFile.FieldType.boolean)) ∈ lw_all := lw_g (lw_at lw_m1 220 rfl) rfl
theorem q363 : (Jvm.Cond.methodLink "java/lang/AbstractStringBuilder" (226 : Nat) ({ cls := "java/lang/StringUTF16", name := "putCharsAt", desc := "([BICCCC)I" } : Jvm.MethodName)) ∈ lw_all := lw_g (lw_at lw_m1 221 rfl) rfl
theorem q389 : (Jvm.Cond.methodLink "java/lang/AbstractStringBuilder" (32 : Nat) ({ cls := "java/lang/String", name := "length", desc := "()I" } : Jvm.MethodName)) ∈ lw_all := lw_g (lw_at lw_m2 7 rfl) rfl
theorem q398 : (Jvm.Cond.methodLink "java/lang/AbstractStringBuilder" (208 : Nat) ({ cls := "java/lang/AbstractStringBuilder", name := "putStringAt", desc := "(ILjava/lang/String;)V" } : Jvm.MethodName)) ∈ lw_all := lw_g (lw_at lw_m2 16 rfl) rfl
theorem q399 : (Jvm.Cond.privateMethod ({ cls := "java/lang/AbstractStringBuilder", name := "putStringAt", desc := "(ILjava/lang/String;)V" } : Jvm.MethodName)) ∈ lw_tbl := lw_at lw_m2 17 rfl
theorem q400 : (Jvm.Cond.instanceMethod ({ cls := "java/lang/AbstractStringBuilder", name := "putStringAt", desc := "(ILjava/lang/String;)V" } : Jvm.MethodName)) ∈ lw_all := lw_g (lw_at lw_m2 18 rfl) rfl
theorem q401 : (Jvm.Cond.code ({ cls := "java/lang/AbstractStringBuilder", name := "putStringAt", desc := "(ILjava/lang/String;)V" } : Jvm.MethodName) prog_28_method_73_code (3 : Nat) (Option.none : Option Jvm.ClassFile.FieldType)) ∈ lw_all := lw_g (lw_at lw_m2 19 rfl) rfl
theorem q402 : (Jvm.Cond.methodLink "java/lang/AbstractStringBuilder" (397 : Nat) ({ cls := "java/lang/AbstractStringBuilder", name := "inflateIfNeededFor", desc := "(Ljava/lang/String;)V" } : Jvm.MethodName)) ∈ lw_all := lw_g (lw_at lw_m2 20 rfl) rfl
theorem q403 : (Jvm.Cond.privateMethod ({ cls := "java/lang/AbstractStringBuilder", name := "inflateIfNeededFor", desc := "(Ljava/lang/String;)V" } : Jvm.MethodName)) ∈ lw_tbl := lw_at lw_m2 21 rfl
theorem q404 : (Jvm.Cond.instanceMethod ({ cls := "java/lang/AbstractStringBuilder", name := "inflateIfNeededFor", desc := "(Ljava/lang/String;)V" } : Jvm.MethodName)) ∈ lw_all := lw_g (lw_at lw_m2 22 rfl) rfl
theorem q405 : (Jvm.Cond.code ({ cls := "java/lang/AbstractStringBuilder", name := "inflateIfNeededFor", desc := "(Ljava/lang/String;)V" } : Jvm.MethodName) prog_28_method_71_code (2 : Nat) (Option.none : Option Jvm.ClassFile.FieldType)) ∈ lw_all := lw_g (lw_at lw_m2 23 rfl) rfl
theorem q406 : (Jvm.Cond.methodLink "java/lang/AbstractStringBuilder" (40 : Nat) ({ cls := "java/lang/String", name := "coder", desc := "()B" } : Jvm.MethodName)) ∈ lw_all := lw_g (lw_at lw_m2 24 rfl) rfl
theorem q407 : (Jvm.Cond.methodLink "java/lang/AbstractStringBuilder" (195 : Nat) ({ cls := "java/lang/AbstractStringBuilder", name := "inflate", desc := "()V" } : Jvm.MethodName)) ∈ lw_all := lw_g (lw_at lw_m2 25 rfl) rfl
theorem q408 : (Jvm.Cond.privateMethod ({ cls := "java/lang/AbstractStringBuilder", name := "inflate", desc := "()V" } : Jvm.MethodName)) ∈ lw_tbl := lw_at lw_m2 26 rfl
theorem q409 : (Jvm.Cond.instanceMethod ({ cls := "java/lang/AbstractStringBuilder", name := "inflate", desc := "()V" } : Jvm.MethodName)) ∈ lw_all := lw_g (lw_at lw_m2 27 rfl) rfl
theorem q410 : (Jvm.Cond.code ({ cls := "java/lang/AbstractStringBuilder", name := "inflate", desc := "()V" } : Jvm.MethodName) prog_28_method_11_code (2 : Nat) (Option.none : Option Jvm.ClassFile.FieldType)) ∈ lw_all := lw_g (lw_at lw_m2 28 rfl) rfl
theorem q411 : (Jvm.Cond.methodLink "java/lang/AbstractStringBuilder" (125 : Nat) ({ cls := "java/lang/StringLatin1", name := "inflate", desc := "([BI[BII)V" } : Jvm.MethodName)) ∈ lw_all := lw_g (lw_at lw_m2 29 rfl) rfl
theorem q426 : (Jvm.Cond.methodLink "java/lang/AbstractStringBuilder" (399 : Nat) ({ cls := "java/lang/String", name := "getBytes", desc := "([BIB)V" } : Jvm.MethodName)) ∈ lw_all := lw_g (lw_at lw_m2 44 rfl) rfl
theorem q437 : (Jvm.Cond.instanceMethod ({ cls := "java/lang/AbstractStringBuilder", name := "append", desc := "(I)Ljava/lang/AbstractStringBuilder;" } : Jvm.MethodName)) ∈ lw_all := lw_g (lw_at lw_m2 55 rfl) rfl
theorem q438 : (Jvm.Cond.code ({ cls := "java/lang/AbstractStringBuilder", name := "append", desc := "(I)Ljava/lang/AbstractStringBuilder;" } : Jvm.MethodName) prog_28_method_32_code (4 : Nat) (Option.some (Jvm.ClassFile.FieldType.object "java/lang/AbstractStringBuilder"))) ∈ lw_all := lw_g (lw_at lw_m2 56 rfl) rfl
theorem q439 : (Jvm.Cond.methodLink "java/lang/AbstractStringBuilder" (245 : Nat) ({ cls := "java/lang/Integer", name := "stringSize", desc := "(I)I" } : Jvm.MethodName)) ∈ lw_all := lw_g (lw_at lw_m2 57 rfl) rfl
theorem q442 : (Jvm.Cond.methodLink "java/lang/AbstractStringBuilder" (248 : Nat) ({ cls := "java/lang/Integer", name := "getChars", desc := "(II[B)I" } : Jvm.MethodName)) ∈ lw_all := lw_g (lw_at lw_m2 60 rfl) rfl
theorem q449 : (Jvm.Cond.methodLink "java/lang/AbstractStringBuilder" (251 : Nat) ({ cls := "java/lang/StringUTF16", name := "getChars", desc := "(III[B)I" } : Jvm.MethodName)) ∈ lw_all := lw_g (lw_at lw_m2 67 rfl) rfl
theorem q471 : (Jvm.Cond.instanceMethod ({ cls := "java/lang/AbstractStringBuilder", name := "getValue", desc := "()[B" } : Jvm.MethodName)) ∈ lw_all := lw_g (lw_at lw_m2 89 rfl) rfl
theorem q472 : (Jvm.Cond.sameMethod "java/lang/AbstractStringBuilder" "java/lang/AbstractStringBuilder" "getValue" "()[B") ∈ lw_all := lw_g (lw_at lw_m2 90 rfl) rfl
theorem q474 : (Jvm.Cond.code ({ cls := "java/lang/AbstractStringBuilder", name := "getValue", desc := "()[B" } : Jvm.MethodName) prog_28_method_64_code (1 : Nat) (Option.some (Jvm.ClassFile.FieldType.array Jvm.ClassFile.FieldType.byte))) ∈ lw_all := lw_g (lw_at lw_m2 92 rfl) rfl
theorem q476 : (Jvm.Cond.instanceMethod ({ cls := "java/lang/AbstractStringBuilder", name := "length", desc := "()I" } : Jvm.MethodName)) ∈ lw_all := lw_g (lw_at lw_m2 94 rfl) rfl
theorem q477 : (Jvm.Cond.sameMethod "java/lang/AbstractStringBuilder" "java/lang/AbstractStringBuilder" "length" "()I") ∈ lw_all := lw_g (lw_at lw_m2 95 rfl) rfl
theorem q482 : (Jvm.Cond.code ({ cls := "java/lang/AbstractStringBuilder", name := "length", desc := "()I" } : Jvm.MethodName) prog_28_method_6_code (1 : Nat) (Option.some Jvm.ClassFile.FieldType.int)) ∈ lw_all := lw_g (lw_at lw_m2 100 rfl) rfl
theorem q940 : (Jvm.Cond.instanceMethod ({ cls := "java/lang/AbstractStringBuilder", name := "append", desc := "(C)Ljava/lang/AbstractStringBuilder;" } : Jvm.MethodName)) ∈ lw_all := lw_g (lw_at lw_m4 78 rfl) rfl
theorem q941 : (Jvm.Cond.code ({ cls := "java/lang/AbstractStringBuilder", name := "append", desc := "(C)Ljava/lang/AbstractStringBuilder;" } : Jvm.MethodName) prog_28_method_31_code (2 : Nat) (Option.some (Jvm.ClassFile.FieldType.object "java/lang/AbstractStringBuilder"))) ∈ lw_all := lw_g (lw_at lw_m4 79 rfl) rfl
theorem q942 : (Jvm.Cond.methodLink "java/lang/AbstractStringBuilder" (191 : Nat) ({ cls := "java/lang/StringLatin1", name := "canEncode", desc := "(C)Z" } : Jvm.MethodName)) ∈ lw_all := lw_g (lw_at lw_m4 80 rfl) rfl
theorem q945 : (Jvm.Cond.methodLink "java/lang/AbstractStringBuilder" (197 : Nat) ({ cls := "java/lang/StringUTF16", name := "putCharSB", desc := "([BII)V" } : Jvm.MethodName)) ∈ lw_all := lw_g (lw_at lw_m4 83 rfl) rfl
theorem q2671 : (Jvm.Cond.instanceMethod ({ cls := "java/lang/AbstractStringBuilder", name := "setLength", desc := "(I)V" } : Jvm.MethodName)) ∈ lw_all := lw_g (lw_at lw_m11 129 rfl) rfl
theorem q2672 : (Jvm.Cond.code ({ cls := "java/lang/AbstractStringBuilder", name := "setLength", desc := "(I)V" } : Jvm.MethodName) prog_28_method_13_code (2 : Nat) (Option.none : Option Jvm.ClassFile.FieldType)) ∈ lw_all := lw_g (lw_at lw_m11 130 rfl) rfl
theorem q2673 : (Jvm.Cond.classLink "java/lang/AbstractStringBuilder" (129 : Nat) "java/lang/StringIndexOutOfBoundsException") ∈ lw_all := lw_g (lw_at lw_m11 131 rfl) rfl
theorem q2675 : (Jvm.Cond.methodLink "java/lang/AbstractStringBuilder" (131 : Nat) ({ cls := "java/lang/StringIndexOutOfBoundsException", name := "<init>", desc := "(I)V" } : Jvm.MethodName)) ∈ lw_all := lw_g (lw_at lw_m11 133 rfl) rfl
theorem q2692 : (Jvm.Cond.methodLink "java/lang/AbstractStringBuilder" (133 : Nat) ({ cls := "java/lang/StringLatin1", name := "fillNull", desc := "([BII)V" } : Jvm.MethodName)) ∈ lw_all := lw_g (lw_at lw_m11 150 rfl) rfl
theorem q2714 : (Jvm.Cond.methodLink "java/lang/AbstractStringBuilder" (137 : Nat) ({ cls := "java/lang/StringUTF16", name := "fillNull", desc := "([BII)V" } : Jvm.MethodName)) ∈ lw_all := lw_g (lw_at lw_m11 172 rfl) rfl
theorem q2734 : (Jvm.Cond.instanceMethod ({ cls := "java/lang/AbstractStringBuilder", name := "charAt", desc := "(I)C" } : Jvm.MethodName)) ∈ lw_all := lw_g (lw_at lw_m11 192 rfl) rfl
theorem q2735 : (Jvm.Cond.code ({ cls := "java/lang/AbstractStringBuilder", name := "charAt", desc := "(I)C" } : Jvm.MethodName) prog_28_method_14_code (5 : Nat) (Option.some Jvm.ClassFile.FieldType.char)) ∈ lw_all := lw_g (lw_at lw_m11 193 rfl) rfl
theorem q2736 : (Jvm.Cond.methodLink "java/lang/AbstractStringBuilder" (138 : Nat) ({ cls := "java/lang/Math", name := "min", desc := "(II)I" } : Jvm.MethodName)) ∈ lw_all := lw_g (lw_at lw_m11 194 rfl) rfl
theorem q2737 : (Jvm.Cond.methodLink "java/lang/AbstractStringBuilder" (144 : Nat) ({ cls := "java/lang/String", name := "checkIndex", desc := "(II)V" } : Jvm.MethodName)) ∈ lw_all := lw_g (lw_at lw_m11 195 rfl) rfl
theorem q2738 : (Jvm.Cond.methodLink "java/lang/AbstractStringBuilder" (148 : Nat) ({ cls := "java/lang/StringUTF16", name := "getChar", desc := "([BI)C" } : Jvm.MethodName)) ∈ lw_all := lw_g (lw_at lw_m11 196 rfl) rfl
theorem q3455 : (Jvm.Cond.sameMethod "java/lang/AbstractStringBuilder" "java/lang/AbstractStringBuilder" "append" "(Ljava/lang/String;)Ljava/lang/AbstractStringBuilder;") ∈ lw_all := lw_g (lw_at lw_m14 193 rfl) rfl
theorem q3456 : (Jvm.Cond.sameMethod "java/lang/AbstractStringBuilder" "java/lang/AbstractStringBuilder" "appendNull" "()Ljava/lang/AbstractStringBuilder;") ∈ lw_all := lw_g (lw_at lw_m14 194 rfl) rfl
theorem q3457 : (Jvm.Cond.sameMethod "java/lang/AbstractStringBuilder" "java/lang/AbstractStringBuilder" "ensureCapacityInternal" "(I)V") ∈ lw_all := lw_g (lw_at lw_m14 195 rfl) rfl
theorem q3458 : (Jvm.Cond.sameMethod "java/lang/AbstractStringBuilder" "java/lang/AbstractStringBuilder" "newCapacity" "(I)I") ∈ lw_all := lw_g (lw_at lw_m14 196 rfl) rfl
theorem q3459 : (Jvm.Cond.sameMethod "java/lang/AbstractStringBuilder" "java/lang/AbstractStringBuilder" "putStringAt" "(ILjava/lang/String;)V") ∈ lw_all := lw_g (lw_at lw_m14 197 rfl) rfl
theorem q3460 : (Jvm.Cond.sameMethod "java/lang/AbstractStringBuilder" "java/lang/AbstractStringBuilder" "inflateIfNeededFor" "(Ljava/lang/String;)V") ∈ lw_all := lw_g (lw_at lw_m14 198 rfl) rfl
theorem q3461 : (Jvm.Cond.sameMethod "java/lang/AbstractStringBuilder" "java/lang/AbstractStringBuilder" "inflate" "()V") ∈ lw_all := lw_g (lw_at lw_m14 199 rfl) rfl
theorem q3462 : (Jvm.Cond.sameMethod "java/lang/AbstractStringBuilder" "java/lang/AbstractStringBuilder" "append" "(I)Ljava/lang/AbstractStringBuilder;") ∈ lw_all := lw_g (lw_at lw_m14 200 rfl) rfl
theorem q3463 : (Jvm.Cond.sameMethod "java/lang/AbstractStringBuilder" "java/lang/AbstractStringBuilder" "append" "(C)Ljava/lang/AbstractStringBuilder;") ∈ lw_all := lw_g (lw_at lw_m14 201 rfl) rfl
theorem q3467 : (Jvm.Cond.sameMethod "java/lang/AbstractStringBuilder" "java/lang/AbstractStringBuilder" "setLength" "(I)V") ∈ lw_all := lw_g (lw_at lw_m14 205 rfl) rfl
theorem q3469 : (Jvm.Cond.sameMethod "java/lang/AbstractStringBuilder" "java/lang/AbstractStringBuilder" "charAt" "(I)C") ∈ lw_all := lw_g (lw_at lw_m14 207 rfl) rfl
/-! J8.java_lang_StringBuilder -/
def RJ8 : String := "java/lang/StringBuilder"
def TJ8 : u_T := fun k => match k with
  | 0 => ("java/lang/AbstractStringBuilder", "value", "[B", false)
  | 1 => ("java/lang/AbstractStringBuilder", "coder", "B", false)
  | 2 => ("java/lang/AbstractStringBuilder", "maybeLatin1", "Z", false)
  | _ => ("java/lang/AbstractStringBuilder", "count", "I", false)
def tyJ8 : Nat → FieldType := fun k => match k with
  | 0 => .array .byte
  | 1 => .byte
  | 2 => .boolean
  | _ => .int
abbrev wsJ80 : List Cond := u_ws RJ8 TJ8 4
theorem nmJ8 : ∀ a, a < 4 → ∀ b, b < 4 → a ≠ b → (TJ8 a).2.1 ≠ (TJ8 b).2.1 := by decide +kernel
theorem tyJ8_ok : ∀ k, k < 4 → parseFieldDescriptor (TJ8 k).2.2.1 = some (tyJ8 k) := by decide +kernel
abbrev cJ8_init : ByteArray := prog_45_method_1_code
def yJ8_init : MethodName := ⟨RJ8, "<init>", "()V"⟩
abbrev cJ8_append : ByteArray := prog_45_method_7_code
def yJ8_append : MethodName := ⟨RJ8, "append", "(Ljava/lang/String;)Ljava/lang/StringBuilder;"⟩
abbrev cJ8_append_2 : ByteArray := prog_45_method_15_code
def yJ8_append_2 : MethodName := ⟨RJ8, "append", "(I)Ljava/lang/StringBuilder;"⟩
abbrev cJ8_toString : ByteArray := prog_45_method_42_code
def yJ8_toString : MethodName := ⟨RJ8, "toString", "()Ljava/lang/String;"⟩
abbrev cJ8_length : ByteArray := prog_45_method_93_code
def yJ8_length : MethodName := ⟨RJ8, "length", "()I"⟩
abbrev cJ8_append_3 : ByteArray := prog_45_method_14_code
def yJ8_append_3 : MethodName := ⟨RJ8, "append", "(C)Ljava/lang/StringBuilder;"⟩
abbrev cJ8_setLength : ByteArray := prog_45_method_89_code
def yJ8_setLength : MethodName := ⟨RJ8, "setLength", "(I)V"⟩
abbrev cJ8_charAt : ByteArray := prog_45_method_88_code
def yJ8_charAt : MethodName := ⟨RJ8, "charAt", "(I)C"⟩
theorem q154 : (Jvm.Cond.initialized "java/lang/StringBuilder") ∈ lw_all := lw_g (lw_at lw_m1 12 rfl) rfl
theorem q278 : (Jvm.Cond.instantiable "java/lang/StringBuilder" (4 : Nat)) ∈ lw_all := lw_g (lw_at lw_m1 136 rfl) rfl
theorem q280 : (Jvm.Cond.instanceMethod ({ cls := "java/lang/StringBuilder", name := "<init>", desc := "()V" } : Jvm.MethodName)) ∈ lw_all := lw_g (lw_at lw_m1 138 rfl) rfl
theorem q281 : (Jvm.Cond.code ({ cls := "java/lang/StringBuilder", name := "<init>", desc := "()V" } : Jvm.MethodName) prog_45_method_1_code (1 : Nat) (Option.none : Option Jvm.ClassFile.FieldType)) ∈ lw_all := lw_g (lw_at lw_m1 139 rfl) rfl
theorem q282 : (Jvm.Cond.methodLink "java/lang/StringBuilder" (1 : Nat) ({ cls := "java/lang/AbstractStringBuilder", name := "<init>", desc := "(I)V" } : Jvm.MethodName)) ∈ lw_all := lw_g (lw_at lw_m1 140 rfl) rfl
theorem q300 : (Jvm.Cond.lays "java/lang/StringBuilder" "java/lang/AbstractStringBuilder" "value" "[B") ∈ lw_all := lw_g (lw_at lw_m1 158 rfl) rfl
theorem q302 : (Jvm.Cond.lays "java/lang/StringBuilder" "java/lang/AbstractStringBuilder" "coder" "B") ∈ lw_all := lw_g (lw_at lw_m1 160 rfl) rfl
theorem q304 : (Jvm.Cond.lays "java/lang/StringBuilder" "java/lang/AbstractStringBuilder" "maybeLatin1" "Z") ∈ lw_all := lw_g (lw_at lw_m1 162 rfl) rfl
theorem q306 : (Jvm.Cond.lays "java/lang/StringBuilder" "java/lang/AbstractStringBuilder" "count" "I") ∈ lw_all := lw_g (lw_at lw_m1 164 rfl) rfl
theorem q308 : (Jvm.Cond.superclass "java/lang/StringBuilder" "java/lang/AbstractStringBuilder") ∈ lw_all := lw_g (lw_at lw_m1 166 rfl) rfl
theorem q313 : (Jvm.Cond.instanceMethod ({ cls := "java/lang/StringBuilder", name := "append", desc := "(Ljava/lang/String;)Ljava/lang/StringBuilder;" } : Jvm.MethodName)) ∈ lw_all := lw_g (lw_at lw_m1 171 rfl) rfl
theorem q314 : (Jvm.Cond.selects "java/lang/StringBuilder" ({ cls := "java/lang/StringBuilder", name := "append", desc := "(Ljava/lang/String;)Ljava/lang/StringBuilder;" } : Jvm.MethodName) ({ cls := "java/lang/StringBuilder", name := "append", desc := "(Ljava/lang/String;)Ljava/lang/StringBuilder;" } : Jvm.MethodName)) ∈ lw_all := lw_g (lw_at lw_m1 172 rfl) rfl
theorem q315 : (Jvm.Cond.code ({ cls := "java/lang/StringBuilder", name := "append", desc := "(Ljava/lang/String;)Ljava/lang/StringBuilder;" } : Jvm.MethodName) prog_45_method_7_code (2 : Nat) (Option.some (Jvm.ClassFile.FieldType.object "java/lang/StringBuilder"))) ∈ lw_all := lw_g (lw_at lw_m1 173 rfl) rfl
theorem q316 : (Jvm.Cond.methodLink "java/lang/StringBuilder" (29 : Nat) ({ cls := "java/lang/AbstractStringBuilder", name := "append", desc := "(Ljava/lang/String;)Ljava/lang/AbstractStringBuilder;" } : Jvm.MethodName)) ∈ lw_all := lw_g (lw_at lw_m1 174 rfl) rfl
theorem q361 : (Jvm.Cond.selects "java/lang/StringBuilder" ({ cls := "java/lang/AbstractStringBuilder", name := "isLatin1", desc := "()Z" } : Jvm.MethodName) ({ cls := "java/lang/AbstractStringBuilder", name := "isLatin1", desc := "()Z" } : Jvm.MethodName)) ∈ lw_all := lw_g (lw_at lw_m1 219 rfl) rfl
theorem q433 : (Jvm.Cond.instanceMethod ({ cls := "java/lang/StringBuilder", name := "append", desc := "(I)Ljava/lang/StringBuilder;" } : Jvm.MethodName)) ∈ lw_all := lw_g (lw_at lw_m2 51 rfl) rfl
theorem q434 : (Jvm.Cond.selects "java/lang/StringBuilder" ({ cls := "java/lang/StringBuilder", name := "append", desc := "(I)Ljava/lang/StringBuilder;" } : Jvm.MethodName) ({ cls := "java/lang/StringBuilder", name := "append", desc := "(I)Ljava/lang/StringBuilder;" } : Jvm.MethodName)) ∈ lw_all := lw_g (lw_at lw_m2 52 rfl) rfl
theorem q435 : (Jvm.Cond.code ({ cls := "java/lang/StringBuilder", name := "append", desc := "(I)Ljava/lang/StringBuilder;" } : Jvm.MethodName) prog_45_method_15_code (2 : Nat) (Option.some (Jvm.ClassFile.FieldType.object "java/lang/StringBuilder"))) ∈ lw_all := lw_g (lw_at lw_m2 53 rfl) rfl
theorem q436 : (Jvm.Cond.methodLink "java/lang/StringBuilder" (53 : Nat) ({ cls := "java/lang/AbstractStringBuilder", name := "append", desc := "(I)Ljava/lang/AbstractStringBuilder;" } : Jvm.MethodName)) ∈ lw_all := lw_g (lw_at lw_m2 54 rfl) rfl
theorem q458 : (Jvm.Cond.instanceMethod ({ cls := "java/lang/StringBuilder", name := "toString", desc := "()Ljava/lang/String;" } : Jvm.MethodName)) ∈ lw_all := lw_g (lw_at lw_m2 76 rfl) rfl
theorem q459 : (Jvm.Cond.selects "java/lang/StringBuilder" ({ cls := "java/lang/StringBuilder", name := "toString", desc := "()Ljava/lang/String;" } : Jvm.MethodName) ({ cls := "java/lang/StringBuilder", name := "toString", desc := "()Ljava/lang/String;" } : Jvm.MethodName)) ∈ lw_all := lw_g (lw_at lw_m2 77 rfl) rfl
theorem q460 : (Jvm.Cond.code ({ cls := "java/lang/StringBuilder", name := "toString", desc := "()Ljava/lang/String;" } : Jvm.MethodName) prog_45_method_42_code (1 : Nat) (Option.some (Jvm.ClassFile.FieldType.object "java/lang/String"))) ∈ lw_all := lw_g (lw_at lw_m2 78 rfl) rfl
theorem q461 : (Jvm.Cond.classLink "java/lang/StringBuilder" (18 : Nat) "java/lang/String") ∈ lw_all := lw_g (lw_at lw_m2 79 rfl) rfl
theorem q463 : (Jvm.Cond.methodLink "java/lang/StringBuilder" (137 : Nat) ({ cls := "java/lang/String", name := "<init>", desc := "(Ljava/lang/StringBuilder;)V" } : Jvm.MethodName)) ∈ lw_all := lw_g (lw_at lw_m2 81 rfl) rfl
theorem q473 : (Jvm.Cond.selects "java/lang/StringBuilder" ({ cls := "java/lang/AbstractStringBuilder", name := "getValue", desc := "()[B" } : Jvm.MethodName) ({ cls := "java/lang/AbstractStringBuilder", name := "getValue", desc := "()[B" } : Jvm.MethodName)) ∈ lw_all := lw_g (lw_at lw_m2 91 rfl) rfl
theorem q478 : (Jvm.Cond.selects "java/lang/StringBuilder" ({ cls := "java/lang/AbstractStringBuilder", name := "length", desc := "()I" } : Jvm.MethodName) ({ cls := "java/lang/StringBuilder", name := "length", desc := "()I" } : Jvm.MethodName)) ∈ lw_all := lw_g (lw_at lw_m2 96 rfl) rfl
theorem q479 : (Jvm.Cond.instanceMethod ({ cls := "java/lang/StringBuilder", name := "length", desc := "()I" } : Jvm.MethodName)) ∈ lw_all := lw_g (lw_at lw_m2 97 rfl) rfl
theorem q480 : (Jvm.Cond.code ({ cls := "java/lang/StringBuilder", name := "length", desc := "()I" } : Jvm.MethodName) prog_45_method_93_code (1 : Nat) (Option.some Jvm.ClassFile.FieldType.int)) ∈ lw_all := lw_g (lw_at lw_m2 98 rfl) rfl
theorem q481 : (Jvm.Cond.methodLink "java/lang/StringBuilder" (343 : Nat) ({ cls := "java/lang/AbstractStringBuilder", name := "length", desc := "()I" } : Jvm.MethodName)) ∈ lw_all := lw_g (lw_at lw_m2 99 rfl) rfl
theorem q798 : (Jvm.Cond.selects "java/lang/StringBuilder" ({ cls := "java/lang/Object", name := "getClass", desc := "()Ljava/lang/Class;" } : Jvm.MethodName) ({ cls := "java/lang/Object", name := "getClass", desc := "()Ljava/lang/Class;" } : Jvm.MethodName)) ∈ lw_all := lw_g (lw_at lw_m3 176 rfl) rfl
theorem q936 : (Jvm.Cond.instanceMethod ({ cls := "java/lang/StringBuilder", name := "append", desc := "(C)Ljava/lang/StringBuilder;" } : Jvm.MethodName)) ∈ lw_all := lw_g (lw_at lw_m4 74 rfl) rfl
theorem q937 : (Jvm.Cond.selects "java/lang/StringBuilder" ({ cls := "java/lang/StringBuilder", name := "append", desc := "(C)Ljava/lang/StringBuilder;" } : Jvm.MethodName) ({ cls := "java/lang/StringBuilder", name := "append", desc := "(C)Ljava/lang/StringBuilder;" } : Jvm.MethodName)) ∈ lw_all := lw_g (lw_at lw_m4 75 rfl) rfl
theorem q938 : (Jvm.Cond.code ({ cls := "java/lang/StringBuilder", name := "append", desc := "(C)Ljava/lang/StringBuilder;" } : Jvm.MethodName) prog_45_method_14_code (2 : Nat) (Option.some (Jvm.ClassFile.FieldType.object "java/lang/StringBuilder"))) ∈ lw_all := lw_g (lw_at lw_m4 76 rfl) rfl
theorem q939 : (Jvm.Cond.methodLink "java/lang/StringBuilder" (50 : Nat) ({ cls := "java/lang/AbstractStringBuilder", name := "append", desc := "(C)Ljava/lang/AbstractStringBuilder;" } : Jvm.MethodName)) ∈ lw_all := lw_g (lw_at lw_m4 77 rfl) rfl
theorem q1243 : (Jvm.Cond.selects "java/lang/StringBuilder" ({ cls := "java/lang/Object", name := "equals", desc := "(Ljava/lang/Object;)Z" } : Jvm.MethodName) ({ cls := "java/lang/Object", name := "equals", desc := "(Ljava/lang/Object;)Z" } : Jvm.MethodName)) ∈ lw_all := lw_g (lw_at lw_m5 141 rfl) rfl
theorem q2667 : (Jvm.Cond.instanceMethod ({ cls := "java/lang/StringBuilder", name := "setLength", desc := "(I)V" } : Jvm.MethodName)) ∈ lw_all := lw_g (lw_at lw_m11 125 rfl) rfl
theorem q2668 : (Jvm.Cond.selects "java/lang/StringBuilder" ({ cls := "java/lang/StringBuilder", name := "setLength", desc := "(I)V" } : Jvm.MethodName) ({ cls := "java/lang/StringBuilder", name := "setLength", desc := "(I)V" } : Jvm.MethodName)) ∈ lw_all := lw_g (lw_at lw_m11 126 rfl) rfl
theorem q2669 : (Jvm.Cond.code ({ cls := "java/lang/StringBuilder", name := "setLength", desc := "(I)V" } : Jvm.MethodName) prog_45_method_89_code (2 : Nat) (Option.none : Option Jvm.ClassFile.FieldType)) ∈ lw_all := lw_g (lw_at lw_m11 127 rfl) rfl
theorem q2670 : (Jvm.Cond.methodLink "java/lang/StringBuilder" (333 : Nat) ({ cls := "java/lang/AbstractStringBuilder", name := "setLength", desc := "(I)V" } : Jvm.MethodName)) ∈ lw_all := lw_g (lw_at lw_m11 128 rfl) rfl
theorem q2730 : (Jvm.Cond.instanceMethod ({ cls := "java/lang/StringBuilder", name := "charAt", desc := "(I)C" } : Jvm.MethodName)) ∈ lw_all := lw_g (lw_at lw_m11 188 rfl) rfl
theorem q2731 : (Jvm.Cond.selects "java/lang/StringBuilder" ({ cls := "java/lang/StringBuilder", name := "charAt", desc := "(I)C" } : Jvm.MethodName) ({ cls := "java/lang/StringBuilder", name := "charAt", desc := "(I)C" } : Jvm.MethodName)) ∈ lw_all := lw_g (lw_at lw_m11 189 rfl) rfl
theorem q2732 : (Jvm.Cond.code ({ cls := "java/lang/StringBuilder", name := "charAt", desc := "(I)C" } : Jvm.MethodName) prog_45_method_88_code (2 : Nat) (Option.some Jvm.ClassFile.FieldType.char)) ∈ lw_all := lw_g (lw_at lw_m11 190 rfl) rfl
theorem q2733 : (Jvm.Cond.methodLink "java/lang/StringBuilder" (329 : Nat) ({ cls := "java/lang/AbstractStringBuilder", name := "charAt", desc := "(I)C" } : Jvm.MethodName)) ∈ lw_all := lw_g (lw_at lw_m11 191 rfl) rfl
theorem q3468 : (Jvm.Cond.selects "java/lang/StringBuilder" ({ cls := "java/lang/StringBuilder", name := "length", desc := "()I" } : Jvm.MethodName) ({ cls := "java/lang/StringBuilder", name := "length", desc := "()I" } : Jvm.MethodName)) ∈ lw_all := lw_g (lw_at lw_m14 206 rfl) rfl
theorem q3483 : (Jvm.Cond.castable "java/lang/StringBuilder" "java/lang/Object") ∈ lw_tbl := lw_at lw_m14 221 rfl
theorem in_J8 : ∀ w ∈ wsJ80, w ∈ lw_all := lw_in wsJ80 [300, 302, 304, 306] (by decide +kernel) (by decide +kernel)
/-! J9.java_lang_String -/
def RJ9 : String := "java/lang/String"
def TJ9 : u_T := fun k => match k with
  | 0 => ("java/lang/String", "value", "[B", true)
  | 1 => ("java/lang/String", "coder", "B", true)
  | 2 => ("java/lang/String", "hash", "I", false)
  | _ => ("java/lang/String", "hashIsZero", "Z", false)
def tyJ9 : Nat → FieldType := fun k => match k with
  | 0 => .array .byte
  | 1 => .byte
  | 2 => .int
  | _ => .boolean
abbrev wsJ90 : List Cond := u_ws RJ9 TJ9 4
theorem nmJ9 : ∀ a, a < 4 → ∀ b, b < 4 → a ≠ b → (TJ9 a).2.1 ≠ (TJ9 b).2.1 := by decide +kernel
theorem tyJ9_ok : ∀ k, k < 4 → parseFieldDescriptor (TJ9 k).2.2.1 = some (tyJ9 k) := by decide +kernel
abbrev cJ9_checkBoundsBeginEnd : ByteArray := prog_44_method_158_code
def yJ9_checkBoundsBeginEnd : MethodName := ⟨RJ9, "checkBoundsBeginEnd", "(III)V"⟩
abbrev cJ9_length : ByteArray := prog_44_method_54_code
def yJ9_length : MethodName := ⟨RJ9, "length", "()I"⟩
abbrev cJ9_coder : ByteArray := prog_44_method_152_code
def yJ9_coder : MethodName := ⟨RJ9, "coder", "()B"⟩
abbrev cJ9_checkBoundsOffCount : ByteArray := prog_44_method_157_code
def yJ9_checkBoundsOffCount : MethodName := ⟨RJ9, "checkBoundsOffCount", "(III)I"⟩
abbrev cJ9_getBytes : ByteArray := prog_44_method_147_code
def yJ9_getBytes : MethodName := ⟨RJ9, "getBytes", "([BIB)V"⟩
abbrev cJ9_init : ByteArray := prog_44_method_53_code
def yJ9_init : MethodName := ⟨RJ9, "<init>", "(Ljava/lang/StringBuilder;)V"⟩
abbrev cJ9_init_2 : ByteArray := prog_44_method_150_code
def yJ9_init_2 : MethodName := ⟨RJ9, "<init>", "(Ljava/lang/AbstractStringBuilder;Ljava/lang/Void;)V"⟩
abbrev cJ9_checkIndex : ByteArray := prog_44_method_155_code
def yJ9_checkIndex : MethodName := ⟨RJ9, "checkIndex", "(II)V"⟩
abbrev cJ9_equals : ByteArray := prog_44_method_66_code
def yJ9_equals : MethodName := ⟨RJ9, "equals", "(Ljava/lang/Object;)Z"⟩
abbrev cJ9_hashCode : ByteArray := prog_44_method_78_code
def yJ9_hashCode : MethodName := ⟨RJ9, "hashCode", "()I"⟩
abbrev cJ9_isLatin1 : ByteArray := prog_44_method_154_code
def yJ9_isLatin1 : MethodName := ⟨RJ9, "isLatin1", "()Z"⟩
abbrev cJ9_charAt : ByteArray := prog_44_method_56_code
def yJ9_charAt : MethodName := ⟨RJ9, "charAt", "(I)C"⟩
theorem q155 : (Jvm.Cond.initialized "java/lang/String") ∈ lw_all := lw_g (lw_at lw_m1 13 rfl) rfl
theorem q287 : (Jvm.Cond.laysStatic "java/lang/String" "COMPACT_STRINGS" "Z") ∈ lw_tbl := lw_at lw_m1 145 rfl
theorem q298 : (Jvm.Cond.fieldLink "java/lang/String" (1048 : Nat) "java/lang/AbstractStringBuilder" "maybeLatin1" "Z") ∈ lw_all := lw_g (lw_at lw_m1 156 rfl) rfl
theorem q373 : (Jvm.Cond.static ({ cls := "java/lang/String", name := "checkBoundsBeginEnd", desc := "(III)V" } : Jvm.MethodName)) ∈ lw_all := lw_g (lw_at lw_m1 231 rfl) rfl
theorem q374 : (Jvm.Cond.code ({ cls := "java/lang/String", name := "checkBoundsBeginEnd", desc := "(III)V" } : Jvm.MethodName) prog_44_method_158_code (3 : Nat) (Option.none : Option Jvm.ClassFile.FieldType)) ∈ lw_all := lw_g (lw_at lw_m1 232 rfl) rfl
theorem q375 : (Jvm.Cond.fieldLink "java/lang/String" (1053 : Nat) "jdk/internal/util/Preconditions" "SIOOBE_FORMATTER" "Ljava/util/function/BiFunction;") ∈ lw_all := lw_g (lw_at lw_m1 233 rfl) rfl
theorem q377 : (Jvm.Cond.methodLink "java/lang/String" (1062 : Nat) ({ cls := "jdk/internal/util/Preconditions", name := "checkFromToIndex", desc := "(IIILjava/util/function/BiFunction;)I" } : Jvm.MethodName)) ∈ lw_all := lw_g (lw_at lw_m1 235 rfl) rfl
theorem q390 : (Jvm.Cond.instanceMethod ({ cls := "java/lang/String", name := "length", desc := "()I" } : Jvm.MethodName)) ∈ lw_all := lw_g (lw_at lw_m2 8 rfl) rfl
theorem q391 : (Jvm.Cond.selects "java/lang/String" ({ cls := "java/lang/String", name := "length", desc := "()I" } : Jvm.MethodName) ({ cls := "java/lang/String", name := "length", desc := "()I" } : Jvm.MethodName)) ∈ lw_all := lw_g (lw_at lw_m2 9 rfl) rfl
theorem q392 : (Jvm.Cond.code ({ cls := "java/lang/String", name := "length", desc := "()I" } : Jvm.MethodName) prog_44_method_54_code (1 : Nat) (Option.some Jvm.ClassFile.FieldType.int)) ∈ lw_all := lw_g (lw_at lw_m2 10 rfl) rfl
theorem q393 : (Jvm.Cond.methodLink "java/lang/String" (335 : Nat) ({ cls := "java/lang/String", name := "coder", desc := "()B" } : Jvm.MethodName)) ∈ lw_all := lw_g (lw_at lw_m2 11 rfl) rfl
theorem q394 : (Jvm.Cond.instanceMethod ({ cls := "java/lang/String", name := "coder", desc := "()B" } : Jvm.MethodName)) ∈ lw_all := lw_g (lw_at lw_m2 12 rfl) rfl
theorem q395 : (Jvm.Cond.selects "java/lang/String" ({ cls := "java/lang/String", name := "coder", desc := "()B" } : Jvm.MethodName) ({ cls := "java/lang/String", name := "coder", desc := "()B" } : Jvm.MethodName)) ∈ lw_all := lw_g (lw_at lw_m2 13 rfl) rfl
theorem q396 : (Jvm.Cond.code ({ cls := "java/lang/String", name := "coder", desc := "()B" } : Jvm.MethodName) prog_44_method_152_code (1 : Nat) (Option.some Jvm.ClassFile.FieldType.byte)) ∈ lw_all := lw_g (lw_at lw_m2 14 rfl) rfl
theorem q397 : (Jvm.Cond.fieldLink "java/lang/String" (38 : Nat) "java/lang/String" "COMPACT_STRINGS" "Z") ∈ lw_all := lw_g (lw_at lw_m2 15 rfl) rfl
theorem q421 : (Jvm.Cond.static ({ cls := "java/lang/String", name := "checkBoundsOffCount", desc := "(III)I" } : Jvm.MethodName)) ∈ lw_all := lw_g (lw_at lw_m2 39 rfl) rfl
theorem q422 : (Jvm.Cond.code ({ cls := "java/lang/String", name := "checkBoundsOffCount", desc := "(III)I" } : Jvm.MethodName) prog_44_method_157_code (3 : Nat) (Option.some Jvm.ClassFile.FieldType.int)) ∈ lw_all := lw_g (lw_at lw_m2 40 rfl) rfl
theorem q423 : (Jvm.Cond.methodLink "java/lang/String" (1065 : Nat) ({ cls := "jdk/internal/util/Preconditions", name := "checkFromIndexSize", desc := "(IIILjava/util/function/BiFunction;)I" } : Jvm.MethodName)) ∈ lw_all := lw_g (lw_at lw_m2 41 rfl) rfl
theorem q427 : (Jvm.Cond.instanceMethod ({ cls := "java/lang/String", name := "getBytes", desc := "([BIB)V" } : Jvm.MethodName)) ∈ lw_all := lw_g (lw_at lw_m2 45 rfl) rfl
theorem q428 : (Jvm.Cond.selects "java/lang/String" ({ cls := "java/lang/String", name := "getBytes", desc := "([BIB)V" } : Jvm.MethodName) ({ cls := "java/lang/String", name := "getBytes", desc := "([BIB)V" } : Jvm.MethodName)) ∈ lw_all := lw_g (lw_at lw_m2 46 rfl) rfl
theorem q429 : (Jvm.Cond.code ({ cls := "java/lang/String", name := "getBytes", desc := "([BIB)V" } : Jvm.MethodName) prog_44_method_147_code (4 : Nat) (Option.none : Option Jvm.ClassFile.FieldType)) ∈ lw_all := lw_g (lw_at lw_m2 47 rfl) rfl
theorem q430 : (Jvm.Cond.methodLink "java/lang/String" (212 : Nat) ({ cls := "java/lang/System", name := "arraycopy", desc := "(Ljava/lang/Object;ILjava/lang/Object;II)V" } : Jvm.MethodName)) ∈ lw_all := lw_g (lw_at lw_m2 48 rfl) rfl
theorem q431 : (Jvm.Cond.methodLink "java/lang/String" (106 : Nat) ({ cls := "java/lang/StringLatin1", name := "inflate", desc := "([BI[BII)V" } : Jvm.MethodName)) ∈ lw_all := lw_g (lw_at lw_m2 49 rfl) rfl
theorem q462 : (Jvm.Cond.instantiable "java/lang/String" (4 : Nat)) ∈ lw_all := lw_g (lw_at lw_m2 80 rfl) rfl
theorem q464 : (Jvm.Cond.instanceMethod ({ cls := "java/lang/String", name := "<init>", desc := "(Ljava/lang/StringBuilder;)V" } : Jvm.MethodName)) ∈ lw_all := lw_g (lw_at lw_m2 82 rfl) rfl
theorem q465 : (Jvm.Cond.code ({ cls := "java/lang/String", name := "<init>", desc := "(Ljava/lang/StringBuilder;)V" } : Jvm.MethodName) prog_44_method_53_code (2 : Nat) (Option.none : Option Jvm.ClassFile.FieldType)) ∈ lw_all := lw_g (lw_at lw_m2 83 rfl) rfl
theorem q466 : (Jvm.Cond.methodLink "java/lang/String" (489 : Nat) ({ cls := "java/lang/String", name := "<init>", desc := "(Ljava/lang/AbstractStringBuilder;Ljava/lang/Void;)V" } : Jvm.MethodName)) ∈ lw_all := lw_g (lw_at lw_m2 84 rfl) rfl
theorem q467 : (Jvm.Cond.instanceMethod ({ cls := "java/lang/String", name := "<init>", desc := "(Ljava/lang/AbstractStringBuilder;Ljava/lang/Void;)V" } : Jvm.MethodName)) ∈ lw_all := lw_g (lw_at lw_m2 85 rfl) rfl
theorem q468 : (Jvm.Cond.code ({ cls := "java/lang/String", name := "<init>", desc := "(Ljava/lang/AbstractStringBuilder;Ljava/lang/Void;)V" } : Jvm.MethodName) prog_44_method_150_code (5 : Nat) (Option.none : Option Jvm.ClassFile.FieldType)) ∈ lw_all := lw_g (lw_at lw_m2 86 rfl) rfl
theorem q469 : (Jvm.Cond.methodLink "java/lang/String" (1 : Nat) ({ cls := "java/lang/Object", name := "<init>", desc := "()V" } : Jvm.MethodName)) ∈ lw_all := lw_g (lw_at lw_m2 87 rfl) rfl
theorem q470 : (Jvm.Cond.methodLink "java/lang/String" (552 : Nat) ({ cls := "java/lang/AbstractStringBuilder", name := "getValue", desc := "()[B" } : Jvm.MethodName)) ∈ lw_all := lw_g (lw_at lw_m2 88 rfl) rfl
theorem q475 : (Jvm.Cond.methodLink "java/lang/String" (549 : Nat) ({ cls := "java/lang/AbstractStringBuilder", name := "length", desc := "()I" } : Jvm.MethodName)) ∈ lw_all := lw_g (lw_at lw_m2 93 rfl) rfl
theorem q483 : (Jvm.Cond.methodLink "java/lang/String" (1047 : Nat) ({ cls := "java/lang/AbstractStringBuilder", name := "isLatin1", desc := "()Z" } : Jvm.MethodName)) ∈ lw_all := lw_g (lw_at lw_m2 101 rfl) rfl
theorem q484 : (Jvm.Cond.methodLink "java/lang/String" (54 : Nat) ({ cls := "java/util/Arrays", name := "copyOfRange", desc := "([BII)[B" } : Jvm.MethodName)) ∈ lw_all := lw_g (lw_at lw_m2 102 rfl) rfl
theorem q525 : (Jvm.Cond.methodLink "java/lang/String" (1051 : Nat) ({ cls := "java/lang/StringUTF16", name := "compress", desc := "([BII)[B" } : Jvm.MethodName)) ∈ lw_all := lw_g (lw_at lw_m2 143 rfl) rfl
theorem q535 : (Jvm.Cond.methodLink "java/lang/String" (47 : Nat) ({ cls := "java/lang/StringUTF16", name := "coderFromArrayLen", desc := "([BI)B" } : Jvm.MethodName)) ∈ lw_all := lw_g (lw_at lw_m2 153 rfl) rfl
theorem q538 : (Jvm.Cond.fieldLink "java/lang/String" (9 : Nat) "java/lang/String" "value" "[B") ∈ lw_all := lw_g (lw_at lw_m2 156 rfl) rfl
theorem q539 : (Jvm.Cond.fieldLink "java/lang/String" (15 : Nat) "java/lang/String" "coder" "B") ∈ lw_all := lw_g (lw_at lw_m2 157 rfl) rfl
theorem q540 : (Jvm.Cond.fieldLink "java/lang/String" (19 : Nat) "java/lang/String" "hash" "I") ∈ lw_all := lw_g (lw_at lw_m2 158 rfl) rfl
theorem q541 : (Jvm.Cond.fieldLink "java/lang/String" (23 : Nat) "java/lang/String" "hashIsZero" "Z") ∈ lw_all := lw_g (lw_at lw_m2 159 rfl) rfl
theorem q542 : (Jvm.Cond.laysFinal "java/lang/String" "java/lang/String" "value" "[B") ∈ lw_all := lw_g (lw_at lw_m2 160 rfl) rfl
theorem q543 : (Jvm.Cond.soleField "java/lang/String" "value") ∈ lw_all := lw_g (lw_at lw_m2 161 rfl) rfl
theorem q544 : (Jvm.Cond.laysFinal "java/lang/String" "java/lang/String" "coder" "B") ∈ lw_all := lw_g (lw_at lw_m2 162 rfl) rfl
theorem q545 : (Jvm.Cond.soleField "java/lang/String" "coder") ∈ lw_all := lw_g (lw_at lw_m2 163 rfl) rfl
theorem q546 : (Jvm.Cond.lays "java/lang/String" "java/lang/String" "hash" "I") ∈ lw_all := lw_g (lw_at lw_m2 164 rfl) rfl
theorem q547 : (Jvm.Cond.soleField "java/lang/String" "hash") ∈ lw_all := lw_g (lw_at lw_m2 165 rfl) rfl
theorem q548 : (Jvm.Cond.lays "java/lang/String" "java/lang/String" "hashIsZero" "Z") ∈ lw_all := lw_g (lw_at lw_m2 166 rfl) rfl
theorem q549 : (Jvm.Cond.soleField "java/lang/String" "hashIsZero") ∈ lw_all := lw_g (lw_at lw_m2 167 rfl) rfl
theorem q550 : (Jvm.Cond.superclass "java/lang/String" "java/lang/Object") ∈ lw_all := lw_g (lw_at lw_m2 168 rfl) rfl
theorem q797 : (Jvm.Cond.selects "java/lang/String" ({ cls := "java/lang/Object", name := "getClass", desc := "()Ljava/lang/Class;" } : Jvm.MethodName) ({ cls := "java/lang/Object", name := "getClass", desc := "()Ljava/lang/Class;" } : Jvm.MethodName)) ∈ lw_all := lw_g (lw_at lw_m3 175 rfl) rfl
theorem q952 : (Jvm.Cond.static ({ cls := "java/lang/String", name := "checkIndex", desc := "(II)V" } : Jvm.MethodName)) ∈ lw_all := lw_g (lw_at lw_m4 90 rfl) rfl
theorem q953 : (Jvm.Cond.code ({ cls := "java/lang/String", name := "checkIndex", desc := "(II)V" } : Jvm.MethodName) prog_44_method_155_code (2 : Nat) (Option.none : Option Jvm.ClassFile.FieldType)) ∈ lw_all := lw_g (lw_at lw_m4 91 rfl) rfl
theorem q954 : (Jvm.Cond.methodLink "java/lang/String" (1059 : Nat) ({ cls := "jdk/internal/util/Preconditions", name := "checkIndex", desc := "(IILjava/util/function/BiFunction;)I" } : Jvm.MethodName)) ∈ lw_all := lw_g (lw_at lw_m4 92 rfl) rfl
theorem q1009 : (Jvm.Cond.instanceMethod ({ cls := "java/lang/String", name := "equals", desc := "(Ljava/lang/Object;)Z" } : Jvm.MethodName)) ∈ lw_all := lw_g (lw_at lw_m4 147 rfl) rfl
theorem q1010 : (Jvm.Cond.selects "java/lang/String" ({ cls := "java/lang/String", name := "equals", desc := "(Ljava/lang/Object;)Z" } : Jvm.MethodName) ({ cls := "java/lang/String", name := "equals", desc := "(Ljava/lang/Object;)Z" } : Jvm.MethodName)) ∈ lw_all := lw_g (lw_at lw_m4 148 rfl) rfl
theorem q1011 : (Jvm.Cond.code ({ cls := "java/lang/String", name := "equals", desc := "(Ljava/lang/Object;)Z" } : Jvm.MethodName) prog_44_method_66_code (3 : Nat) (Option.some Jvm.ClassFile.FieldType.boolean)) ∈ lw_all := lw_g (lw_at lw_m4 149 rfl) rfl
theorem q1012 : (Jvm.Cond.classLink "java/lang/String" (10 : Nat) "java/lang/String") ∈ lw_all := lw_g (lw_at lw_m4 150 rfl) rfl
theorem q1013 : (Jvm.Cond.methodLink "java/lang/String" (541 : Nat) ({ cls := "java/lang/StringLatin1", name := "equals", desc := "([B[B)Z" } : Jvm.MethodName)) ∈ lw_all := lw_g (lw_at lw_m4 151 rfl) rfl
theorem q1072 : (Jvm.Cond.instanceMethod ({ cls := "java/lang/String", name := "hashCode", desc := "()I" } : Jvm.MethodName)) ∈ lw_all := lw_g (lw_at lw_m4 210 rfl) rfl
theorem q1073 : (Jvm.Cond.selects "java/lang/String" ({ cls := "java/lang/String", name := "hashCode", desc := "()I" } : Jvm.MethodName) ({ cls := "java/lang/String", name := "hashCode", desc := "()I" } : Jvm.MethodName)) ∈ lw_all := lw_g (lw_at lw_m4 211 rfl) rfl
theorem q1074 : (Jvm.Cond.code ({ cls := "java/lang/String", name := "hashCode", desc := "()I" } : Jvm.MethodName) prog_44_method_78_code (2 : Nat) (Option.some Jvm.ClassFile.FieldType.int)) ∈ lw_all := lw_g (lw_at lw_m4 212 rfl) rfl
theorem q1075 : (Jvm.Cond.methodLink "java/lang/String" (492 : Nat) ({ cls := "java/lang/String", name := "isLatin1", desc := "()Z" } : Jvm.MethodName)) ∈ lw_all := lw_g (lw_at lw_m4 213 rfl) rfl
theorem q1076 : (Jvm.Cond.instanceMethod ({ cls := "java/lang/String", name := "isLatin1", desc := "()Z" } : Jvm.MethodName)) ∈ lw_all := lw_g (lw_at lw_m4 214 rfl) rfl
theorem q1077 : (Jvm.Cond.selects "java/lang/String" ({ cls := "java/lang/String", name := "isLatin1", desc := "()Z" } : Jvm.MethodName) ({ cls := "java/lang/String", name := "isLatin1", desc := "()Z" } : Jvm.MethodName)) ∈ lw_all := lw_g (lw_at lw_m4 215 rfl) rfl
theorem q1078 : (Jvm.Cond.code ({ cls := "java/lang/String", name := "isLatin1", desc := "()Z" } : Jvm.MethodName) prog_44_method_154_code (1 : Nat) (Option.some Jvm.ClassFile.FieldType.boolean)) ∈ lw_all := lw_g (lw_at lw_m4 216 rfl) rfl
theorem q1079 : (Jvm.Cond.methodLink "java/lang/String" (628 : Nat) ({ cls := "java/lang/StringLatin1", name := "hashCode", desc := "([B)I" } : Jvm.MethodName)) ∈ lw_all := lw_g (lw_at lw_m4 217 rfl) rfl
theorem q1128 : (Jvm.Cond.methodLink "java/lang/String" (632 : Nat) ({ cls := "java/lang/StringUTF16", name := "hashCode", desc := "([B)I" } : Jvm.MethodName)) ∈ lw_all := lw_g (lw_at lw_m5 26 rfl) rfl
theorem q1242 : (Jvm.Cond.selects "java/lang/String" ({ cls := "java/lang/Object", name := "equals", desc := "(Ljava/lang/Object;)Z" } : Jvm.MethodName) ({ cls := "java/lang/String", name := "equals", desc := "(Ljava/lang/Object;)Z" } : Jvm.MethodName)) ∈ lw_all := lw_g (lw_at lw_m5 140 rfl) rfl
theorem q2478 : (Jvm.Cond.instanceMethod ({ cls := "java/lang/String", name := "charAt", desc := "(I)C" } : Jvm.MethodName)) ∈ lw_all := lw_g (lw_at lw_m10 176 rfl) rfl
theorem q2479 : (Jvm.Cond.selects "java/lang/String" ({ cls := "java/lang/String", name := "charAt", desc := "(I)C" } : Jvm.MethodName) ({ cls := "java/lang/String", name := "charAt", desc := "(I)C" } : Jvm.MethodName)) ∈ lw_all := lw_g (lw_at lw_m10 177 rfl) rfl
theorem q2480 : (Jvm.Cond.code ({ cls := "java/lang/String", name := "charAt", desc := "(I)C" } : Jvm.MethodName) prog_44_method_56_code (2 : Nat) (Option.some Jvm.ClassFile.FieldType.char)) ∈ lw_all := lw_g (lw_at lw_m10 178 rfl) rfl
theorem q2481 : (Jvm.Cond.methodLink "java/lang/String" (495 : Nat) ({ cls := "java/lang/StringLatin1", name := "charAt", desc := "([BI)C" } : Jvm.MethodName)) ∈ lw_all := lw_g (lw_at lw_m10 179 rfl) rfl
theorem q2485 : (Jvm.Cond.methodLink "java/lang/String" (498 : Nat) ({ cls := "java/lang/StringUTF16", name := "charAt", desc := "([BI)C" } : Jvm.MethodName)) ∈ lw_all := lw_g (lw_at lw_m10 183 rfl) rfl
theorem q3484 : (Jvm.Cond.castable "java/lang/String" "java/lang/Object") ∈ lw_tbl := lw_at lw_m14 222 rfl
theorem in_J9 : ∀ w ∈ wsJ90, w ∈ lw_all := lw_in wsJ90 [542, 544, 546, 548] (by decide +kernel) (by decide +kernel)
/-! J10.java_lang_StringUTF16 -/
def RJ10 : String := "java/lang/StringUTF16"
abbrev cJ10_newBytesFor : ByteArray := prog_48_method_2_code
def yJ10_newBytesFor : MethodName := ⟨RJ10, "newBytesFor", "(I)[B"⟩
abbrev cJ10_newBytesLength : ByteArray := prog_48_method_3_code
def yJ10_newBytesLength : MethodName := ⟨RJ10, "newBytesLength", "(I)I"⟩
abbrev cJ10_putCharsAt : ByteArray := prog_48_method_81_code
def yJ10_putCharsAt : MethodName := ⟨RJ10, "putCharsAt", "([BICCCC)I"⟩
abbrev cJ10_checkBoundsBeginEnd : ByteArray := prog_48_method_93_code
def yJ10_checkBoundsBeginEnd : MethodName := ⟨RJ10, "checkBoundsBeginEnd", "(II[B)V"⟩
abbrev cJ10_length : ByteArray := prog_48_method_6_code
def yJ10_length : MethodName := ⟨RJ10, "length", "([B)I"⟩
abbrev cJ10_putChar : ByteArray := prog_48_method_4_code
def yJ10_putChar : MethodName := ⟨RJ10, "putChar", "([BII)V"⟩
abbrev cJ10_inflate : ByteArray := prog_48_method_86_code
def yJ10_inflate : MethodName := ⟨RJ10, "inflate", "([BI[BII)V"⟩
abbrev cJ10_checkBoundsOffCount : ByteArray := prog_48_method_94_code
def yJ10_checkBoundsOffCount : MethodName := ⟨RJ10, "checkBoundsOffCount", "(II[B)V"⟩
abbrev cJ10_getChars : ByteArray := prog_48_method_77_code
def yJ10_getChars : MethodName := ⟨RJ10, "getChars", "(III[B)I"⟩
abbrev cJ10_getChars_2 : ByteArray := prog_48_method_89_code
def yJ10_getChars_2 : MethodName := ⟨RJ10, "getChars", "(II[B)I"⟩
abbrev cJ10_compress : ByteArray := prog_48_method_17_code
def yJ10_compress : MethodName := ⟨RJ10, "compress", "([BII)[B"⟩
abbrev cJ10_compress_2 : ByteArray := prog_48_method_22_code
def yJ10_compress_2 : MethodName := ⟨RJ10, "compress", "([BI[BII)I"⟩
abbrev cJ10_getChar : ByteArray := prog_48_method_5_code
def yJ10_getChar : MethodName := ⟨RJ10, "getChar", "([BI)C"⟩
abbrev cJ10_coderFromArrayLen : ByteArray := prog_48_method_15_code
def yJ10_coderFromArrayLen : MethodName := ⟨RJ10, "coderFromArrayLen", "([BI)B"⟩
abbrev cJ10_putCharSB : ByteArray := prog_48_method_71_code
def yJ10_putCharSB : MethodName := ⟨RJ10, "putCharSB", "([BII)V"⟩
abbrev cJ10_checkIndex : ByteArray := prog_48_method_91_code
def yJ10_checkIndex : MethodName := ⟨RJ10, "checkIndex", "(I[B)V"⟩
abbrev cJ10_hashCode : ByteArray := prog_48_method_39_code
def yJ10_hashCode : MethodName := ⟨RJ10, "hashCode", "([B)I"⟩
abbrev cJ10_charAt : ByteArray := prog_48_method_83_code
def yJ10_charAt : MethodName := ⟨RJ10, "charAt", "([BI)C"⟩
abbrev cJ10_fillNull : ByteArray := prog_48_method_70_code
def yJ10_fillNull : MethodName := ⟨RJ10, "fillNull", "([BII)V"⟩
theorem q156 : (Jvm.Cond.initialized "java/lang/StringUTF16") ∈ lw_all := lw_g (lw_at lw_m1 14 rfl) rfl
theorem q289 : (Jvm.Cond.static ({ cls := "java/lang/StringUTF16", name := "newBytesFor", desc := "(I)[B" } : Jvm.MethodName)) ∈ lw_all := lw_g (lw_at lw_m1 147 rfl) rfl
theorem q290 : (Jvm.Cond.code ({ cls := "java/lang/StringUTF16", name := "newBytesFor", desc := "(I)[B" } : Jvm.MethodName) prog_48_method_2_code (1 : Nat) (Option.some (Jvm.ClassFile.FieldType.array Jvm.ClassFile.FieldType.byte))) ∈ lw_all := lw_g (lw_at lw_m1 148 rfl) rfl
theorem q291 : (Jvm.Cond.methodLink "java/lang/StringUTF16" (11 : Nat) ({ cls := "java/lang/StringUTF16", name := "newBytesLength", desc := "(I)I" } : Jvm.MethodName)) ∈ lw_all := lw_g (lw_at lw_m1 149 rfl) rfl
theorem q292 : (Jvm.Cond.static ({ cls := "java/lang/StringUTF16", name := "newBytesLength", desc := "(I)I" } : Jvm.MethodName)) ∈ lw_all := lw_g (lw_at lw_m1 150 rfl) rfl
theorem q293 : (Jvm.Cond.code ({ cls := "java/lang/StringUTF16", name := "newBytesLength", desc := "(I)I" } : Jvm.MethodName) prog_48_method_3_code (1 : Nat) (Option.some Jvm.ClassFile.FieldType.int)) ∈ lw_all := lw_g (lw_at lw_m1 151 rfl) rfl
theorem q294 : (Jvm.Cond.constant "java/lang/StringUTF16" (20 : Nat) (1073741823 : Int32)) ∈ lw_all := lw_g (lw_at lw_m1 152 rfl) rfl
theorem q364 : (Jvm.Cond.static ({ cls := "java/lang/StringUTF16", name := "putCharsAt", desc := "([BICCCC)I" } : Jvm.MethodName)) ∈ lw_all := lw_g (lw_at lw_m1 222 rfl) rfl
theorem q365 : (Jvm.Cond.code ({ cls := "java/lang/StringUTF16", name := "putCharsAt", desc := "([BICCCC)I" } : Jvm.MethodName) prog_48_method_81_code (7 : Nat) (Option.some Jvm.ClassFile.FieldType.int)) ∈ lw_all := lw_g (lw_at lw_m1 223 rfl) rfl
theorem q366 : (Jvm.Cond.methodLink "java/lang/StringUTF16" (96 : Nat) ({ cls := "java/lang/StringUTF16", name := "checkBoundsBeginEnd", desc := "(II[B)V" } : Jvm.MethodName)) ∈ lw_all := lw_g (lw_at lw_m1 224 rfl) rfl
theorem q367 : (Jvm.Cond.static ({ cls := "java/lang/StringUTF16", name := "checkBoundsBeginEnd", desc := "(II[B)V" } : Jvm.MethodName)) ∈ lw_all := lw_g (lw_at lw_m1 225 rfl) rfl
theorem q368 : (Jvm.Cond.code ({ cls := "java/lang/StringUTF16", name := "checkBoundsBeginEnd", desc := "(II[B)V" } : Jvm.MethodName) prog_48_method_93_code (3 : Nat) (Option.none : Option Jvm.ClassFile.FieldType)) ∈ lw_all := lw_g (lw_at lw_m1 226 rfl) rfl
theorem q369 : (Jvm.Cond.methodLink "java/lang/StringUTF16" (48 : Nat) ({ cls := "java/lang/StringUTF16", name := "length", desc := "([B)I" } : Jvm.MethodName)) ∈ lw_all := lw_g (lw_at lw_m1 227 rfl) rfl
theorem q370 : (Jvm.Cond.static ({ cls := "java/lang/StringUTF16", name := "length", desc := "([B)I" } : Jvm.MethodName)) ∈ lw_all := lw_g (lw_at lw_m1 228 rfl) rfl
theorem q371 : (Jvm.Cond.code ({ cls := "java/lang/StringUTF16", name := "length", desc := "([B)I" } : Jvm.MethodName) prog_48_method_6_code (1 : Nat) (Option.some Jvm.ClassFile.FieldType.int)) ∈ lw_all := lw_g (lw_at lw_m1 229 rfl) rfl
theorem q372 : (Jvm.Cond.methodLink "java/lang/StringUTF16" (241 : Nat) ({ cls := "java/lang/String", name := "checkBoundsBeginEnd", desc := "(III)V" } : Jvm.MethodName)) ∈ lw_all := lw_g (lw_at lw_m1 230 rfl) rfl
theorem q380 : (Jvm.Cond.methodLink "java/lang/StringUTF16" (111 : Nat) ({ cls := "java/lang/StringUTF16", name := "putChar", desc := "([BII)V" } : Jvm.MethodName)) ∈ lw_all := lw_g (lw_at lw_m1 238 rfl) rfl
theorem q381 : (Jvm.Cond.static ({ cls := "java/lang/StringUTF16", name := "putChar", desc := "([BII)V" } : Jvm.MethodName)) ∈ lw_all := lw_g (lw_at lw_m1 239 rfl) rfl
theorem q382 : (Jvm.Cond.code ({ cls := "java/lang/StringUTF16", name := "putChar", desc := "([BII)V" } : Jvm.MethodName) prog_48_method_4_code (3 : Nat) (Option.none : Option Jvm.ClassFile.FieldType)) ∈ lw_all := lw_g (lw_at lw_m2 0 rfl) rfl
theorem q383 : (Jvm.Cond.fieldLink "java/lang/StringUTF16" (44 : Nat) "java/lang/StringUTF16" "$assertionsDisabled" "Z") ∈ lw_all := lw_g (lw_at lw_m2 1 rfl) rfl
theorem q384 : (Jvm.Cond.laysStatic "java/lang/StringUTF16" "$assertionsDisabled" "Z") ∈ lw_tbl := lw_at lw_m2 2 rfl
theorem q385 : (Jvm.Cond.fieldLink "java/lang/StringUTF16" (59 : Nat) "java/lang/StringUTF16" "HI_BYTE_SHIFT" "I") ∈ lw_all := lw_g (lw_at lw_m2 3 rfl) rfl
theorem q386 : (Jvm.Cond.laysStatic "java/lang/StringUTF16" "HI_BYTE_SHIFT" "I") ∈ lw_tbl := lw_at lw_m2 4 rfl
theorem q387 : (Jvm.Cond.fieldLink "java/lang/StringUTF16" (63 : Nat) "java/lang/StringUTF16" "LO_BYTE_SHIFT" "I") ∈ lw_all := lw_g (lw_at lw_m2 5 rfl) rfl
theorem q388 : (Jvm.Cond.laysStatic "java/lang/StringUTF16" "LO_BYTE_SHIFT" "I") ∈ lw_tbl := lw_at lw_m2 6 rfl
theorem q415 : (Jvm.Cond.static ({ cls := "java/lang/StringUTF16", name := "inflate", desc := "([BI[BII)V" } : Jvm.MethodName)) ∈ lw_all := lw_g (lw_at lw_m2 33 rfl) rfl
theorem q416 : (Jvm.Cond.code ({ cls := "java/lang/StringUTF16", name := "inflate", desc := "([BI[BII)V" } : Jvm.MethodName) prog_48_method_86_code (6 : Nat) (Option.none : Option Jvm.ClassFile.FieldType)) ∈ lw_all := lw_g (lw_at lw_m2 34 rfl) rfl
theorem q417 : (Jvm.Cond.methodLink "java/lang/StringUTF16" (173 : Nat) ({ cls := "java/lang/StringUTF16", name := "checkBoundsOffCount", desc := "(II[B)V" } : Jvm.MethodName)) ∈ lw_all := lw_g (lw_at lw_m2 35 rfl) rfl
theorem q418 : (Jvm.Cond.static ({ cls := "java/lang/StringUTF16", name := "checkBoundsOffCount", desc := "(II[B)V" } : Jvm.MethodName)) ∈ lw_all := lw_g (lw_at lw_m2 36 rfl) rfl
theorem q419 : (Jvm.Cond.code ({ cls := "java/lang/StringUTF16", name := "checkBoundsOffCount", desc := "(II[B)V" } : Jvm.MethodName) prog_48_method_94_code (3 : Nat) (Option.none : Option Jvm.ClassFile.FieldType)) ∈ lw_all := lw_g (lw_at lw_m2 37 rfl) rfl
theorem q420 : (Jvm.Cond.methodLink "java/lang/StringUTF16" (419 : Nat) ({ cls := "java/lang/String", name := "checkBoundsOffCount", desc := "(III)I" } : Jvm.MethodName)) ∈ lw_all := lw_g (lw_at lw_m2 38 rfl) rfl
theorem q450 : (Jvm.Cond.static ({ cls := "java/lang/StringUTF16", name := "getChars", desc := "(III[B)I" } : Jvm.MethodName)) ∈ lw_all := lw_g (lw_at lw_m2 68 rfl) rfl
theorem q451 : (Jvm.Cond.code ({ cls := "java/lang/StringUTF16", name := "getChars", desc := "(III[B)I" } : Jvm.MethodName) prog_48_method_77_code (5 : Nat) (Option.some Jvm.ClassFile.FieldType.int)) ∈ lw_all := lw_g (lw_at lw_m2 69 rfl) rfl
theorem q452 : (Jvm.Cond.methodLink "java/lang/StringUTF16" (393 : Nat) ({ cls := "java/lang/StringUTF16", name := "getChars", desc := "(II[B)I" } : Jvm.MethodName)) ∈ lw_all := lw_g (lw_at lw_m2 70 rfl) rfl
theorem q453 : (Jvm.Cond.static ({ cls := "java/lang/StringUTF16", name := "getChars", desc := "(II[B)I" } : Jvm.MethodName)) ∈ lw_all := lw_g (lw_at lw_m2 71 rfl) rfl
theorem q454 : (Jvm.Cond.code ({ cls := "java/lang/StringUTF16", name := "getChars", desc := "(II[B)I" } : Jvm.MethodName) prog_48_method_89_code (7 : Nat) (Option.some Jvm.ClassFile.FieldType.int)) ∈ lw_all := lw_g (lw_at lw_m2 72 rfl) rfl
theorem q455 : (Jvm.Cond.fieldLink "java/lang/StringUTF16" (403 : Nat) "java/lang/Integer" "DigitOnes" "[B") ∈ lw_all := lw_g (lw_at lw_m2 73 rfl) rfl
theorem q456 : (Jvm.Cond.fieldLink "java/lang/StringUTF16" (407 : Nat) "java/lang/Integer" "DigitTens" "[B") ∈ lw_all := lw_g (lw_at lw_m2 74 rfl) rfl
theorem q526 : (Jvm.Cond.static ({ cls := "java/lang/StringUTF16", name := "compress", desc := "([BII)[B" } : Jvm.MethodName)) ∈ lw_all := lw_g (lw_at lw_m2 144 rfl) rfl
theorem q527 : (Jvm.Cond.code ({ cls := "java/lang/StringUTF16", name := "compress", desc := "([BII)[B" } : Jvm.MethodName) prog_48_method_17_code (6 : Nat) (Option.some (Jvm.ClassFile.FieldType.array Jvm.ClassFile.FieldType.byte))) ∈ lw_all := lw_g (lw_at lw_m2 145 rfl) rfl
theorem q528 : (Jvm.Cond.methodLink "java/lang/StringUTF16" (123 : Nat) ({ cls := "java/lang/StringUTF16", name := "compress", desc := "([BI[BII)I" } : Jvm.MethodName)) ∈ lw_all := lw_g (lw_at lw_m2 146 rfl) rfl
theorem q529 : (Jvm.Cond.static ({ cls := "java/lang/StringUTF16", name := "compress", desc := "([BI[BII)I" } : Jvm.MethodName)) ∈ lw_all := lw_g (lw_at lw_m2 147 rfl) rfl
theorem q530 : (Jvm.Cond.code ({ cls := "java/lang/StringUTF16", name := "compress", desc := "([BI[BII)I" } : Jvm.MethodName) prog_48_method_22_code (7 : Nat) (Option.some Jvm.ClassFile.FieldType.int)) ∈ lw_all := lw_g (lw_at lw_m2 148 rfl) rfl
theorem q531 : (Jvm.Cond.methodLink "java/lang/StringUTF16" (71 : Nat) ({ cls := "java/lang/StringUTF16", name := "getChar", desc := "([BI)C" } : Jvm.MethodName)) ∈ lw_all := lw_g (lw_at lw_m2 149 rfl) rfl
theorem q532 : (Jvm.Cond.static ({ cls := "java/lang/StringUTF16", name := "getChar", desc := "([BI)C" } : Jvm.MethodName)) ∈ lw_all := lw_g (lw_at lw_m2 150 rfl) rfl
theorem q533 : (Jvm.Cond.code ({ cls := "java/lang/StringUTF16", name := "getChar", desc := "([BI)C" } : Jvm.MethodName) prog_48_method_5_code (2 : Nat) (Option.some Jvm.ClassFile.FieldType.char)) ∈ lw_all := lw_g (lw_at lw_m2 151 rfl) rfl
theorem q534 : (Jvm.Cond.methodLink "java/lang/StringUTF16" (126 : Nat) ({ cls := "java/util/Arrays", name := "copyOfRange", desc := "([BII)[B" } : Jvm.MethodName)) ∈ lw_all := lw_g (lw_at lw_m2 152 rfl) rfl
theorem q536 : (Jvm.Cond.static ({ cls := "java/lang/StringUTF16", name := "coderFromArrayLen", desc := "([BI)B" } : Jvm.MethodName)) ∈ lw_all := lw_g (lw_at lw_m2 154 rfl) rfl
theorem q537 : (Jvm.Cond.code ({ cls := "java/lang/StringUTF16", name := "coderFromArrayLen", desc := "([BI)B" } : Jvm.MethodName) prog_48_method_15_code (2 : Nat) (Option.some Jvm.ClassFile.FieldType.byte)) ∈ lw_all := lw_g (lw_at lw_m2 155 rfl) rfl
theorem q946 : (Jvm.Cond.static ({ cls := "java/lang/StringUTF16", name := "putCharSB", desc := "([BII)V" } : Jvm.MethodName)) ∈ lw_all := lw_g (lw_at lw_m4 84 rfl) rfl
theorem q947 : (Jvm.Cond.code ({ cls := "java/lang/StringUTF16", name := "putCharSB", desc := "([BII)V" } : Jvm.MethodName) prog_48_method_71_code (3 : Nat) (Option.none : Option Jvm.ClassFile.FieldType)) ∈ lw_all := lw_g (lw_at lw_m4 85 rfl) rfl
theorem q948 : (Jvm.Cond.methodLink "java/lang/StringUTF16" (67 : Nat) ({ cls := "java/lang/StringUTF16", name := "checkIndex", desc := "(I[B)V" } : Jvm.MethodName)) ∈ lw_all := lw_g (lw_at lw_m4 86 rfl) rfl
theorem q949 : (Jvm.Cond.static ({ cls := "java/lang/StringUTF16", name := "checkIndex", desc := "(I[B)V" } : Jvm.MethodName)) ∈ lw_all := lw_g (lw_at lw_m4 87 rfl) rfl
theorem q950 : (Jvm.Cond.code ({ cls := "java/lang/StringUTF16", name := "checkIndex", desc := "(I[B)V" } : Jvm.MethodName) prog_48_method_91_code (2 : Nat) (Option.none : Option Jvm.ClassFile.FieldType)) ∈ lw_all := lw_g (lw_at lw_m4 88 rfl) rfl
theorem q951 : (Jvm.Cond.methodLink "java/lang/StringUTF16" (414 : Nat) ({ cls := "java/lang/String", name := "checkIndex", desc := "(II)V" } : Jvm.MethodName)) ∈ lw_all := lw_g (lw_at lw_m4 89 rfl) rfl
theorem q1129 : (Jvm.Cond.static ({ cls := "java/lang/StringUTF16", name := "hashCode", desc := "([B)I" } : Jvm.MethodName)) ∈ lw_all := lw_g (lw_at lw_m5 27 rfl) rfl
theorem q1130 : (Jvm.Cond.code ({ cls := "java/lang/StringUTF16", name := "hashCode", desc := "([B)I" } : Jvm.MethodName) prog_48_method_39_code (1 : Nat) (Option.some Jvm.ClassFile.FieldType.int)) ∈ lw_all := lw_g (lw_at lw_m5 28 rfl) rfl
theorem q1131 : (Jvm.Cond.methodLink "java/lang/StringUTF16" (220 : Nat) ({ cls := "jdk/internal/util/ArraysSupport", name := "vectorizedHashCode", desc := "(Ljava/lang/Object;IIII)I" } : Jvm.MethodName)) ∈ lw_all := lw_g (lw_at lw_m5 29 rfl) rfl
theorem q2486 : (Jvm.Cond.static ({ cls := "java/lang/StringUTF16", name := "charAt", desc := "([BI)C" } : Jvm.MethodName)) ∈ lw_all := lw_g (lw_at lw_m10 184 rfl) rfl
theorem q2487 : (Jvm.Cond.code ({ cls := "java/lang/StringUTF16", name := "charAt", desc := "([BI)C" } : Jvm.MethodName) prog_48_method_83_code (2 : Nat) (Option.some Jvm.ClassFile.FieldType.char)) ∈ lw_all := lw_g (lw_at lw_m10 185 rfl) rfl
theorem q2715 : (Jvm.Cond.static ({ cls := "java/lang/StringUTF16", name := "fillNull", desc := "([BII)V" } : Jvm.MethodName)) ∈ lw_all := lw_g (lw_at lw_m11 173 rfl) rfl
theorem q2716 : (Jvm.Cond.code ({ cls := "java/lang/StringUTF16", name := "fillNull", desc := "([BII)V" } : Jvm.MethodName) prog_48_method_70_code (3 : Nat) (Option.none : Option Jvm.ClassFile.FieldType)) ∈ lw_all := lw_g (lw_at lw_m11 174 rfl) rfl
theorem q2717 : (Jvm.Cond.methodLink "java/lang/StringUTF16" (380 : Nat) ({ cls := "java/util/Arrays", name := "fill", desc := "([BIIB)V" } : Jvm.MethodName)) ∈ lw_all := lw_g (lw_at lw_m11 175 rfl) rfl
/-! J11.jdk_internal_util_ArraysSupport -/
def RJ11 : String := "jdk/internal/util/ArraysSupport"
abbrev cJ11_newLength : ByteArray := prog_79_method_27_code
def yJ11_newLength : MethodName := ⟨RJ11, "newLength", "(III)I"⟩
abbrev cJ11_hugeLength : ByteArray := prog_79_method_28_code
def yJ11_hugeLength : MethodName := ⟨RJ11, "hugeLength", "(II)I"⟩
abbrev cJ11_vectorizedHashCode : ByteArray := prog_79_method_4_code
def yJ11_vectorizedHashCode : MethodName := ⟨RJ11, "vectorizedHashCode", "(Ljava/lang/Object;IIII)I"⟩
abbrev cJ11_signedHashCode : ByteArray := prog_79_method_5_code
def yJ11_signedHashCode : MethodName := ⟨RJ11, "signedHashCode", "(I[BII)I"⟩
abbrev cJ11_utf16hashCode : ByteArray := prog_79_method_10_code
def yJ11_utf16hashCode : MethodName := ⟨RJ11, "utf16hashCode", "(I[BII)I"⟩
abbrev cJ11_hashCode : ByteArray := prog_79_method_7_code
def yJ11_hashCode : MethodName := ⟨RJ11, "hashCode", "(I[CII)I"⟩
abbrev cJ11_hashCode_2 : ByteArray := prog_79_method_6_code
def yJ11_hashCode_2 : MethodName := ⟨RJ11, "hashCode", "(I[BII)I"⟩
abbrev cJ11_hashCode_3 : ByteArray := prog_79_method_8_code
def yJ11_hashCode_3 : MethodName := ⟨RJ11, "hashCode", "(I[SII)I"⟩
abbrev cJ11_hashCode_4 : ByteArray := prog_79_method_9_code
def yJ11_hashCode_4 : MethodName := ⟨RJ11, "hashCode", "(I[III)I"⟩
theorem q157 : (Jvm.Cond.initialized "jdk/internal/util/ArraysSupport") ∈ lw_all := lw_g (lw_at lw_m1 15 rfl) rfl
theorem q332 : (Jvm.Cond.static ({ cls := "jdk/internal/util/ArraysSupport", name := "newLength", desc := "(III)I" } : Jvm.MethodName)) ∈ lw_all := lw_g (lw_at lw_m1 190 rfl) rfl
theorem q333 : (Jvm.Cond.code ({ cls := "jdk/internal/util/ArraysSupport", name := "newLength", desc := "(III)I" } : Jvm.MethodName) prog_79_method_27_code (4 : Nat) (Option.some Jvm.ClassFile.FieldType.int)) ∈ lw_all := lw_g (lw_at lw_m1 191 rfl) rfl
theorem q334 : (Jvm.Cond.methodLink "jdk/internal/util/ArraysSupport" (194 : Nat) ({ cls := "java/lang/Math", name := "max", desc := "(II)I" } : Jvm.MethodName)) ∈ lw_all := lw_g (lw_at lw_m1 192 rfl) rfl
theorem q337 : (Jvm.Cond.constant "jdk/internal/util/ArraysSupport" (200 : Nat) (2147483639 : Int32)) ∈ lw_all := lw_g (lw_at lw_m1 195 rfl) rfl
theorem q338 : (Jvm.Cond.methodLink "jdk/internal/util/ArraysSupport" (201 : Nat) ({ cls := "jdk/internal/util/ArraysSupport", name := "hugeLength", desc := "(II)I" } : Jvm.MethodName)) ∈ lw_all := lw_g (lw_at lw_m1 196 rfl) rfl
theorem q339 : (Jvm.Cond.static ({ cls := "jdk/internal/util/ArraysSupport", name := "hugeLength", desc := "(II)I" } : Jvm.MethodName)) ∈ lw_all := lw_g (lw_at lw_m1 197 rfl) rfl
theorem q340 : (Jvm.Cond.code ({ cls := "jdk/internal/util/ArraysSupport", name := "hugeLength", desc := "(II)I" } : Jvm.MethodName) prog_79_method_28_code (3 : Nat) (Option.some Jvm.ClassFile.FieldType.int)) ∈ lw_all := lw_g (lw_at lw_m1 198 rfl) rfl
theorem q1083 : (Jvm.Cond.static ({ cls := "jdk/internal/util/ArraysSupport", name := "vectorizedHashCode", desc := "(Ljava/lang/Object;IIII)I" } : Jvm.MethodName)) ∈ lw_all := lw_g (lw_at lw_m4 221 rfl) rfl
theorem q1084 : (Jvm.Cond.code ({ cls := "jdk/internal/util/ArraysSupport", name := "vectorizedHashCode", desc := "(Ljava/lang/Object;IIII)I" } : Jvm.MethodName) prog_79_method_4_code (5 : Nat) (Option.some Jvm.ClassFile.FieldType.int)) ∈ lw_all := lw_g (lw_at lw_m4 222 rfl) rfl
theorem q1085 : (Jvm.Cond.classLink "jdk/internal/util/ArraysSupport" (60 : Nat) "[B") ∈ lw_all := lw_g (lw_at lw_m4 223 rfl) rfl
theorem q1086 : (Jvm.Cond.methodLink "jdk/internal/util/ArraysSupport" (62 : Nat) ({ cls := "jdk/internal/util/ArraysSupport", name := "signedHashCode", desc := "(I[BII)I" } : Jvm.MethodName)) ∈ lw_all := lw_g (lw_at lw_m4 224 rfl) rfl
theorem q1087 : (Jvm.Cond.static ({ cls := "jdk/internal/util/ArraysSupport", name := "signedHashCode", desc := "(I[BII)I" } : Jvm.MethodName)) ∈ lw_all := lw_g (lw_at lw_m4 225 rfl) rfl
theorem q1088 : (Jvm.Cond.code ({ cls := "jdk/internal/util/ArraysSupport", name := "signedHashCode", desc := "(I[BII)I" } : Jvm.MethodName) prog_79_method_5_code (6 : Nat) (Option.some Jvm.ClassFile.FieldType.int)) ∈ lw_all := lw_g (lw_at lw_m4 226 rfl) rfl
theorem q1089 : (Jvm.Cond.methodLink "jdk/internal/util/ArraysSupport" (66 : Nat) ({ cls := "jdk/internal/util/ArraysSupport", name := "utf16hashCode", desc := "(I[BII)I" } : Jvm.MethodName)) ∈ lw_all := lw_g (lw_at lw_m4 227 rfl) rfl
theorem q1090 : (Jvm.Cond.static ({ cls := "jdk/internal/util/ArraysSupport", name := "utf16hashCode", desc := "(I[BII)I" } : Jvm.MethodName)) ∈ lw_all := lw_g (lw_at lw_m4 228 rfl) rfl
theorem q1091 : (Jvm.Cond.code ({ cls := "jdk/internal/util/ArraysSupport", name := "utf16hashCode", desc := "(I[BII)I" } : Jvm.MethodName) prog_79_method_10_code (6 : Nat) (Option.some Jvm.ClassFile.FieldType.int)) ∈ lw_all := lw_g (lw_at lw_m4 229 rfl) rfl
theorem q1092 : (Jvm.Cond.fieldLink "jdk/internal/util/ArraysSupport" (106 : Nat) "jdk/internal/util/ArraysSupport" "JLA" "Ljdk/internal/access/JavaLangAccess;") ∈ lw_all := lw_g (lw_at lw_m4 230 rfl) rfl
theorem q1093 : (Jvm.Cond.laysStatic "jdk/internal/util/ArraysSupport" "JLA" "Ljdk/internal/access/JavaLangAccess;") ∈ lw_tbl := lw_at lw_m4 231 rfl
theorem q1094 : (Jvm.Cond.interfaceEntry "jdk/internal/util/ArraysSupport" (110 : Nat)) ∈ lw_tbl := lw_at lw_m4 232 rfl
theorem q1095 : (Jvm.Cond.methodLink "jdk/internal/util/ArraysSupport" (110 : Nat) ({ cls := "jdk/internal/access/JavaLangAccess", name := "getUTF16Char", desc := "([BI)C" } : Jvm.MethodName)) ∈ lw_all := lw_g (lw_at lw_m4 233 rfl) rfl
theorem q1105 : (Jvm.Cond.classLink "jdk/internal/util/ArraysSupport" (69 : Nat) "[C") ∈ lw_all := lw_g (lw_at lw_m5 3 rfl) rfl
theorem q1106 : (Jvm.Cond.methodLink "jdk/internal/util/ArraysSupport" (71 : Nat) ({ cls := "jdk/internal/util/ArraysSupport", name := "hashCode", desc := "(I[CII)I" } : Jvm.MethodName)) ∈ lw_all := lw_g (lw_at lw_m5 4 rfl) rfl
theorem q1107 : (Jvm.Cond.static ({ cls := "jdk/internal/util/ArraysSupport", name := "hashCode", desc := "(I[CII)I" } : Jvm.MethodName)) ∈ lw_all := lw_g (lw_at lw_m5 5 rfl) rfl
theorem q1108 : (Jvm.Cond.code ({ cls := "jdk/internal/util/ArraysSupport", name := "hashCode", desc := "(I[CII)I" } : Jvm.MethodName) prog_79_method_7_code (6 : Nat) (Option.some Jvm.ClassFile.FieldType.int)) ∈ lw_all := lw_g (lw_at lw_m5 6 rfl) rfl
theorem q1109 : (Jvm.Cond.methodLink "jdk/internal/util/ArraysSupport" (75 : Nat) ({ cls := "jdk/internal/util/ArraysSupport", name := "hashCode", desc := "(I[BII)I" } : Jvm.MethodName)) ∈ lw_all := lw_g (lw_at lw_m5 7 rfl) rfl
theorem q1110 : (Jvm.Cond.static ({ cls := "jdk/internal/util/ArraysSupport", name := "hashCode", desc := "(I[BII)I" } : Jvm.MethodName)) ∈ lw_all := lw_g (lw_at lw_m5 8 rfl) rfl
theorem q1111 : (Jvm.Cond.code ({ cls := "jdk/internal/util/ArraysSupport", name := "hashCode", desc := "(I[BII)I" } : Jvm.MethodName) prog_79_method_6_code (6 : Nat) (Option.some Jvm.ClassFile.FieldType.int)) ∈ lw_all := lw_g (lw_at lw_m5 9 rfl) rfl
theorem q1112 : (Jvm.Cond.classLink "jdk/internal/util/ArraysSupport" (77 : Nat) "[S") ∈ lw_all := lw_g (lw_at lw_m5 10 rfl) rfl
theorem q1113 : (Jvm.Cond.methodLink "jdk/internal/util/ArraysSupport" (79 : Nat) ({ cls := "jdk/internal/util/ArraysSupport", name := "hashCode", desc := "(I[SII)I" } : Jvm.MethodName)) ∈ lw_all := lw_g (lw_at lw_m5 11 rfl) rfl
theorem q1114 : (Jvm.Cond.static ({ cls := "jdk/internal/util/ArraysSupport", name := "hashCode", desc := "(I[SII)I" } : Jvm.MethodName)) ∈ lw_all := lw_g (lw_at lw_m5 12 rfl) rfl
theorem q1115 : (Jvm.Cond.code ({ cls := "jdk/internal/util/ArraysSupport", name := "hashCode", desc := "(I[SII)I" } : Jvm.MethodName) prog_79_method_8_code (6 : Nat) (Option.some Jvm.ClassFile.FieldType.int)) ∈ lw_all := lw_g (lw_at lw_m5 13 rfl) rfl
theorem q1116 : (Jvm.Cond.classLink "jdk/internal/util/ArraysSupport" (82 : Nat) "[I") ∈ lw_all := lw_g (lw_at lw_m5 14 rfl) rfl
theorem q1117 : (Jvm.Cond.methodLink "jdk/internal/util/ArraysSupport" (84 : Nat) ({ cls := "jdk/internal/util/ArraysSupport", name := "hashCode", desc := "(I[III)I" } : Jvm.MethodName)) ∈ lw_all := lw_g (lw_at lw_m5 15 rfl) rfl
theorem q1118 : (Jvm.Cond.static ({ cls := "jdk/internal/util/ArraysSupport", name := "hashCode", desc := "(I[III)I" } : Jvm.MethodName)) ∈ lw_all := lw_g (lw_at lw_m5 16 rfl) rfl
theorem q1119 : (Jvm.Cond.code ({ cls := "jdk/internal/util/ArraysSupport", name := "hashCode", desc := "(I[III)I" } : Jvm.MethodName) prog_79_method_9_code (6 : Nat) (Option.some Jvm.ClassFile.FieldType.int)) ∈ lw_all := lw_g (lw_at lw_m5 17 rfl) rfl
theorem q1120 : (Jvm.Cond.classLink "jdk/internal/util/ArraysSupport" (87 : Nat) "java/lang/IllegalArgumentException") ∈ lw_all := lw_g (lw_at lw_m5 18 rfl) rfl
theorem q1121 : (Jvm.Cond.classLink "jdk/internal/util/ArraysSupport" (89 : Nat) "java/lang/StringBuilder") ∈ lw_all := lw_g (lw_at lw_m5 19 rfl) rfl
theorem q1122 : (Jvm.Cond.methodLink "jdk/internal/util/ArraysSupport" (91 : Nat) ({ cls := "java/lang/StringBuilder", name := "<init>", desc := "()V" } : Jvm.MethodName)) ∈ lw_all := lw_g (lw_at lw_m5 20 rfl) rfl
theorem q1123 : (Jvm.Cond.stringRef "jdk/internal/util/ArraysSupport" (92 : Nat) "unrecognized basic type: ") ∈ lw_tbl := lw_at lw_m5 21 rfl
theorem q1124 : (Jvm.Cond.methodLink "jdk/internal/util/ArraysSupport" (94 : Nat) ({ cls := "java/lang/StringBuilder", name := "append", desc := "(Ljava/lang/String;)Ljava/lang/StringBuilder;" } : Jvm.MethodName)) ∈ lw_all := lw_g (lw_at lw_m5 22 rfl) rfl
theorem q1125 : (Jvm.Cond.methodLink "jdk/internal/util/ArraysSupport" (98 : Nat) ({ cls := "java/lang/StringBuilder", name := "append", desc := "(I)Ljava/lang/StringBuilder;" } : Jvm.MethodName)) ∈ lw_all := lw_g (lw_at lw_m5 23 rfl) rfl
theorem q1126 : (Jvm.Cond.methodLink "jdk/internal/util/ArraysSupport" (101 : Nat) ({ cls := "java/lang/StringBuilder", name := "toString", desc := "()Ljava/lang/String;" } : Jvm.MethodName)) ∈ lw_all := lw_g (lw_at lw_m5 24 rfl) rfl
theorem q1127 : (Jvm.Cond.methodLink "jdk/internal/util/ArraysSupport" (105 : Nat) ({ cls := "java/lang/IllegalArgumentException", name := "<init>", desc := "(Ljava/lang/String;)V" } : Jvm.MethodName)) ∈ lw_all := lw_g (lw_at lw_m5 25 rfl) rfl
/-! J12.java_lang_Math -/
def RJ12 : String := "java/lang/Math"
abbrev cJ12_max : ByteArray := prog_41_method_65_code
def yJ12_max : MethodName := ⟨RJ12, "max", "(II)I"⟩
abbrev cJ12_min : ByteArray := prog_41_method_69_code
def yJ12_min : MethodName := ⟨RJ12, "min", "(II)I"⟩
theorem q158 : (Jvm.Cond.initialized "java/lang/Math") ∈ lw_all := lw_g (lw_at lw_m1 16 rfl) rfl
theorem q335 : (Jvm.Cond.static ({ cls := "java/lang/Math", name := "max", desc := "(II)I" } : Jvm.MethodName)) ∈ lw_all := lw_g (lw_at lw_m1 193 rfl) rfl
theorem q336 : (Jvm.Cond.code ({ cls := "java/lang/Math", name := "max", desc := "(II)I" } : Jvm.MethodName) prog_41_method_65_code (2 : Nat) (Option.some Jvm.ClassFile.FieldType.int)) ∈ lw_all := lw_g (lw_at lw_m1 194 rfl) rfl
theorem q353 : (Jvm.Cond.static ({ cls := "java/lang/Math", name := "min", desc := "(II)I" } : Jvm.MethodName)) ∈ lw_all := lw_g (lw_at lw_m1 211 rfl) rfl
theorem q354 : (Jvm.Cond.code ({ cls := "java/lang/Math", name := "min", desc := "(II)I" } : Jvm.MethodName) prog_41_method_69_code (2 : Nat) (Option.some Jvm.ClassFile.FieldType.int)) ∈ lw_all := lw_g (lw_at lw_m1 212 rfl) rfl
/-! J13.java_util_Arrays -/
def RJ13 : String := "java/util/Arrays"
abbrev cJ13_copyOf : ByteArray := prog_64_method_121_code
def yJ13_copyOf : MethodName := ⟨RJ13, "copyOf", "([BI)[B"⟩
abbrev cJ13_copyOfRange : ByteArray := prog_64_method_132_code
def yJ13_copyOfRange : MethodName := ⟨RJ13, "copyOfRange", "([BII)[B"⟩
abbrev cJ13_copyOfRangeByte : ByteArray := prog_64_method_133_code
def yJ13_copyOfRangeByte : MethodName := ⟨RJ13, "copyOfRangeByte", "([BII)[B"⟩
abbrev cJ13_checkLength : ByteArray := prog_64_method_131_code
def yJ13_checkLength : MethodName := ⟨RJ13, "checkLength", "(II)V"⟩
abbrev cJ13_copyOf_2 : ByteArray := prog_64_method_119_code
def yJ13_copyOf_2 : MethodName := ⟨RJ13, "copyOf", "([Ljava/lang/Object;I)[Ljava/lang/Object;"⟩
abbrev cJ13_copyOf_3 : ByteArray := prog_64_method_120_code
def yJ13_copyOf_3 : MethodName := ⟨RJ13, "copyOf", "([Ljava/lang/Object;ILjava/lang/Class;)[Ljava/lang/Object;"⟩
abbrev cJ13_fill : ByteArray := prog_64_method_110_code
def yJ13_fill : MethodName := ⟨RJ13, "fill", "([BIIB)V"⟩
abbrev cJ13_rangeCheck : ByteArray := prog_64_method_30_code
def yJ13_rangeCheck : MethodName := ⟨RJ13, "rangeCheck", "(III)V"⟩
theorem q159 : (Jvm.Cond.initialized "java/util/Arrays") ∈ lw_all := lw_g (lw_at lw_m1 17 rfl) rfl
theorem q343 : (Jvm.Cond.static ({ cls := "java/util/Arrays", name := "copyOf", desc := "([BI)[B" } : Jvm.MethodName)) ∈ lw_all := lw_g (lw_at lw_m1 201 rfl) rfl
theorem q344 : (Jvm.Cond.code ({ cls := "java/util/Arrays", name := "copyOf", desc := "([BI)[B" } : Jvm.MethodName) prog_64_method_121_code (3 : Nat) (Option.some (Jvm.ClassFile.FieldType.array Jvm.ClassFile.FieldType.byte))) ∈ lw_all := lw_g (lw_at lw_m1 202 rfl) rfl
theorem q345 : (Jvm.Cond.methodLink "java/util/Arrays" (310 : Nat) ({ cls := "[B", name := "clone", desc := "()Ljava/lang/Object;" } : Jvm.MethodName)) ∈ lw_all := lw_g (lw_at lw_m1 203 rfl) rfl
theorem q351 : (Jvm.Cond.classLink "java/util/Arrays" (311 : Nat) "[B") ∈ lw_all := lw_g (lw_at lw_m1 209 rfl) rfl
theorem q352 : (Jvm.Cond.methodLink "java/util/Arrays" (304 : Nat) ({ cls := "java/lang/Math", name := "min", desc := "(II)I" } : Jvm.MethodName)) ∈ lw_all := lw_g (lw_at lw_m1 210 rfl) rfl
theorem q355 : (Jvm.Cond.methodLink "java/util/Arrays" (150 : Nat) ({ cls := "java/lang/System", name := "arraycopy", desc := "(Ljava/lang/Object;ILjava/lang/Object;II)V" } : Jvm.MethodName)) ∈ lw_all := lw_g (lw_at lw_m1 213 rfl) rfl
theorem q485 : (Jvm.Cond.static ({ cls := "java/util/Arrays", name := "copyOfRange", desc := "([BII)[B" } : Jvm.MethodName)) ∈ lw_all := lw_g (lw_at lw_m2 103 rfl) rfl
theorem q486 : (Jvm.Cond.code ({ cls := "java/util/Arrays", name := "copyOfRange", desc := "([BII)[B" } : Jvm.MethodName) prog_64_method_132_code (3 : Nat) (Option.some (Jvm.ClassFile.FieldType.array Jvm.ClassFile.FieldType.byte))) ∈ lw_all := lw_g (lw_at lw_m2 104 rfl) rfl
theorem q487 : (Jvm.Cond.methodLink "java/util/Arrays" (339 : Nat) ({ cls := "java/util/Arrays", name := "copyOfRangeByte", desc := "([BII)[B" } : Jvm.MethodName)) ∈ lw_all := lw_g (lw_at lw_m2 105 rfl) rfl
theorem q488 : (Jvm.Cond.static ({ cls := "java/util/Arrays", name := "copyOfRangeByte", desc := "([BII)[B" } : Jvm.MethodName)) ∈ lw_all := lw_g (lw_at lw_m2 106 rfl) rfl
theorem q489 : (Jvm.Cond.code ({ cls := "java/util/Arrays", name := "copyOfRangeByte", desc := "([BII)[B" } : Jvm.MethodName) prog_64_method_133_code (5 : Nat) (Option.some (Jvm.ClassFile.FieldType.array Jvm.ClassFile.FieldType.byte))) ∈ lw_all := lw_g (lw_at lw_m2 107 rfl) rfl
theorem q490 : (Jvm.Cond.methodLink "java/util/Arrays" (343 : Nat) ({ cls := "java/util/Arrays", name := "checkLength", desc := "(II)V" } : Jvm.MethodName)) ∈ lw_all := lw_g (lw_at lw_m2 108 rfl) rfl
theorem q491 : (Jvm.Cond.static ({ cls := "java/util/Arrays", name := "checkLength", desc := "(II)V" } : Jvm.MethodName)) ∈ lw_all := lw_g (lw_at lw_m2 109 rfl) rfl
theorem q492 : (Jvm.Cond.code ({ cls := "java/util/Arrays", name := "checkLength", desc := "(II)V" } : Jvm.MethodName) prog_64_method_131_code (2 : Nat) (Option.none : Option Jvm.ClassFile.FieldType)) ∈ lw_all := lw_g (lw_at lw_m2 110 rfl) rfl
theorem q493 : (Jvm.Cond.classLink "java/util/Arrays" (43 : Nat) "java/lang/IllegalArgumentException") ∈ lw_all := lw_g (lw_at lw_m2 111 rfl) rfl
theorem q494 : (Jvm.Cond.classLink "java/util/Arrays" (45 : Nat) "java/lang/StringBuilder") ∈ lw_all := lw_g (lw_at lw_m2 112 rfl) rfl
theorem q495 : (Jvm.Cond.methodLink "java/util/Arrays" (47 : Nat) ({ cls := "java/lang/StringBuilder", name := "<init>", desc := "()V" } : Jvm.MethodName)) ∈ lw_all := lw_g (lw_at lw_m2 113 rfl) rfl
theorem q496 : (Jvm.Cond.methodLink "java/util/Arrays" (54 : Nat) ({ cls := "java/lang/StringBuilder", name := "append", desc := "(I)Ljava/lang/StringBuilder;" } : Jvm.MethodName)) ∈ lw_all := lw_g (lw_at lw_m2 114 rfl) rfl
theorem q497 : (Jvm.Cond.stringRef "java/util/Arrays" (337 : Nat) " > ") ∈ lw_tbl := lw_at lw_m2 115 rfl
theorem q498 : (Jvm.Cond.methodLink "java/util/Arrays" (50 : Nat) ({ cls := "java/lang/StringBuilder", name := "append", desc := "(Ljava/lang/String;)Ljava/lang/StringBuilder;" } : Jvm.MethodName)) ∈ lw_all := lw_g (lw_at lw_m2 116 rfl) rfl
theorem q499 : (Jvm.Cond.methodLink "java/util/Arrays" (61 : Nat) ({ cls := "java/lang/StringBuilder", name := "toString", desc := "()Ljava/lang/String;" } : Jvm.MethodName)) ∈ lw_all := lw_g (lw_at lw_m2 117 rfl) rfl
theorem q500 : (Jvm.Cond.methodLink "java/util/Arrays" (65 : Nat) ({ cls := "java/lang/IllegalArgumentException", name := "<init>", desc := "(Ljava/lang/String;)V" } : Jvm.MethodName)) ∈ lw_all := lw_g (lw_at lw_m2 118 rfl) rfl
theorem q765 : (Jvm.Cond.static ({ cls := "java/util/Arrays", name := "copyOf", desc := "([Ljava/lang/Object;I)[Ljava/lang/Object;" } : Jvm.MethodName)) ∈ lw_all := lw_g (lw_at lw_m3 143 rfl) rfl
theorem q766 : (Jvm.Cond.code ({ cls := "java/util/Arrays", name := "copyOf", desc := "([Ljava/lang/Object;I)[Ljava/lang/Object;" } : Jvm.MethodName) prog_64_method_119_code (2 : Nat) (Option.some (Jvm.ClassFile.FieldType.array (Jvm.ClassFile.FieldType.object "java/lang/Object")))) ∈ lw_all := lw_g (lw_at lw_m3 144 rfl) rfl
theorem q767 : (Jvm.Cond.methodLink "java/util/Arrays" (86 : Nat) ({ cls := "java/lang/Object", name := "getClass", desc := "()Ljava/lang/Class;" } : Jvm.MethodName)) ∈ lw_all := lw_g (lw_at lw_m3 145 rfl) rfl
theorem q811 : (Jvm.Cond.methodLink "java/util/Arrays" (300 : Nat) ({ cls := "java/util/Arrays", name := "copyOf", desc := "([Ljava/lang/Object;ILjava/lang/Class;)[Ljava/lang/Object;" } : Jvm.MethodName)) ∈ lw_all := lw_g (lw_at lw_m3 189 rfl) rfl
theorem q812 : (Jvm.Cond.static ({ cls := "java/util/Arrays", name := "copyOf", desc := "([Ljava/lang/Object;ILjava/lang/Class;)[Ljava/lang/Object;" } : Jvm.MethodName)) ∈ lw_all := lw_g (lw_at lw_m3 190 rfl) rfl
theorem q813 : (Jvm.Cond.code ({ cls := "java/util/Arrays", name := "copyOf", desc := "([Ljava/lang/Object;ILjava/lang/Class;)[Ljava/lang/Object;" } : Jvm.MethodName) prog_64_method_120_code (4 : Nat) (Option.some (Jvm.ClassFile.FieldType.array (Jvm.ClassFile.FieldType.object "java/lang/Object")))) ∈ lw_all := lw_g (lw_at lw_m3 191 rfl) rfl
theorem q814 : (Jvm.Cond.classLink "java/util/Arrays" (110 : Nat) "[Ljava/lang/Object;") ∈ lw_all := lw_g (lw_at lw_m3 192 rfl) rfl
theorem q815 : (Jvm.Cond.classLink "java/util/Arrays" (2 : Nat) "java/lang/Object") ∈ lw_all := lw_g (lw_at lw_m3 193 rfl) rfl
theorem q2696 : (Jvm.Cond.static ({ cls := "java/util/Arrays", name := "fill", desc := "([BIIB)V" } : Jvm.MethodName)) ∈ lw_all := lw_g (lw_at lw_m11 154 rfl) rfl
theorem q2697 : (Jvm.Cond.code ({ cls := "java/util/Arrays", name := "fill", desc := "([BIIB)V" } : Jvm.MethodName) prog_64_method_110_code (5 : Nat) (Option.none : Option Jvm.ClassFile.FieldType)) ∈ lw_all := lw_g (lw_at lw_m11 155 rfl) rfl
theorem q2698 : (Jvm.Cond.methodLink "java/util/Arrays" (13 : Nat) ({ cls := "java/util/Arrays", name := "rangeCheck", desc := "(III)V" } : Jvm.MethodName)) ∈ lw_all := lw_g (lw_at lw_m11 156 rfl) rfl
theorem q2699 : (Jvm.Cond.static ({ cls := "java/util/Arrays", name := "rangeCheck", desc := "(III)V" } : Jvm.MethodName)) ∈ lw_all := lw_g (lw_at lw_m11 157 rfl) rfl
theorem q2700 : (Jvm.Cond.code ({ cls := "java/util/Arrays", name := "rangeCheck", desc := "(III)V" } : Jvm.MethodName) prog_64_method_30_code (3 : Nat) (Option.none : Option Jvm.ClassFile.FieldType)) ∈ lw_all := lw_g (lw_at lw_m11 158 rfl) rfl
theorem q2701 : (Jvm.Cond.stringRef "java/util/Arrays" (48 : Nat) "fromIndex(") ∈ lw_tbl := lw_at lw_m11 159 rfl
theorem q2702 : (Jvm.Cond.stringRef "java/util/Arrays" (57 : Nat) ") > toIndex(") ∈ lw_tbl := lw_at lw_m11 160 rfl
theorem q2703 : (Jvm.Cond.stringRef "java/util/Arrays" (59 : Nat) ")") ∈ lw_tbl := lw_at lw_m11 161 rfl
theorem q2704 : (Jvm.Cond.classLink "java/util/Arrays" (68 : Nat) "java/lang/ArrayIndexOutOfBoundsException") ∈ lw_all := lw_g (lw_at lw_m11 162 rfl) rfl
theorem q2705 : (Jvm.Cond.methodLink "java/util/Arrays" (70 : Nat) ({ cls := "java/lang/ArrayIndexOutOfBoundsException", name := "<init>", desc := "(I)V" } : Jvm.MethodName)) ∈ lw_all := lw_g (lw_at lw_m11 163 rfl) rfl
/-! J14.jdk_internal_util_Preconditions -/
def RJ14 : String := "jdk/internal/util/Preconditions"
abbrev cJ14_checkFromToIndex : ByteArray := prog_80_method_12_code
def yJ14_checkFromToIndex : MethodName := ⟨RJ14, "checkFromToIndex", "(IIILjava/util/function/BiFunction;)I"⟩
abbrev cJ14_checkFromIndexSize : ByteArray := prog_80_method_13_code
def yJ14_checkFromIndexSize : MethodName := ⟨RJ14, "checkFromIndexSize", "(IIILjava/util/function/BiFunction;)I"⟩
abbrev cJ14_checkIndex : ByteArray := prog_80_method_11_code
def yJ14_checkIndex : MethodName := ⟨RJ14, "checkIndex", "(IILjava/util/function/BiFunction;)I"⟩
theorem q161 : (Jvm.Cond.initialized "jdk/internal/util/Preconditions") ∈ lw_all := lw_g (lw_at lw_m1 19 rfl) rfl
theorem q376 : (Jvm.Cond.laysStatic "jdk/internal/util/Preconditions" "SIOOBE_FORMATTER" "Ljava/util/function/BiFunction;") ∈ lw_tbl := lw_at lw_m1 234 rfl
theorem q378 : (Jvm.Cond.static ({ cls := "jdk/internal/util/Preconditions", name := "checkFromToIndex", desc := "(IIILjava/util/function/BiFunction;)I" } : Jvm.MethodName)) ∈ lw_all := lw_g (lw_at lw_m1 236 rfl) rfl
theorem q379 : (Jvm.Cond.code ({ cls := "jdk/internal/util/Preconditions", name := "checkFromToIndex", desc := "(IIILjava/util/function/BiFunction;)I" } : Jvm.MethodName) prog_80_method_12_code (4 : Nat) (Option.some Jvm.ClassFile.FieldType.int)) ∈ lw_all := lw_g (lw_at lw_m1 237 rfl) rfl
theorem q424 : (Jvm.Cond.static ({ cls := "jdk/internal/util/Preconditions", name := "checkFromIndexSize", desc := "(IIILjava/util/function/BiFunction;)I" } : Jvm.MethodName)) ∈ lw_all := lw_g (lw_at lw_m2 42 rfl) rfl
theorem q425 : (Jvm.Cond.code ({ cls := "jdk/internal/util/Preconditions", name := "checkFromIndexSize", desc := "(IIILjava/util/function/BiFunction;)I" } : Jvm.MethodName) prog_80_method_13_code (4 : Nat) (Option.some Jvm.ClassFile.FieldType.int)) ∈ lw_all := lw_g (lw_at lw_m2 43 rfl) rfl
theorem q955 : (Jvm.Cond.static ({ cls := "jdk/internal/util/Preconditions", name := "checkIndex", desc := "(IILjava/util/function/BiFunction;)I" } : Jvm.MethodName)) ∈ lw_all := lw_g (lw_at lw_m4 93 rfl) rfl
theorem q956 : (Jvm.Cond.code ({ cls := "jdk/internal/util/Preconditions", name := "checkIndex", desc := "(IILjava/util/function/BiFunction;)I" } : Jvm.MethodName) prog_80_method_11_code (3 : Nat) (Option.some Jvm.ClassFile.FieldType.int)) ∈ lw_all := lw_g (lw_at lw_m4 94 rfl) rfl
/-! J15.java_lang_StringLatin1 -/
def RJ15 : String := "java/lang/StringLatin1"
abbrev cJ15_inflate : ByteArray := prog_47_method_50_code
def yJ15_inflate : MethodName := ⟨RJ15, "inflate", "([BI[BII)V"⟩
abbrev cJ15_canEncode : ByteArray := prog_47_method_3_code
def yJ15_canEncode : MethodName := ⟨RJ15, "canEncode", "(C)Z"⟩
abbrev cJ15_equals : ByteArray := prog_47_method_13_code
def yJ15_equals : MethodName := ⟨RJ15, "equals", "([B[B)Z"⟩
abbrev cJ15_hashCode : ByteArray := prog_47_method_21_code
def yJ15_hashCode : MethodName := ⟨RJ15, "hashCode", "([B)I"⟩
abbrev cJ15_charAt : ByteArray := prog_47_method_2_code
def yJ15_charAt : MethodName := ⟨RJ15, "charAt", "([BI)C"⟩
abbrev cJ15_fillNull : ByteArray := prog_47_method_48_code
def yJ15_fillNull : MethodName := ⟨RJ15, "fillNull", "([BII)V"⟩
theorem q162 : (Jvm.Cond.initialized "java/lang/StringLatin1") ∈ lw_all := lw_g (lw_at lw_m1 20 rfl) rfl
theorem q412 : (Jvm.Cond.static ({ cls := "java/lang/StringLatin1", name := "inflate", desc := "([BI[BII)V" } : Jvm.MethodName)) ∈ lw_all := lw_g (lw_at lw_m2 30 rfl) rfl
theorem q413 : (Jvm.Cond.code ({ cls := "java/lang/StringLatin1", name := "inflate", desc := "([BI[BII)V" } : Jvm.MethodName) prog_47_method_50_code (5 : Nat) (Option.none : Option Jvm.ClassFile.FieldType)) ∈ lw_all := lw_g (lw_at lw_m2 31 rfl) rfl
theorem q414 : (Jvm.Cond.methodLink "java/lang/StringLatin1" (240 : Nat) ({ cls := "java/lang/StringUTF16", name := "inflate", desc := "([BI[BII)V" } : Jvm.MethodName)) ∈ lw_all := lw_g (lw_at lw_m2 32 rfl) rfl
theorem q943 : (Jvm.Cond.static ({ cls := "java/lang/StringLatin1", name := "canEncode", desc := "(C)Z" } : Jvm.MethodName)) ∈ lw_all := lw_g (lw_at lw_m4 81 rfl) rfl
theorem q944 : (Jvm.Cond.code ({ cls := "java/lang/StringLatin1", name := "canEncode", desc := "(C)Z" } : Jvm.MethodName) prog_47_method_3_code (1 : Nat) (Option.some Jvm.ClassFile.FieldType.boolean)) ∈ lw_all := lw_g (lw_at lw_m4 82 rfl) rfl
theorem q1014 : (Jvm.Cond.static ({ cls := "java/lang/StringLatin1", name := "equals", desc := "([B[B)Z" } : Jvm.MethodName)) ∈ lw_all := lw_g (lw_at lw_m4 152 rfl) rfl
theorem q1015 : (Jvm.Cond.code ({ cls := "java/lang/StringLatin1", name := "equals", desc := "([B[B)Z" } : Jvm.MethodName) prog_47_method_13_code (3 : Nat) (Option.some Jvm.ClassFile.FieldType.boolean)) ∈ lw_all := lw_g (lw_at lw_m4 153 rfl) rfl
theorem q1080 : (Jvm.Cond.static ({ cls := "java/lang/StringLatin1", name := "hashCode", desc := "([B)I" } : Jvm.MethodName)) ∈ lw_all := lw_g (lw_at lw_m4 218 rfl) rfl
theorem q1081 : (Jvm.Cond.code ({ cls := "java/lang/StringLatin1", name := "hashCode", desc := "([B)I" } : Jvm.MethodName) prog_47_method_21_code (1 : Nat) (Option.some Jvm.ClassFile.FieldType.int)) ∈ lw_all := lw_g (lw_at lw_m4 219 rfl) rfl
theorem q1082 : (Jvm.Cond.methodLink "java/lang/StringLatin1" (84 : Nat) ({ cls := "jdk/internal/util/ArraysSupport", name := "vectorizedHashCode", desc := "(Ljava/lang/Object;IIII)I" } : Jvm.MethodName)) ∈ lw_all := lw_g (lw_at lw_m4 220 rfl) rfl
theorem q2482 : (Jvm.Cond.static ({ cls := "java/lang/StringLatin1", name := "charAt", desc := "([BI)C" } : Jvm.MethodName)) ∈ lw_all := lw_g (lw_at lw_m10 180 rfl) rfl
theorem q2483 : (Jvm.Cond.code ({ cls := "java/lang/StringLatin1", name := "charAt", desc := "([BI)C" } : Jvm.MethodName) prog_47_method_2_code (2 : Nat) (Option.some Jvm.ClassFile.FieldType.char)) ∈ lw_all := lw_g (lw_at lw_m10 181 rfl) rfl
theorem q2484 : (Jvm.Cond.methodLink "java/lang/StringLatin1" (9 : Nat) ({ cls := "java/lang/String", name := "checkIndex", desc := "(II)V" } : Jvm.MethodName)) ∈ lw_all := lw_g (lw_at lw_m10 182 rfl) rfl
theorem q2693 : (Jvm.Cond.static ({ cls := "java/lang/StringLatin1", name := "fillNull", desc := "([BII)V" } : Jvm.MethodName)) ∈ lw_all := lw_g (lw_at lw_m11 151 rfl) rfl
theorem q2694 : (Jvm.Cond.code ({ cls := "java/lang/StringLatin1", name := "fillNull", desc := "([BII)V" } : Jvm.MethodName) prog_47_method_48_code (3 : Nat) (Option.none : Option Jvm.ClassFile.FieldType)) ∈ lw_all := lw_g (lw_at lw_m11 152 rfl) rfl
theorem q2695 : (Jvm.Cond.methodLink "java/lang/StringLatin1" (236 : Nat) ({ cls := "java/util/Arrays", name := "fill", desc := "([BIIB)V" } : Jvm.MethodName)) ∈ lw_all := lw_g (lw_at lw_m11 153 rfl) rfl
/-! J16.java_lang_Integer -/
def RJ16 : String := "java/lang/Integer"
abbrev cJ16_stringSize : ByteArray := prog_39_method_13_code
def yJ16_stringSize : MethodName := ⟨RJ16, "stringSize", "(I)I"⟩
abbrev cJ16_getChars : ByteArray := prog_39_method_12_code
def yJ16_getChars : MethodName := ⟨RJ16, "getChars", "(II[B)I"⟩
abbrev cJ16_bitCount : ByteArray := prog_39_method_49_code
def yJ16_bitCount : MethodName := ⟨RJ16, "bitCount", "(I)I"⟩
theorem q164 : (Jvm.Cond.initialized "java/lang/Integer") ∈ lw_all := lw_g (lw_at lw_m1 22 rfl) rfl
theorem q440 : (Jvm.Cond.static ({ cls := "java/lang/Integer", name := "stringSize", desc := "(I)I" } : Jvm.MethodName)) ∈ lw_all := lw_g (lw_at lw_m2 58 rfl) rfl
theorem q441 : (Jvm.Cond.code ({ cls := "java/lang/Integer", name := "stringSize", desc := "(I)I" } : Jvm.MethodName) prog_39_method_13_code (4 : Nat) (Option.some Jvm.ClassFile.FieldType.int)) ∈ lw_all := lw_g (lw_at lw_m2 59 rfl) rfl
theorem q443 : (Jvm.Cond.static ({ cls := "java/lang/Integer", name := "getChars", desc := "(II[B)I" } : Jvm.MethodName)) ∈ lw_all := lw_g (lw_at lw_m2 61 rfl) rfl
theorem q444 : (Jvm.Cond.code ({ cls := "java/lang/Integer", name := "getChars", desc := "(II[B)I" } : Jvm.MethodName) prog_39_method_12_code (7 : Nat) (Option.some Jvm.ClassFile.FieldType.int)) ∈ lw_all := lw_g (lw_at lw_m2 62 rfl) rfl
theorem q445 : (Jvm.Cond.fieldLink "java/lang/Integer" (83 : Nat) "java/lang/Integer" "DigitOnes" "[B") ∈ lw_all := lw_g (lw_at lw_m2 63 rfl) rfl
theorem q446 : (Jvm.Cond.laysStatic "java/lang/Integer" "DigitOnes" "[B") ∈ lw_tbl := lw_at lw_m2 64 rfl
theorem q447 : (Jvm.Cond.fieldLink "java/lang/Integer" (87 : Nat) "java/lang/Integer" "DigitTens" "[B") ∈ lw_all := lw_g (lw_at lw_m2 65 rfl) rfl
theorem q448 : (Jvm.Cond.laysStatic "java/lang/Integer" "DigitTens" "[B") ∈ lw_tbl := lw_at lw_m2 66 rfl
theorem q2346 : (Jvm.Cond.static ({ cls := "java/lang/Integer", name := "bitCount", desc := "(I)I" } : Jvm.MethodName)) ∈ lw_all := lw_g (lw_at lw_m10 44 rfl) rfl
theorem q2347 : (Jvm.Cond.code ({ cls := "java/lang/Integer", name := "bitCount", desc := "(I)I" } : Jvm.MethodName) prog_39_method_49_code (1 : Nat) (Option.some Jvm.ClassFile.FieldType.int)) ∈ lw_all := lw_g (lw_at lw_m10 45 rfl) rfl
theorem q2348 : (Jvm.Cond.constant "java/lang/Integer" (265 : Nat) (1431655765 : Int32)) ∈ lw_all := lw_g (lw_at lw_m10 46 rfl) rfl
theorem q2349 : (Jvm.Cond.constant "java/lang/Integer" (266 : Nat) (858993459 : Int32)) ∈ lw_all := lw_g (lw_at lw_m10 47 rfl) rfl
theorem q2350 : (Jvm.Cond.constant "java/lang/Integer" (267 : Nat) (252645135 : Int32)) ∈ lw_all := lw_g (lw_at lw_m10 48 rfl) rfl
/-! J17.java_util_AbstractSequentialList -/
def RJ17 : String := "java/util/AbstractSequentialList"
abbrev cJ17_init : ByteArray := prog_58_method_1_code
def yJ17_init : MethodName := ⟨RJ17, "<init>", "()V"⟩
abbrev cJ17_iterator : ByteArray := prog_58_method_7_code
def yJ17_iterator : MethodName := ⟨RJ17, "iterator", "()Ljava/util/Iterator;"⟩
theorem q165 : (Jvm.Cond.initialized "java/util/AbstractSequentialList") ∈ lw_all := lw_g (lw_at lw_m1 23 rfl) rfl
theorem q630 : (Jvm.Cond.instanceMethod ({ cls := "java/util/AbstractSequentialList", name := "<init>", desc := "()V" } : Jvm.MethodName)) ∈ lw_all := lw_g (lw_at lw_m3 8 rfl) rfl
theorem q631 : (Jvm.Cond.code ({ cls := "java/util/AbstractSequentialList", name := "<init>", desc := "()V" } : Jvm.MethodName) prog_58_method_1_code (1 : Nat) (Option.none : Option Jvm.ClassFile.FieldType)) ∈ lw_all := lw_g (lw_at lw_m3 9 rfl) rfl
theorem q632 : (Jvm.Cond.methodLink "java/util/AbstractSequentialList" (1 : Nat) ({ cls := "java/util/AbstractList", name := "<init>", desc := "()V" } : Jvm.MethodName)) ∈ lw_all := lw_g (lw_at lw_m3 10 rfl) rfl
theorem q1642 : (Jvm.Cond.declares ({ cls := "java/util/AbstractSequentialList", name := "iterator", desc := "()Ljava/util/Iterator;" } : Jvm.MethodName)) ∈ lw_tbl := lw_at lw_m7 60 rfl
theorem q1644 : (Jvm.Cond.instanceMethod ({ cls := "java/util/AbstractSequentialList", name := "iterator", desc := "()Ljava/util/Iterator;" } : Jvm.MethodName)) ∈ lw_all := lw_g (lw_at lw_m7 62 rfl) rfl
theorem q1645 : (Jvm.Cond.code ({ cls := "java/util/AbstractSequentialList", name := "iterator", desc := "()Ljava/util/Iterator;" } : Jvm.MethodName) prog_58_method_7_code (1 : Nat) (Option.some (Jvm.ClassFile.FieldType.object "java/util/Iterator"))) ∈ lw_all := lw_g (lw_at lw_m7 63 rfl) rfl
theorem q1646 : (Jvm.Cond.methodLink "java/util/AbstractSequentialList" (65 : Nat) ({ cls := "java/util/AbstractSequentialList", name := "listIterator", desc := "()Ljava/util/ListIterator;" } : Jvm.MethodName)) ∈ lw_all := lw_g (lw_at lw_m7 64 rfl) rfl
theorem q1647 : (Jvm.Cond.sameMethod "java/util/AbstractSequentialList" "java/util/AbstractList" "listIterator" "()Ljava/util/ListIterator;") ∈ lw_all := lw_g (lw_at lw_m7 65 rfl) rfl
/-! J18.java_util_LinkedList -/
def RJ18 : String := "java/util/LinkedList"
def TJ18 : u_T := fun k => match k with
  | 0 => ("java/util/AbstractList", "modCount", "I", false)
  | 1 => ("java/util/LinkedList", "size", "I", false)
  | 2 => ("java/util/LinkedList", "first", "Ljava/util/LinkedList$Node;", false)
  | _ => ("java/util/LinkedList", "last", "Ljava/util/LinkedList$Node;", false)
def tyJ18 : Nat → FieldType := fun k => match k with
  | 0 => .int
  | 1 => .int
  | 2 => .object "java/util/LinkedList$Node"
  | _ => .object "java/util/LinkedList$Node"
abbrev wsJ180 : List Cond := u_ws RJ18 TJ18 4
theorem nmJ18 : ∀ a, a < 4 → ∀ b, b < 4 → a ≠ b → (TJ18 a).2.1 ≠ (TJ18 b).2.1 := by decide +kernel
theorem tyJ18_ok : ∀ k, k < 4 → parseFieldDescriptor (TJ18 k).2.2.1 = some (tyJ18 k) := by decide +kernel
abbrev cJ18_init : ByteArray := prog_68_method_1_code
def yJ18_init : MethodName := ⟨RJ18, "<init>", "()V"⟩
abbrev cJ18_addLast : ByteArray := prog_68_method_14_code
def yJ18_addLast : MethodName := ⟨RJ18, "addLast", "(Ljava/lang/Object;)V"⟩
abbrev cJ18_linkLast : ByteArray := prog_68_method_4_code
def yJ18_linkLast : MethodName := ⟨RJ18, "linkLast", "(Ljava/lang/Object;)V"⟩
abbrev cJ18_listIterator : ByteArray := prog_68_method_49_code
def yJ18_listIterator : MethodName := ⟨RJ18, "listIterator", "(I)Ljava/util/ListIterator;"⟩
abbrev cJ18_checkPositionIndex : ByteArray := prog_68_method_30_code
def yJ18_checkPositionIndex : MethodName := ⟨RJ18, "checkPositionIndex", "(I)V"⟩
abbrev cJ18_isPositionIndex : ByteArray := prog_68_method_27_code
def yJ18_isPositionIndex : MethodName := ⟨RJ18, "isPositionIndex", "(I)Z"⟩
abbrev cJ18_outOfBoundsMsg : ByteArray := prog_68_method_28_code
def yJ18_outOfBoundsMsg : MethodName := ⟨RJ18, "outOfBoundsMsg", "(I)Ljava/lang/String;"⟩
abbrev cJ18_node : ByteArray := prog_68_method_31_code
def yJ18_node : MethodName := ⟨RJ18, "node", "(I)Ljava/util/LinkedList$Node;"⟩
abbrev cJ18_size : ByteArray := prog_68_method_16_code
def yJ18_size : MethodName := ⟨RJ18, "size", "()I"⟩
abbrev cJ18_get : ByteArray := prog_68_method_22_code
def yJ18_get : MethodName := ⟨RJ18, "get", "(I)Ljava/lang/Object;"⟩
abbrev cJ18_checkElementIndex : ByteArray := prog_68_method_29_code
def yJ18_checkElementIndex : MethodName := ⟨RJ18, "checkElementIndex", "(I)V"⟩
abbrev cJ18_isElementIndex : ByteArray := prog_68_method_26_code
def yJ18_isElementIndex : MethodName := ⟨RJ18, "isElementIndex", "(I)Z"⟩
abbrev cJ18_remove : ByteArray := prog_68_method_25_code
def yJ18_remove : MethodName := ⟨RJ18, "remove", "(I)Ljava/lang/Object;"⟩
abbrev cJ18_unlink : ByteArray := prog_68_method_8_code
def yJ18_unlink : MethodName := ⟨RJ18, "unlink", "(Ljava/util/LinkedList$Node;)Ljava/lang/Object;"⟩
theorem q166 : (Jvm.Cond.initialized "java/util/LinkedList") ∈ lw_all := lw_g (lw_at lw_m1 24 rfl) rfl
theorem q558 : (Jvm.Cond.sameField "java/util/LinkedList" "java/util/AbstractList" "modCount" "I") ∈ lw_all := lw_g (lw_at lw_m2 176 rfl) rfl
theorem q562 : (Jvm.Cond.fieldLink "java/util/LinkedList" (33 : Nat) "java/util/LinkedList" "modCount" "I") ∈ lw_all := lw_g (lw_at lw_m2 180 rfl) rfl
theorem q625 : (Jvm.Cond.instantiable "java/util/LinkedList" (4 : Nat)) ∈ lw_all := lw_g (lw_at lw_m3 3 rfl) rfl
theorem q627 : (Jvm.Cond.instanceMethod ({ cls := "java/util/LinkedList", name := "<init>", desc := "()V" } : Jvm.MethodName)) ∈ lw_all := lw_g (lw_at lw_m3 5 rfl) rfl
theorem q628 : (Jvm.Cond.code ({ cls := "java/util/LinkedList", name := "<init>", desc := "()V" } : Jvm.MethodName) prog_68_method_1_code (1 : Nat) (Option.none : Option Jvm.ClassFile.FieldType)) ∈ lw_all := lw_g (lw_at lw_m3 6 rfl) rfl
theorem q629 : (Jvm.Cond.methodLink "java/util/LinkedList" (1 : Nat) ({ cls := "java/util/AbstractSequentialList", name := "<init>", desc := "()V" } : Jvm.MethodName)) ∈ lw_all := lw_g (lw_at lw_m3 7 rfl) rfl
theorem q633 : (Jvm.Cond.fieldLink "java/util/LinkedList" (7 : Nat) "java/util/LinkedList" "size" "I") ∈ lw_all := lw_g (lw_at lw_m3 11 rfl) rfl
theorem q635 : (Jvm.Cond.fieldLink "java/util/LinkedList" (18 : Nat) "java/util/LinkedList" "first" "Ljava/util/LinkedList$Node;") ∈ lw_all := lw_g (lw_at lw_m3 13 rfl) rfl
theorem q636 : (Jvm.Cond.fieldLink "java/util/LinkedList" (27 : Nat) "java/util/LinkedList" "last" "Ljava/util/LinkedList$Node;") ∈ lw_all := lw_g (lw_at lw_m3 14 rfl) rfl
theorem q637 : (Jvm.Cond.lays "java/util/LinkedList" "java/util/LinkedList" "size" "I") ∈ lw_all := lw_g (lw_at lw_m3 15 rfl) rfl
theorem q638 : (Jvm.Cond.soleField "java/util/LinkedList" "size") ∈ lw_all := lw_g (lw_at lw_m3 16 rfl) rfl
theorem q639 : (Jvm.Cond.lays "java/util/LinkedList" "java/util/LinkedList" "first" "Ljava/util/LinkedList$Node;") ∈ lw_all := lw_g (lw_at lw_m3 17 rfl) rfl
theorem q640 : (Jvm.Cond.soleField "java/util/LinkedList" "first") ∈ lw_all := lw_g (lw_at lw_m3 18 rfl) rfl
theorem q641 : (Jvm.Cond.lays "java/util/LinkedList" "java/util/LinkedList" "last" "Ljava/util/LinkedList$Node;") ∈ lw_all := lw_g (lw_at lw_m3 19 rfl) rfl
theorem q642 : (Jvm.Cond.soleField "java/util/LinkedList" "last") ∈ lw_all := lw_g (lw_at lw_m3 20 rfl) rfl
theorem q643 : (Jvm.Cond.lays "java/util/LinkedList" "java/util/AbstractList" "modCount" "I") ∈ lw_all := lw_g (lw_at lw_m3 21 rfl) rfl
theorem q644 : (Jvm.Cond.superclass "java/util/LinkedList" "java/util/AbstractSequentialList") ∈ lw_all := lw_g (lw_at lw_m3 22 rfl) rfl
theorem q806 : (Jvm.Cond.selects "java/util/LinkedList" ({ cls := "java/lang/Object", name := "getClass", desc := "()Ljava/lang/Class;" } : Jvm.MethodName) ({ cls := "java/lang/Object", name := "getClass", desc := "()Ljava/lang/Class;" } : Jvm.MethodName)) ∈ lw_all := lw_g (lw_at lw_m3 184 rfl) rfl
theorem q1477 : (Jvm.Cond.instanceMethod ({ cls := "java/util/LinkedList", name := "addLast", desc := "(Ljava/lang/Object;)V" } : Jvm.MethodName)) ∈ lw_all := lw_g (lw_at lw_m6 135 rfl) rfl
theorem q1478 : (Jvm.Cond.selects "java/util/LinkedList" ({ cls := "java/util/LinkedList", name := "addLast", desc := "(Ljava/lang/Object;)V" } : Jvm.MethodName) ({ cls := "java/util/LinkedList", name := "addLast", desc := "(Ljava/lang/Object;)V" } : Jvm.MethodName)) ∈ lw_all := lw_g (lw_at lw_m6 136 rfl) rfl
theorem q1479 : (Jvm.Cond.code ({ cls := "java/util/LinkedList", name := "addLast", desc := "(Ljava/lang/Object;)V" } : Jvm.MethodName) prog_68_method_14_code (2 : Nat) (Option.none : Option Jvm.ClassFile.FieldType)) ∈ lw_all := lw_g (lw_at lw_m6 137 rfl) rfl
theorem q1480 : (Jvm.Cond.methodLink "java/util/LinkedList" (57 : Nat) ({ cls := "java/util/LinkedList", name := "linkLast", desc := "(Ljava/lang/Object;)V" } : Jvm.MethodName)) ∈ lw_all := lw_g (lw_at lw_m6 138 rfl) rfl
theorem q1481 : (Jvm.Cond.instanceMethod ({ cls := "java/util/LinkedList", name := "linkLast", desc := "(Ljava/lang/Object;)V" } : Jvm.MethodName)) ∈ lw_all := lw_g (lw_at lw_m6 139 rfl) rfl
theorem q1482 : (Jvm.Cond.selects "java/util/LinkedList" ({ cls := "java/util/LinkedList", name := "linkLast", desc := "(Ljava/lang/Object;)V" } : Jvm.MethodName) ({ cls := "java/util/LinkedList", name := "linkLast", desc := "(Ljava/lang/Object;)V" } : Jvm.MethodName)) ∈ lw_all := lw_g (lw_at lw_m6 140 rfl) rfl
theorem q1483 : (Jvm.Cond.code ({ cls := "java/util/LinkedList", name := "linkLast", desc := "(Ljava/lang/Object;)V" } : Jvm.MethodName) prog_68_method_4_code (4 : Nat) (Option.none : Option Jvm.ClassFile.FieldType)) ∈ lw_all := lw_g (lw_at lw_m6 141 rfl) rfl
theorem q1484 : (Jvm.Cond.classLink "java/util/LinkedList" (22 : Nat) "java/util/LinkedList$Node") ∈ lw_all := lw_g (lw_at lw_m6 142 rfl) rfl
theorem q1486 : (Jvm.Cond.methodLink "java/util/LinkedList" (24 : Nat) ({ cls := "java/util/LinkedList$Node", name := "<init>", desc := "(Ljava/util/LinkedList$Node;Ljava/lang/Object;Ljava/util/LinkedList$Node;)V" } : Jvm.MethodName)) ∈ lw_all := lw_g (lw_at lw_m6 144 rfl) rfl
theorem q1492 : (Jvm.Cond.fieldLink "java/util/LinkedList" (39 : Nat) "java/util/LinkedList$Node" "item" "Ljava/lang/Object;") ∈ lw_all := lw_g (lw_at lw_m6 150 rfl) rfl
theorem q1495 : (Jvm.Cond.fieldLink "java/util/LinkedList" (36 : Nat) "java/util/LinkedList$Node" "next" "Ljava/util/LinkedList$Node;") ∈ lw_all := lw_g (lw_at lw_m6 153 rfl) rfl
theorem q1497 : (Jvm.Cond.fieldLink "java/util/LinkedList" (30 : Nat) "java/util/LinkedList$Node" "prev" "Ljava/util/LinkedList$Node;") ∈ lw_all := lw_g (lw_at lw_m6 155 rfl) rfl
theorem q1641 : (Jvm.Cond.sameMethod "java/util/LinkedList" "java/util/AbstractSequentialList" "iterator" "()Ljava/util/Iterator;") ∈ lw_all := lw_g (lw_at lw_m7 59 rfl) rfl
theorem q1643 : (Jvm.Cond.selects "java/util/LinkedList" ({ cls := "java/util/LinkedList", name := "iterator", desc := "()Ljava/util/Iterator;" } : Jvm.MethodName) ({ cls := "java/util/AbstractSequentialList", name := "iterator", desc := "()Ljava/util/Iterator;" } : Jvm.MethodName)) ∈ lw_all := lw_g (lw_at lw_m7 61 rfl) rfl
theorem q1649 : (Jvm.Cond.selects "java/util/LinkedList" ({ cls := "java/util/AbstractSequentialList", name := "listIterator", desc := "()Ljava/util/ListIterator;" } : Jvm.MethodName) ({ cls := "java/util/AbstractList", name := "listIterator", desc := "()Ljava/util/ListIterator;" } : Jvm.MethodName)) ∈ lw_all := lw_g (lw_at lw_m7 67 rfl) rfl
theorem q1710 : (Jvm.Cond.selects "java/util/LinkedList" ({ cls := "java/util/AbstractList", name := "listIterator", desc := "(I)Ljava/util/ListIterator;" } : Jvm.MethodName) ({ cls := "java/util/LinkedList", name := "listIterator", desc := "(I)Ljava/util/ListIterator;" } : Jvm.MethodName)) ∈ lw_all := lw_g (lw_at lw_m7 128 rfl) rfl
theorem q1711 : (Jvm.Cond.instanceMethod ({ cls := "java/util/LinkedList", name := "listIterator", desc := "(I)Ljava/util/ListIterator;" } : Jvm.MethodName)) ∈ lw_all := lw_g (lw_at lw_m7 129 rfl) rfl
theorem q1712 : (Jvm.Cond.code ({ cls := "java/util/LinkedList", name := "listIterator", desc := "(I)Ljava/util/ListIterator;" } : Jvm.MethodName) prog_68_method_49_code (2 : Nat) (Option.some (Jvm.ClassFile.FieldType.object "java/util/ListIterator"))) ∈ lw_all := lw_g (lw_at lw_m7 130 rfl) rfl
theorem q1713 : (Jvm.Cond.methodLink "java/util/LinkedList" (76 : Nat) ({ cls := "java/util/LinkedList", name := "checkPositionIndex", desc := "(I)V" } : Jvm.MethodName)) ∈ lw_all := lw_g (lw_at lw_m7 131 rfl) rfl
theorem q1714 : (Jvm.Cond.privateMethod ({ cls := "java/util/LinkedList", name := "checkPositionIndex", desc := "(I)V" } : Jvm.MethodName)) ∈ lw_tbl := lw_at lw_m7 132 rfl
theorem q1715 : (Jvm.Cond.instanceMethod ({ cls := "java/util/LinkedList", name := "checkPositionIndex", desc := "(I)V" } : Jvm.MethodName)) ∈ lw_all := lw_g (lw_at lw_m7 133 rfl) rfl
theorem q1716 : (Jvm.Cond.code ({ cls := "java/util/LinkedList", name := "checkPositionIndex", desc := "(I)V" } : Jvm.MethodName) prog_68_method_30_code (2 : Nat) (Option.none : Option Jvm.ClassFile.FieldType)) ∈ lw_all := lw_g (lw_at lw_m7 134 rfl) rfl
theorem q1717 : (Jvm.Cond.methodLink "java/util/LinkedList" (128 : Nat) ({ cls := "java/util/LinkedList", name := "isPositionIndex", desc := "(I)Z" } : Jvm.MethodName)) ∈ lw_all := lw_g (lw_at lw_m7 135 rfl) rfl
theorem q1718 : (Jvm.Cond.privateMethod ({ cls := "java/util/LinkedList", name := "isPositionIndex", desc := "(I)Z" } : Jvm.MethodName)) ∈ lw_tbl := lw_at lw_m7 136 rfl
theorem q1719 : (Jvm.Cond.instanceMethod ({ cls := "java/util/LinkedList", name := "isPositionIndex", desc := "(I)Z" } : Jvm.MethodName)) ∈ lw_all := lw_g (lw_at lw_m7 137 rfl) rfl
theorem q1720 : (Jvm.Cond.code ({ cls := "java/util/LinkedList", name := "isPositionIndex", desc := "(I)Z" } : Jvm.MethodName) prog_68_method_27_code (2 : Nat) (Option.some Jvm.ClassFile.FieldType.boolean)) ∈ lw_all := lw_g (lw_at lw_m7 138 rfl) rfl
theorem q1721 : (Jvm.Cond.classLink "java/util/LinkedList" (119 : Nat) "java/lang/IndexOutOfBoundsException") ∈ lw_all := lw_g (lw_at lw_m7 139 rfl) rfl
theorem q1722 : (Jvm.Cond.methodLink "java/util/LinkedList" (121 : Nat) ({ cls := "java/util/LinkedList", name := "outOfBoundsMsg", desc := "(I)Ljava/lang/String;" } : Jvm.MethodName)) ∈ lw_all := lw_g (lw_at lw_m7 140 rfl) rfl
theorem q1723 : (Jvm.Cond.privateMethod ({ cls := "java/util/LinkedList", name := "outOfBoundsMsg", desc := "(I)Ljava/lang/String;" } : Jvm.MethodName)) ∈ lw_tbl := lw_at lw_m7 141 rfl
theorem q1724 : (Jvm.Cond.instanceMethod ({ cls := "java/util/LinkedList", name := "outOfBoundsMsg", desc := "(I)Ljava/lang/String;" } : Jvm.MethodName)) ∈ lw_all := lw_g (lw_at lw_m7 142 rfl) rfl
theorem q1725 : (Jvm.Cond.code ({ cls := "java/util/LinkedList", name := "outOfBoundsMsg", desc := "(I)Ljava/lang/String;" } : Jvm.MethodName) prog_68_method_28_code (2 : Nat) (Option.some (Jvm.ClassFile.FieldType.object "java/lang/String"))) ∈ lw_all := lw_g (lw_at lw_m7 143 rfl) rfl
theorem q1726 : (Jvm.Cond.classLink "java/util/LinkedList" (97 : Nat) "java/lang/StringBuilder") ∈ lw_all := lw_g (lw_at lw_m7 144 rfl) rfl
theorem q1727 : (Jvm.Cond.methodLink "java/util/LinkedList" (99 : Nat) ({ cls := "java/lang/StringBuilder", name := "<init>", desc := "()V" } : Jvm.MethodName)) ∈ lw_all := lw_g (lw_at lw_m7 145 rfl) rfl
theorem q1728 : (Jvm.Cond.stringRef "java/util/LinkedList" (100 : Nat) "Index: ") ∈ lw_tbl := lw_at lw_m7 146 rfl
theorem q1729 : (Jvm.Cond.methodLink "java/util/LinkedList" (102 : Nat) ({ cls := "java/lang/StringBuilder", name := "append", desc := "(Ljava/lang/String;)Ljava/lang/StringBuilder;" } : Jvm.MethodName)) ∈ lw_all := lw_g (lw_at lw_m7 147 rfl) rfl
theorem q1730 : (Jvm.Cond.methodLink "java/util/LinkedList" (106 : Nat) ({ cls := "java/lang/StringBuilder", name := "append", desc := "(I)Ljava/lang/StringBuilder;" } : Jvm.MethodName)) ∈ lw_all := lw_g (lw_at lw_m7 148 rfl) rfl
theorem q1731 : (Jvm.Cond.stringRef "java/util/LinkedList" (109 : Nat) ", Size: ") ∈ lw_tbl := lw_at lw_m7 149 rfl
theorem q1732 : (Jvm.Cond.methodLink "java/util/LinkedList" (111 : Nat) ({ cls := "java/lang/StringBuilder", name := "toString", desc := "()Ljava/lang/String;" } : Jvm.MethodName)) ∈ lw_all := lw_g (lw_at lw_m7 150 rfl) rfl
theorem q1733 : (Jvm.Cond.methodLink "java/util/LinkedList" (125 : Nat) ({ cls := "java/lang/IndexOutOfBoundsException", name := "<init>", desc := "(Ljava/lang/String;)V" } : Jvm.MethodName)) ∈ lw_all := lw_g (lw_at lw_m7 151 rfl) rfl
theorem q1734 : (Jvm.Cond.classLink "java/util/LinkedList" (150 : Nat) "java/util/LinkedList$ListItr") ∈ lw_all := lw_g (lw_at lw_m7 152 rfl) rfl
theorem q1736 : (Jvm.Cond.methodLink "java/util/LinkedList" (152 : Nat) ({ cls := "java/util/LinkedList$ListItr", name := "<init>", desc := "(Ljava/util/LinkedList;I)V" } : Jvm.MethodName)) ∈ lw_all := lw_g (lw_at lw_m7 154 rfl) rfl
theorem q1741 : (Jvm.Cond.instanceMethod ({ cls := "java/util/LinkedList", name := "node", desc := "(I)Ljava/util/LinkedList$Node;" } : Jvm.MethodName)) ∈ lw_all := lw_g (lw_at lw_m7 159 rfl) rfl
theorem q1742 : (Jvm.Cond.selects "java/util/LinkedList" ({ cls := "java/util/LinkedList", name := "node", desc := "(I)Ljava/util/LinkedList$Node;" } : Jvm.MethodName) ({ cls := "java/util/LinkedList", name := "node", desc := "(I)Ljava/util/LinkedList$Node;" } : Jvm.MethodName)) ∈ lw_all := lw_g (lw_at lw_m7 160 rfl) rfl
theorem q1743 : (Jvm.Cond.code ({ cls := "java/util/LinkedList", name := "node", desc := "(I)Ljava/util/LinkedList$Node;" } : Jvm.MethodName) prog_68_method_31_code (4 : Nat) (Option.some (Jvm.ClassFile.FieldType.object "java/util/LinkedList$Node"))) ∈ lw_all := lw_g (lw_at lw_m7 161 rfl) rfl
theorem q1775 : (Jvm.Cond.selects "java/util/LinkedList" ({ cls := "java/util/AbstractList", name := "size", desc := "()I" } : Jvm.MethodName) ({ cls := "java/util/LinkedList", name := "size", desc := "()I" } : Jvm.MethodName)) ∈ lw_all := lw_g (lw_at lw_m7 193 rfl) rfl
theorem q1776 : (Jvm.Cond.instanceMethod ({ cls := "java/util/LinkedList", name := "size", desc := "()I" } : Jvm.MethodName)) ∈ lw_all := lw_g (lw_at lw_m7 194 rfl) rfl
theorem q1777 : (Jvm.Cond.code ({ cls := "java/util/LinkedList", name := "size", desc := "()I" } : Jvm.MethodName) prog_68_method_16_code (1 : Nat) (Option.some Jvm.ClassFile.FieldType.int)) ∈ lw_all := lw_g (lw_at lw_m7 195 rfl) rfl
theorem q1814 : (Jvm.Cond.selects "java/util/LinkedList" ({ cls := "java/util/AbstractList", name := "get", desc := "(I)Ljava/lang/Object;" } : Jvm.MethodName) ({ cls := "java/util/LinkedList", name := "get", desc := "(I)Ljava/lang/Object;" } : Jvm.MethodName)) ∈ lw_all := lw_g (lw_at lw_m7 232 rfl) rfl
theorem q1815 : (Jvm.Cond.instanceMethod ({ cls := "java/util/LinkedList", name := "get", desc := "(I)Ljava/lang/Object;" } : Jvm.MethodName)) ∈ lw_all := lw_g (lw_at lw_m7 233 rfl) rfl
theorem q1816 : (Jvm.Cond.code ({ cls := "java/util/LinkedList", name := "get", desc := "(I)Ljava/lang/Object;" } : Jvm.MethodName) prog_68_method_22_code (2 : Nat) (Option.some (Jvm.ClassFile.FieldType.object "java/lang/Object"))) ∈ lw_all := lw_g (lw_at lw_m7 234 rfl) rfl
theorem q1817 : (Jvm.Cond.methodLink "java/util/LinkedList" (90 : Nat) ({ cls := "java/util/LinkedList", name := "checkElementIndex", desc := "(I)V" } : Jvm.MethodName)) ∈ lw_all := lw_g (lw_at lw_m7 235 rfl) rfl
theorem q1818 : (Jvm.Cond.privateMethod ({ cls := "java/util/LinkedList", name := "checkElementIndex", desc := "(I)V" } : Jvm.MethodName)) ∈ lw_tbl := lw_at lw_m7 236 rfl
theorem q1819 : (Jvm.Cond.instanceMethod ({ cls := "java/util/LinkedList", name := "checkElementIndex", desc := "(I)V" } : Jvm.MethodName)) ∈ lw_all := lw_g (lw_at lw_m7 237 rfl) rfl
theorem q1820 : (Jvm.Cond.code ({ cls := "java/util/LinkedList", name := "checkElementIndex", desc := "(I)V" } : Jvm.MethodName) prog_68_method_29_code (2 : Nat) (Option.none : Option Jvm.ClassFile.FieldType)) ∈ lw_all := lw_g (lw_at lw_m7 238 rfl) rfl
theorem q1821 : (Jvm.Cond.methodLink "java/util/LinkedList" (115 : Nat) ({ cls := "java/util/LinkedList", name := "isElementIndex", desc := "(I)Z" } : Jvm.MethodName)) ∈ lw_all := lw_g (lw_at lw_m7 239 rfl) rfl
theorem q1822 : (Jvm.Cond.privateMethod ({ cls := "java/util/LinkedList", name := "isElementIndex", desc := "(I)Z" } : Jvm.MethodName)) ∈ lw_tbl := lw_at lw_m8 0 rfl
theorem q1823 : (Jvm.Cond.instanceMethod ({ cls := "java/util/LinkedList", name := "isElementIndex", desc := "(I)Z" } : Jvm.MethodName)) ∈ lw_all := lw_g (lw_at lw_m8 1 rfl) rfl
theorem q1824 : (Jvm.Cond.code ({ cls := "java/util/LinkedList", name := "isElementIndex", desc := "(I)Z" } : Jvm.MethodName) prog_68_method_26_code (2 : Nat) (Option.some Jvm.ClassFile.FieldType.boolean)) ∈ lw_all := lw_g (lw_at lw_m8 2 rfl) rfl
theorem q1825 : (Jvm.Cond.methodLink "java/util/LinkedList" (86 : Nat) ({ cls := "java/util/LinkedList", name := "node", desc := "(I)Ljava/util/LinkedList$Node;" } : Jvm.MethodName)) ∈ lw_all := lw_g (lw_at lw_m8 3 rfl) rfl
theorem q2177 : (Jvm.Cond.instanceMethod ({ cls := "java/util/LinkedList", name := "remove", desc := "(I)Ljava/lang/Object;" } : Jvm.MethodName)) ∈ lw_all := lw_g (lw_at lw_m9 115 rfl) rfl
theorem q2178 : (Jvm.Cond.selects "java/util/LinkedList" ({ cls := "java/util/LinkedList", name := "remove", desc := "(I)Ljava/lang/Object;" } : Jvm.MethodName) ({ cls := "java/util/LinkedList", name := "remove", desc := "(I)Ljava/lang/Object;" } : Jvm.MethodName)) ∈ lw_all := lw_g (lw_at lw_m9 116 rfl) rfl
theorem q2179 : (Jvm.Cond.code ({ cls := "java/util/LinkedList", name := "remove", desc := "(I)Ljava/lang/Object;" } : Jvm.MethodName) prog_68_method_25_code (2 : Nat) (Option.some (Jvm.ClassFile.FieldType.object "java/lang/Object"))) ∈ lw_all := lw_g (lw_at lw_m9 117 rfl) rfl
theorem q2180 : (Jvm.Cond.methodLink "java/util/LinkedList" (64 : Nat) ({ cls := "java/util/LinkedList", name := "unlink", desc := "(Ljava/util/LinkedList$Node;)Ljava/lang/Object;" } : Jvm.MethodName)) ∈ lw_all := lw_g (lw_at lw_m9 118 rfl) rfl
theorem q2181 : (Jvm.Cond.instanceMethod ({ cls := "java/util/LinkedList", name := "unlink", desc := "(Ljava/util/LinkedList$Node;)Ljava/lang/Object;" } : Jvm.MethodName)) ∈ lw_all := lw_g (lw_at lw_m9 119 rfl) rfl
theorem q2182 : (Jvm.Cond.selects "java/util/LinkedList" ({ cls := "java/util/LinkedList", name := "unlink", desc := "(Ljava/util/LinkedList$Node;)Ljava/lang/Object;" } : Jvm.MethodName) ({ cls := "java/util/LinkedList", name := "unlink", desc := "(Ljava/util/LinkedList$Node;)Ljava/lang/Object;" } : Jvm.MethodName)) ∈ lw_all := lw_g (lw_at lw_m9 120 rfl) rfl
theorem q2183 : (Jvm.Cond.code ({ cls := "java/util/LinkedList", name := "unlink", desc := "(Ljava/util/LinkedList$Node;)Ljava/lang/Object;" } : Jvm.MethodName) prog_68_method_8_code (5 : Nat) (Option.some (Jvm.ClassFile.FieldType.object "java/lang/Object"))) ∈ lw_all := lw_g (lw_at lw_m9 121 rfl) rfl
theorem q3465 : (Jvm.Cond.selects "java/util/LinkedList" ({ cls := "java/util/LinkedList", name := "size", desc := "()I" } : Jvm.MethodName) ({ cls := "java/util/LinkedList", name := "size", desc := "()I" } : Jvm.MethodName)) ∈ lw_all := lw_g (lw_at lw_m14 203 rfl) rfl
theorem q3466 : (Jvm.Cond.selects "java/util/LinkedList" ({ cls := "java/util/LinkedList", name := "get", desc := "(I)Ljava/lang/Object;" } : Jvm.MethodName) ({ cls := "java/util/LinkedList", name := "get", desc := "(I)Ljava/lang/Object;" } : Jvm.MethodName)) ∈ lw_all := lw_g (lw_at lw_m14 204 rfl) rfl
theorem q3485 : (Jvm.Cond.castable "java/util/LinkedList" "java/lang/Object") ∈ lw_tbl := lw_at lw_m14 223 rfl
theorem in_J18 : ∀ w ∈ wsJ180, w ∈ lw_all := lw_in wsJ180 [643, 637, 639, 641] (by decide +kernel) (by decide +kernel)
/-! J19.java_util_ArrayDeque -/
def RJ19 : String := "java/util/ArrayDeque"
def TJ19 : u_T := fun k => match k with
  | 0 => ("java/util/ArrayDeque", "elements", "[Ljava/lang/Object;", false)
  | 1 => ("java/util/ArrayDeque", "head", "I", false)
  | _ => ("java/util/ArrayDeque", "tail", "I", false)
def tyJ19 : Nat → FieldType := fun k => match k with
  | 0 => .array (.object "java/lang/Object")
  | 1 => .int
  | _ => .int
abbrev wsJ190 : List Cond := u_ws RJ19 TJ19 3
theorem nmJ19 : ∀ a, a < 3 → ∀ b, b < 3 → a ≠ b → (TJ19 a).2.1 ≠ (TJ19 b).2.1 := by decide +kernel
theorem tyJ19_ok : ∀ k, k < 3 → parseFieldDescriptor (TJ19 k).2.2.1 = some (tyJ19 k) := by decide +kernel
abbrev cJ19_init : ByteArray := prog_59_method_3_code
def yJ19_init : MethodName := ⟨RJ19, "<init>", "()V"⟩
abbrev cJ19_size : ByteArray := prog_59_method_37_code
def yJ19_size : MethodName := ⟨RJ19, "size", "()I"⟩
abbrev cJ19_sub : ByteArray := prog_59_method_9_code
def yJ19_sub : MethodName := ⟨RJ19, "sub", "(III)I"⟩
abbrev cJ19_removeFirst : ByteArray := prog_59_method_18_code
def yJ19_removeFirst : MethodName := ⟨RJ19, "removeFirst", "()Ljava/lang/Object;"⟩
abbrev cJ19_pollFirst : ByteArray := prog_59_method_20_code
def yJ19_pollFirst : MethodName := ⟨RJ19, "pollFirst", "()Ljava/lang/Object;"⟩
abbrev cJ19_elementAt : ByteArray := prog_59_method_10_code
def yJ19_elementAt : MethodName := ⟨RJ19, "elementAt", "([Ljava/lang/Object;I)Ljava/lang/Object;"⟩
abbrev cJ19_inc : ByteArray := prog_59_method_6_code
def yJ19_inc : MethodName := ⟨RJ19, "inc", "(II)I"⟩
abbrev cJ19_addLast : ByteArray := prog_59_method_13_code
def yJ19_addLast : MethodName := ⟨RJ19, "addLast", "(Ljava/lang/Object;)V"⟩
abbrev cJ19_grow : ByteArray := prog_59_method_1_code
def yJ19_grow : MethodName := ⟨RJ19, "grow", "(I)V"⟩
abbrev cJ19_newCapacity : ByteArray := prog_59_method_2_code
def yJ19_newCapacity : MethodName := ⟨RJ19, "newCapacity", "(II)I"⟩
abbrev cJ19_nonNullElementAt : ByteArray := prog_59_method_11_code
def yJ19_nonNullElementAt : MethodName := ⟨RJ19, "nonNullElementAt", "([Ljava/lang/Object;I)Ljava/lang/Object;"⟩
abbrev cJ19_iterator : ByteArray := prog_59_method_39_code
def yJ19_iterator : MethodName := ⟨RJ19, "iterator", "()Ljava/util/Iterator;"⟩
abbrev cJ19_clear : ByteArray := prog_59_method_53_code
def yJ19_clear : MethodName := ⟨RJ19, "clear", "()V"⟩
abbrev cJ19_circularClear : ByteArray := prog_59_method_54_code
def yJ19_circularClear : MethodName := ⟨RJ19, "circularClear", "([Ljava/lang/Object;II)V"⟩
abbrev cJ19_isEmpty : ByteArray := prog_59_method_38_code
def yJ19_isEmpty : MethodName := ⟨RJ19, "isEmpty", "()Z"⟩
abbrev cJ19_removeLast : ByteArray := prog_59_method_19_code
def yJ19_removeLast : MethodName := ⟨RJ19, "removeLast", "()Ljava/lang/Object;"⟩
abbrev cJ19_pollLast : ByteArray := prog_59_method_21_code
def yJ19_pollLast : MethodName := ⟨RJ19, "pollLast", "()Ljava/lang/Object;"⟩
abbrev cJ19_dec : ByteArray := prog_59_method_7_code
def yJ19_dec : MethodName := ⟨RJ19, "dec", "(II)I"⟩
theorem q167 : (Jvm.Cond.initialized "java/util/ArrayDeque") ∈ lw_all := lw_g (lw_at lw_m1 25 rfl) rfl
theorem q646 : (Jvm.Cond.instantiable "java/util/ArrayDeque" (3 : Nat)) ∈ lw_all := lw_g (lw_at lw_m3 24 rfl) rfl
theorem q648 : (Jvm.Cond.instanceMethod ({ cls := "java/util/ArrayDeque", name := "<init>", desc := "()V" } : Jvm.MethodName)) ∈ lw_all := lw_g (lw_at lw_m3 26 rfl) rfl
theorem q649 : (Jvm.Cond.code ({ cls := "java/util/ArrayDeque", name := "<init>", desc := "()V" } : Jvm.MethodName) prog_59_method_3_code (1 : Nat) (Option.none : Option Jvm.ClassFile.FieldType)) ∈ lw_all := lw_g (lw_at lw_m3 27 rfl) rfl
theorem q650 : (Jvm.Cond.methodLink "java/util/ArrayDeque" (42 : Nat) ({ cls := "java/util/AbstractCollection", name := "<init>", desc := "()V" } : Jvm.MethodName)) ∈ lw_all := lw_g (lw_at lw_m3 28 rfl) rfl
theorem q651 : (Jvm.Cond.classLink "java/util/ArrayDeque" (47 : Nat) "java/lang/Object") ∈ lw_all := lw_g (lw_at lw_m3 29 rfl) rfl
theorem q652 : (Jvm.Cond.fieldLink "java/util/ArrayDeque" (3 : Nat) "java/util/ArrayDeque" "elements" "[Ljava/lang/Object;") ∈ lw_all := lw_g (lw_at lw_m3 30 rfl) rfl
theorem q655 : (Jvm.Cond.fieldLink "java/util/ArrayDeque" (24 : Nat) "java/util/ArrayDeque" "head" "I") ∈ lw_all := lw_g (lw_at lw_m3 33 rfl) rfl
theorem q656 : (Jvm.Cond.fieldLink "java/util/ArrayDeque" (20 : Nat) "java/util/ArrayDeque" "tail" "I") ∈ lw_all := lw_g (lw_at lw_m3 34 rfl) rfl
theorem q657 : (Jvm.Cond.lays "java/util/ArrayDeque" "java/util/ArrayDeque" "elements" "[Ljava/lang/Object;") ∈ lw_all := lw_g (lw_at lw_m3 35 rfl) rfl
theorem q658 : (Jvm.Cond.soleField "java/util/ArrayDeque" "elements") ∈ lw_all := lw_g (lw_at lw_m3 36 rfl) rfl
theorem q659 : (Jvm.Cond.lays "java/util/ArrayDeque" "java/util/ArrayDeque" "head" "I") ∈ lw_all := lw_g (lw_at lw_m3 37 rfl) rfl
theorem q660 : (Jvm.Cond.soleField "java/util/ArrayDeque" "head") ∈ lw_all := lw_g (lw_at lw_m3 38 rfl) rfl
theorem q661 : (Jvm.Cond.lays "java/util/ArrayDeque" "java/util/ArrayDeque" "tail" "I") ∈ lw_all := lw_g (lw_at lw_m3 39 rfl) rfl
theorem q662 : (Jvm.Cond.soleField "java/util/ArrayDeque" "tail") ∈ lw_all := lw_g (lw_at lw_m3 40 rfl) rfl
theorem q663 : (Jvm.Cond.superclass "java/util/ArrayDeque" "java/util/AbstractCollection") ∈ lw_all := lw_g (lw_at lw_m3 41 rfl) rfl
theorem q802 : (Jvm.Cond.selects "java/util/ArrayDeque" ({ cls := "java/lang/Object", name := "getClass", desc := "()Ljava/lang/Class;" } : Jvm.MethodName) ({ cls := "java/lang/Object", name := "getClass", desc := "()Ljava/lang/Class;" } : Jvm.MethodName)) ∈ lw_all := lw_g (lw_at lw_m3 180 rfl) rfl
theorem q1510 : (Jvm.Cond.instanceMethod ({ cls := "java/util/ArrayDeque", name := "size", desc := "()I" } : Jvm.MethodName)) ∈ lw_all := lw_g (lw_at lw_m6 168 rfl) rfl
theorem q1511 : (Jvm.Cond.selects "java/util/ArrayDeque" ({ cls := "java/util/ArrayDeque", name := "size", desc := "()I" } : Jvm.MethodName) ({ cls := "java/util/ArrayDeque", name := "size", desc := "()I" } : Jvm.MethodName)) ∈ lw_all := lw_g (lw_at lw_m6 169 rfl) rfl
theorem q1512 : (Jvm.Cond.code ({ cls := "java/util/ArrayDeque", name := "size", desc := "()I" } : Jvm.MethodName) prog_59_method_37_code (1 : Nat) (Option.some Jvm.ClassFile.FieldType.int)) ∈ lw_all := lw_g (lw_at lw_m6 170 rfl) rfl
theorem q1513 : (Jvm.Cond.methodLink "java/util/ArrayDeque" (127 : Nat) ({ cls := "java/util/ArrayDeque", name := "sub", desc := "(III)I" } : Jvm.MethodName)) ∈ lw_all := lw_g (lw_at lw_m6 171 rfl) rfl
theorem q1514 : (Jvm.Cond.static ({ cls := "java/util/ArrayDeque", name := "sub", desc := "(III)I" } : Jvm.MethodName)) ∈ lw_all := lw_g (lw_at lw_m6 172 rfl) rfl
theorem q1515 : (Jvm.Cond.code ({ cls := "java/util/ArrayDeque", name := "sub", desc := "(III)I" } : Jvm.MethodName) prog_59_method_9_code (3 : Nat) (Option.some Jvm.ClassFile.FieldType.int)) ∈ lw_all := lw_g (lw_at lw_m6 173 rfl) rfl
theorem q1517 : (Jvm.Cond.instanceMethod ({ cls := "java/util/ArrayDeque", name := "removeFirst", desc := "()Ljava/lang/Object;" } : Jvm.MethodName)) ∈ lw_all := lw_g (lw_at lw_m6 175 rfl) rfl
theorem q1518 : (Jvm.Cond.selects "java/util/ArrayDeque" ({ cls := "java/util/ArrayDeque", name := "removeFirst", desc := "()Ljava/lang/Object;" } : Jvm.MethodName) ({ cls := "java/util/ArrayDeque", name := "removeFirst", desc := "()Ljava/lang/Object;" } : Jvm.MethodName)) ∈ lw_all := lw_g (lw_at lw_m6 176 rfl) rfl
theorem q1519 : (Jvm.Cond.code ({ cls := "java/util/ArrayDeque", name := "removeFirst", desc := "()Ljava/lang/Object;" } : Jvm.MethodName) prog_59_method_18_code (2 : Nat) (Option.some (Jvm.ClassFile.FieldType.object "java/lang/Object"))) ∈ lw_all := lw_g (lw_at lw_m6 177 rfl) rfl
theorem q1520 : (Jvm.Cond.methodLink "java/util/ArrayDeque" (93 : Nat) ({ cls := "java/util/ArrayDeque", name := "pollFirst", desc := "()Ljava/lang/Object;" } : Jvm.MethodName)) ∈ lw_all := lw_g (lw_at lw_m6 178 rfl) rfl
theorem q1521 : (Jvm.Cond.instanceMethod ({ cls := "java/util/ArrayDeque", name := "pollFirst", desc := "()Ljava/lang/Object;" } : Jvm.MethodName)) ∈ lw_all := lw_g (lw_at lw_m6 179 rfl) rfl
theorem q1522 : (Jvm.Cond.selects "java/util/ArrayDeque" ({ cls := "java/util/ArrayDeque", name := "pollFirst", desc := "()Ljava/lang/Object;" } : Jvm.MethodName) ({ cls := "java/util/ArrayDeque", name := "pollFirst", desc := "()Ljava/lang/Object;" } : Jvm.MethodName)) ∈ lw_all := lw_g (lw_at lw_m6 180 rfl) rfl
theorem q1523 : (Jvm.Cond.code ({ cls := "java/util/ArrayDeque", name := "pollFirst", desc := "()Ljava/lang/Object;" } : Jvm.MethodName) prog_59_method_20_code (4 : Nat) (Option.some (Jvm.ClassFile.FieldType.object "java/lang/Object"))) ∈ lw_all := lw_g (lw_at lw_m6 181 rfl) rfl
theorem q1524 : (Jvm.Cond.methodLink "java/util/ArrayDeque" (103 : Nat) ({ cls := "java/util/ArrayDeque", name := "elementAt", desc := "([Ljava/lang/Object;I)Ljava/lang/Object;" } : Jvm.MethodName)) ∈ lw_all := lw_g (lw_at lw_m6 182 rfl) rfl
theorem q1525 : (Jvm.Cond.static ({ cls := "java/util/ArrayDeque", name := "elementAt", desc := "([Ljava/lang/Object;I)Ljava/lang/Object;" } : Jvm.MethodName)) ∈ lw_all := lw_g (lw_at lw_m6 183 rfl) rfl
theorem q1526 : (Jvm.Cond.code ({ cls := "java/util/ArrayDeque", name := "elementAt", desc := "([Ljava/lang/Object;I)Ljava/lang/Object;" } : Jvm.MethodName) prog_59_method_10_code (2 : Nat) (Option.some (Jvm.ClassFile.FieldType.object "java/lang/Object"))) ∈ lw_all := lw_g (lw_at lw_m6 184 rfl) rfl
theorem q1527 : (Jvm.Cond.methodLink "java/util/ArrayDeque" (74 : Nat) ({ cls := "java/util/ArrayDeque", name := "inc", desc := "(II)I" } : Jvm.MethodName)) ∈ lw_all := lw_g (lw_at lw_m6 185 rfl) rfl
theorem q1528 : (Jvm.Cond.static ({ cls := "java/util/ArrayDeque", name := "inc", desc := "(II)I" } : Jvm.MethodName)) ∈ lw_all := lw_g (lw_at lw_m6 186 rfl) rfl
theorem q1529 : (Jvm.Cond.code ({ cls := "java/util/ArrayDeque", name := "inc", desc := "(II)I" } : Jvm.MethodName) prog_59_method_6_code (2 : Nat) (Option.some Jvm.ClassFile.FieldType.int)) ∈ lw_all := lw_g (lw_at lw_m6 187 rfl) rfl
theorem q1530 : (Jvm.Cond.classLink "java/util/ArrayDeque" (97 : Nat) "java/util/NoSuchElementException") ∈ lw_all := lw_g (lw_at lw_m6 188 rfl) rfl
theorem q1539 : (Jvm.Cond.methodLink "java/util/ArrayDeque" (99 : Nat) ({ cls := "java/util/NoSuchElementException", name := "<init>", desc := "()V" } : Jvm.MethodName)) ∈ lw_all := lw_g (lw_at lw_m6 197 rfl) rfl
theorem q1552 : (Jvm.Cond.instanceMethod ({ cls := "java/util/ArrayDeque", name := "addLast", desc := "(Ljava/lang/Object;)V" } : Jvm.MethodName)) ∈ lw_all := lw_g (lw_at lw_m6 210 rfl) rfl
theorem q1553 : (Jvm.Cond.selects "java/util/ArrayDeque" ({ cls := "java/util/ArrayDeque", name := "addLast", desc := "(Ljava/lang/Object;)V" } : Jvm.MethodName) ({ cls := "java/util/ArrayDeque", name := "addLast", desc := "(Ljava/lang/Object;)V" } : Jvm.MethodName)) ∈ lw_all := lw_g (lw_at lw_m6 211 rfl) rfl
theorem q1554 : (Jvm.Cond.code ({ cls := "java/util/ArrayDeque", name := "addLast", desc := "(Ljava/lang/Object;)V" } : Jvm.MethodName) prog_59_method_13_code (3 : Nat) (Option.none : Option Jvm.ClassFile.FieldType)) ∈ lw_all := lw_g (lw_at lw_m6 212 rfl) rfl
theorem q1555 : (Jvm.Cond.methodLink "java/util/ArrayDeque" (71 : Nat) ({ cls := "java/util/ArrayDeque", name := "grow", desc := "(I)V" } : Jvm.MethodName)) ∈ lw_all := lw_g (lw_at lw_m6 213 rfl) rfl
theorem q1556 : (Jvm.Cond.privateMethod ({ cls := "java/util/ArrayDeque", name := "grow", desc := "(I)V" } : Jvm.MethodName)) ∈ lw_tbl := lw_at lw_m6 214 rfl
theorem q1557 : (Jvm.Cond.instanceMethod ({ cls := "java/util/ArrayDeque", name := "grow", desc := "(I)V" } : Jvm.MethodName)) ∈ lw_all := lw_g (lw_at lw_m6 215 rfl) rfl
theorem q1558 : (Jvm.Cond.code ({ cls := "java/util/ArrayDeque", name := "grow", desc := "(I)V" } : Jvm.MethodName) prog_59_method_1_code (9 : Nat) (Option.none : Option Jvm.ClassFile.FieldType)) ∈ lw_all := lw_g (lw_at lw_m6 216 rfl) rfl
theorem q1559 : (Jvm.Cond.constant "java/util/ArrayDeque" (9 : Nat) (2147483639 : Int32)) ∈ lw_all := lw_g (lw_at lw_m6 217 rfl) rfl
theorem q1560 : (Jvm.Cond.methodLink "java/util/ArrayDeque" (10 : Nat) ({ cls := "java/util/ArrayDeque", name := "newCapacity", desc := "(II)I" } : Jvm.MethodName)) ∈ lw_all := lw_g (lw_at lw_m6 218 rfl) rfl
theorem q1561 : (Jvm.Cond.privateMethod ({ cls := "java/util/ArrayDeque", name := "newCapacity", desc := "(II)I" } : Jvm.MethodName)) ∈ lw_tbl := lw_at lw_m6 219 rfl
theorem q1562 : (Jvm.Cond.instanceMethod ({ cls := "java/util/ArrayDeque", name := "newCapacity", desc := "(II)I" } : Jvm.MethodName)) ∈ lw_all := lw_g (lw_at lw_m6 220 rfl) rfl
theorem q1563 : (Jvm.Cond.code ({ cls := "java/util/ArrayDeque", name := "newCapacity", desc := "(II)I" } : Jvm.MethodName) prog_59_method_2_code (5 : Nat) (Option.some Jvm.ClassFile.FieldType.int)) ∈ lw_all := lw_g (lw_at lw_m6 221 rfl) rfl
theorem q1564 : (Jvm.Cond.classLink "java/util/ArrayDeque" (33 : Nat) "java/lang/IllegalStateException") ∈ lw_all := lw_g (lw_at lw_m6 222 rfl) rfl
theorem q1573 : (Jvm.Cond.stringRef "java/util/ArrayDeque" (35 : Nat) "Sorry, deque too big") ∈ lw_tbl := lw_at lw_m6 231 rfl
theorem q1574 : (Jvm.Cond.methodLink "java/util/ArrayDeque" (37 : Nat) ({ cls := "java/lang/IllegalStateException", name := "<init>", desc := "(Ljava/lang/String;)V" } : Jvm.MethodName)) ∈ lw_all := lw_g (lw_at lw_m6 232 rfl) rfl
theorem q1580 : (Jvm.Cond.constant "java/util/ArrayDeque" (41 : Nat) (2147483647 : Int32)) ∈ lw_all := lw_g (lw_at lw_m6 238 rfl) rfl
theorem q1581 : (Jvm.Cond.methodLink "java/util/ArrayDeque" (14 : Nat) ({ cls := "java/util/Arrays", name := "copyOf", desc := "([Ljava/lang/Object;I)[Ljava/lang/Object;" } : Jvm.MethodName)) ∈ lw_all := lw_g (lw_at lw_m6 239 rfl) rfl
theorem q1582 : (Jvm.Cond.methodLink "java/util/ArrayDeque" (27 : Nat) ({ cls := "java/lang/System", name := "arraycopy", desc := "(Ljava/lang/Object;ILjava/lang/Object;II)V" } : Jvm.MethodName)) ∈ lw_all := lw_g (lw_at lw_m7 0 rfl) rfl
theorem q1886 : (Jvm.Cond.static ({ cls := "java/util/ArrayDeque", name := "nonNullElementAt", desc := "([Ljava/lang/Object;I)Ljava/lang/Object;" } : Jvm.MethodName)) ∈ lw_all := lw_g (lw_at lw_m8 64 rfl) rfl
theorem q1887 : (Jvm.Cond.code ({ cls := "java/util/ArrayDeque", name := "nonNullElementAt", desc := "([Ljava/lang/Object;I)Ljava/lang/Object;" } : Jvm.MethodName) prog_59_method_11_code (3 : Nat) (Option.some (Jvm.ClassFile.FieldType.object "java/lang/Object"))) ∈ lw_all := lw_g (lw_at lw_m8 65 rfl) rfl
theorem q1916 : (Jvm.Cond.instanceMethod ({ cls := "java/util/ArrayDeque", name := "iterator", desc := "()Ljava/util/Iterator;" } : Jvm.MethodName)) ∈ lw_all := lw_g (lw_at lw_m8 94 rfl) rfl
theorem q1917 : (Jvm.Cond.selects "java/util/ArrayDeque" ({ cls := "java/util/ArrayDeque", name := "iterator", desc := "()Ljava/util/Iterator;" } : Jvm.MethodName) ({ cls := "java/util/ArrayDeque", name := "iterator", desc := "()Ljava/util/Iterator;" } : Jvm.MethodName)) ∈ lw_all := lw_g (lw_at lw_m8 95 rfl) rfl
theorem q1918 : (Jvm.Cond.code ({ cls := "java/util/ArrayDeque", name := "iterator", desc := "()Ljava/util/Iterator;" } : Jvm.MethodName) prog_59_method_39_code (1 : Nat) (Option.some (Jvm.ClassFile.FieldType.object "java/util/Iterator"))) ∈ lw_all := lw_g (lw_at lw_m8 96 rfl) rfl
theorem q1919 : (Jvm.Cond.classLink "java/util/ArrayDeque" (131 : Nat) "java/util/ArrayDeque$DeqIterator") ∈ lw_all := lw_g (lw_at lw_m8 97 rfl) rfl
theorem q1921 : (Jvm.Cond.methodLink "java/util/ArrayDeque" (133 : Nat) ({ cls := "java/util/ArrayDeque$DeqIterator", name := "<init>", desc := "(Ljava/util/ArrayDeque;)V" } : Jvm.MethodName)) ∈ lw_all := lw_g (lw_at lw_m8 99 rfl) rfl
theorem q1958 : (Jvm.Cond.instanceMethod ({ cls := "java/util/ArrayDeque", name := "clear", desc := "()V" } : Jvm.MethodName)) ∈ lw_all := lw_g (lw_at lw_m8 136 rfl) rfl
theorem q1959 : (Jvm.Cond.selects "java/util/ArrayDeque" ({ cls := "java/util/ArrayDeque", name := "clear", desc := "()V" } : Jvm.MethodName) ({ cls := "java/util/ArrayDeque", name := "clear", desc := "()V" } : Jvm.MethodName)) ∈ lw_all := lw_g (lw_at lw_m8 137 rfl) rfl
theorem q1960 : (Jvm.Cond.code ({ cls := "java/util/ArrayDeque", name := "clear", desc := "()V" } : Jvm.MethodName) prog_59_method_53_code (1 : Nat) (Option.none : Option Jvm.ClassFile.FieldType)) ∈ lw_all := lw_g (lw_at lw_m8 138 rfl) rfl
theorem q1961 : (Jvm.Cond.methodLink "java/util/ArrayDeque" (181 : Nat) ({ cls := "java/util/ArrayDeque", name := "circularClear", desc := "([Ljava/lang/Object;II)V" } : Jvm.MethodName)) ∈ lw_all := lw_g (lw_at lw_m8 139 rfl) rfl
theorem q1962 : (Jvm.Cond.static ({ cls := "java/util/ArrayDeque", name := "circularClear", desc := "([Ljava/lang/Object;II)V" } : Jvm.MethodName)) ∈ lw_all := lw_g (lw_at lw_m8 140 rfl) rfl
theorem q1963 : (Jvm.Cond.code ({ cls := "java/util/ArrayDeque", name := "circularClear", desc := "([Ljava/lang/Object;II)V" } : Jvm.MethodName) prog_59_method_54_code (4 : Nat) (Option.none : Option Jvm.ClassFile.FieldType)) ∈ lw_all := lw_g (lw_at lw_m8 141 rfl) rfl
theorem q2645 : (Jvm.Cond.instanceMethod ({ cls := "java/util/ArrayDeque", name := "isEmpty", desc := "()Z" } : Jvm.MethodName)) ∈ lw_all := lw_g (lw_at lw_m11 103 rfl) rfl
theorem q2646 : (Jvm.Cond.selects "java/util/ArrayDeque" ({ cls := "java/util/ArrayDeque", name := "isEmpty", desc := "()Z" } : Jvm.MethodName) ({ cls := "java/util/ArrayDeque", name := "isEmpty", desc := "()Z" } : Jvm.MethodName)) ∈ lw_all := lw_g (lw_at lw_m11 104 rfl) rfl
theorem q2647 : (Jvm.Cond.code ({ cls := "java/util/ArrayDeque", name := "isEmpty", desc := "()Z" } : Jvm.MethodName) prog_59_method_38_code (1 : Nat) (Option.some Jvm.ClassFile.FieldType.boolean)) ∈ lw_all := lw_g (lw_at lw_m11 105 rfl) rfl
theorem q2649 : (Jvm.Cond.instanceMethod ({ cls := "java/util/ArrayDeque", name := "removeLast", desc := "()Ljava/lang/Object;" } : Jvm.MethodName)) ∈ lw_all := lw_g (lw_at lw_m11 107 rfl) rfl
theorem q2650 : (Jvm.Cond.selects "java/util/ArrayDeque" ({ cls := "java/util/ArrayDeque", name := "removeLast", desc := "()Ljava/lang/Object;" } : Jvm.MethodName) ({ cls := "java/util/ArrayDeque", name := "removeLast", desc := "()Ljava/lang/Object;" } : Jvm.MethodName)) ∈ lw_all := lw_g (lw_at lw_m11 108 rfl) rfl
theorem q2651 : (Jvm.Cond.code ({ cls := "java/util/ArrayDeque", name := "removeLast", desc := "()Ljava/lang/Object;" } : Jvm.MethodName) prog_59_method_19_code (2 : Nat) (Option.some (Jvm.ClassFile.FieldType.object "java/lang/Object"))) ∈ lw_all := lw_g (lw_at lw_m11 109 rfl) rfl
theorem q2652 : (Jvm.Cond.methodLink "java/util/ArrayDeque" (100 : Nat) ({ cls := "java/util/ArrayDeque", name := "pollLast", desc := "()Ljava/lang/Object;" } : Jvm.MethodName)) ∈ lw_all := lw_g (lw_at lw_m11 110 rfl) rfl
theorem q2653 : (Jvm.Cond.instanceMethod ({ cls := "java/util/ArrayDeque", name := "pollLast", desc := "()Ljava/lang/Object;" } : Jvm.MethodName)) ∈ lw_all := lw_g (lw_at lw_m11 111 rfl) rfl
theorem q2654 : (Jvm.Cond.selects "java/util/ArrayDeque" ({ cls := "java/util/ArrayDeque", name := "pollLast", desc := "()Ljava/lang/Object;" } : Jvm.MethodName) ({ cls := "java/util/ArrayDeque", name := "pollLast", desc := "()Ljava/lang/Object;" } : Jvm.MethodName)) ∈ lw_all := lw_g (lw_at lw_m11 112 rfl) rfl
theorem q2655 : (Jvm.Cond.code ({ cls := "java/util/ArrayDeque", name := "pollLast", desc := "()Ljava/lang/Object;" } : Jvm.MethodName) prog_59_method_21_code (4 : Nat) (Option.some (Jvm.ClassFile.FieldType.object "java/lang/Object"))) ∈ lw_all := lw_g (lw_at lw_m11 113 rfl) rfl
theorem q2656 : (Jvm.Cond.methodLink "java/util/ArrayDeque" (68 : Nat) ({ cls := "java/util/ArrayDeque", name := "dec", desc := "(II)I" } : Jvm.MethodName)) ∈ lw_all := lw_g (lw_at lw_m11 114 rfl) rfl
theorem q2657 : (Jvm.Cond.static ({ cls := "java/util/ArrayDeque", name := "dec", desc := "(II)I" } : Jvm.MethodName)) ∈ lw_all := lw_g (lw_at lw_m11 115 rfl) rfl
theorem q2658 : (Jvm.Cond.code ({ cls := "java/util/ArrayDeque", name := "dec", desc := "(II)I" } : Jvm.MethodName) prog_59_method_7_code (2 : Nat) (Option.some Jvm.ClassFile.FieldType.int)) ∈ lw_all := lw_g (lw_at lw_m11 116 rfl) rfl
theorem q3486 : (Jvm.Cond.castable "java/util/ArrayDeque" "java/lang/Object") ∈ lw_tbl := lw_at lw_m14 224 rfl
theorem in_J19 : ∀ w ∈ wsJ190, w ∈ lw_all := lw_in wsJ190 [657, 659, 661] (by decide +kernel) (by decide +kernel)
/-! J20.java_lang_Enum -/
def RJ20 : String := "java/lang/Enum"
abbrev cJ20_equals : ByteArray := prog_34_method_5_code
def yJ20_equals : MethodName := ⟨RJ20, "equals", "(Ljava/lang/Object;)Z"⟩
abbrev cJ20_ordinal : ByteArray := prog_34_method_2_code
def yJ20_ordinal : MethodName := ⟨RJ20, "ordinal", "()I"⟩
theorem q168 : (Jvm.Cond.initialized "java/lang/Enum") ∈ lw_all := lw_g (lw_at lw_m1 26 rfl) rfl
theorem q1218 : (Jvm.Cond.instanceMethod ({ cls := "java/lang/Enum", name := "equals", desc := "(Ljava/lang/Object;)Z" } : Jvm.MethodName)) ∈ lw_all := lw_g (lw_at lw_m5 116 rfl) rfl
theorem q1219 : (Jvm.Cond.code ({ cls := "java/lang/Enum", name := "equals", desc := "(Ljava/lang/Object;)Z" } : Jvm.MethodName) prog_34_method_5_code (2 : Nat) (Option.some Jvm.ClassFile.FieldType.boolean)) ∈ lw_all := lw_g (lw_at lw_m5 117 rfl) rfl
theorem q2250 : (Jvm.Cond.declares ({ cls := "java/lang/Enum", name := "ordinal", desc := "()I" } : Jvm.MethodName)) ∈ lw_tbl := lw_at lw_m9 188 rfl
theorem q2257 : (Jvm.Cond.instanceMethod ({ cls := "java/lang/Enum", name := "ordinal", desc := "()I" } : Jvm.MethodName)) ∈ lw_all := lw_g (lw_at lw_m9 195 rfl) rfl
theorem q2258 : (Jvm.Cond.code ({ cls := "java/lang/Enum", name := "ordinal", desc := "()I" } : Jvm.MethodName) prog_34_method_2_code (1 : Nat) (Option.some Jvm.ClassFile.FieldType.int)) ∈ lw_all := lw_g (lw_at lw_m9 196 rfl) rfl
theorem q3545 : (Jvm.Cond.fieldLink "java/lang/Enum" (7 : Nat) "java/lang/Enum" "ordinal" "I") ∈ lw_all := lw_g (lw_at lw_m15 43 rfl) rfl
/-! J21.java_lang_IllegalStateException -/
def RJ21 : String := "java/lang/IllegalStateException"
def TJ21 : u_T := fun k => match k with
  | 0 => ("java/lang/Throwable", "cause", "Ljava/lang/Throwable;", false)
  | 1 => ("java/lang/Throwable", "stackTrace", "[Ljava/lang/StackTraceElement;", false)
  | 2 => ("java/lang/Throwable", "suppressedExceptions", "Ljava/util/List;", false)
  | 3 => ("java/lang/Throwable", "detailMessage", "Ljava/lang/String;", false)
  | 4 => ("java/lang/Throwable", "backtrace", "Ljava/lang/Object;", false)
  | _ => ("java/lang/Throwable", "depth", "I", false)
def tyJ21 : Nat → FieldType := fun k => match k with
  | 0 => .object "java/lang/Throwable"
  | 1 => .array (.object "java/lang/StackTraceElement")
  | 2 => .object "java/util/List"
  | 3 => .object "java/lang/String"
  | 4 => .object "java/lang/Object"
  | _ => .int
abbrev wsJ210 : List Cond := u_ws RJ21 TJ21 6
theorem nmJ21 : ∀ a, a < 6 → ∀ b, b < 6 → a ≠ b → (TJ21 a).2.1 ≠ (TJ21 b).2.1 := by decide +kernel
theorem tyJ21_ok : ∀ k, k < 6 → parseFieldDescriptor (TJ21 k).2.2.1 = some (tyJ21 k) := by decide +kernel
abbrev cJ21_init : ByteArray := prog_37_method_2_code
def yJ21_init : MethodName := ⟨RJ21, "<init>", "(Ljava/lang/String;)V"⟩
abbrev cJ21_init_2 : ByteArray := prog_37_method_1_code
def yJ21_init_2 : MethodName := ⟨RJ21, "<init>", "()V"⟩
theorem q172 : (Jvm.Cond.initialized "java/lang/IllegalStateException") ∈ lw_all := lw_g (lw_at lw_m1 30 rfl) rfl
theorem q267 : (Jvm.Cond.selects "java/lang/IllegalStateException" ({ cls := "java/lang/Throwable", name := "fillInStackTrace", desc := "()Ljava/lang/Throwable;" } : Jvm.MethodName) ({ cls := "java/lang/Throwable", name := "fillInStackTrace", desc := "()Ljava/lang/Throwable;" } : Jvm.MethodName)) ∈ lw_all := lw_g (lw_at lw_m1 125 rfl) rfl
theorem q795 : (Jvm.Cond.selects "java/lang/IllegalStateException" ({ cls := "java/lang/Object", name := "getClass", desc := "()Ljava/lang/Class;" } : Jvm.MethodName) ({ cls := "java/lang/Object", name := "getClass", desc := "()Ljava/lang/Class;" } : Jvm.MethodName)) ∈ lw_all := lw_g (lw_at lw_m3 173 rfl) rfl
theorem q1240 : (Jvm.Cond.selects "java/lang/IllegalStateException" ({ cls := "java/lang/Object", name := "equals", desc := "(Ljava/lang/Object;)Z" } : Jvm.MethodName) ({ cls := "java/lang/Object", name := "equals", desc := "(Ljava/lang/Object;)Z" } : Jvm.MethodName)) ∈ lw_all := lw_g (lw_at lw_m5 138 rfl) rfl
theorem q1565 : (Jvm.Cond.instantiable "java/lang/IllegalStateException" (6 : Nat)) ∈ lw_all := lw_g (lw_at lw_m6 223 rfl) rfl
theorem q1566 : (Jvm.Cond.castable "java/lang/IllegalStateException" "java/lang/IllegalStateException") ∈ lw_tbl := lw_at lw_m6 224 rfl
theorem q1567 : (Jvm.Cond.selects "java/lang/IllegalStateException" ({ cls := "java/lang/Throwable", name := "fillInStackTrace", desc := "(I)Ljava/lang/Throwable;" } : Jvm.MethodName) ({ cls := "java/lang/Throwable", name := "fillInStackTrace", desc := "(I)Ljava/lang/Throwable;" } : Jvm.MethodName)) ∈ lw_all := lw_g (lw_at lw_m6 225 rfl) rfl
theorem q1568 : (Jvm.Cond.lays "java/lang/IllegalStateException" "java/lang/Throwable" "cause" "Ljava/lang/Throwable;") ∈ lw_all := lw_g (lw_at lw_m6 226 rfl) rfl
theorem q1569 : (Jvm.Cond.lays "java/lang/IllegalStateException" "java/lang/Throwable" "stackTrace" "[Ljava/lang/StackTraceElement;") ∈ lw_all := lw_g (lw_at lw_m6 227 rfl) rfl
theorem q1570 : (Jvm.Cond.lays "java/lang/IllegalStateException" "java/lang/Throwable" "suppressedExceptions" "Ljava/util/List;") ∈ lw_all := lw_g (lw_at lw_m6 228 rfl) rfl
theorem q1571 : (Jvm.Cond.lays "java/lang/IllegalStateException" "java/lang/Throwable" "detailMessage" "Ljava/lang/String;") ∈ lw_all := lw_g (lw_at lw_m6 229 rfl) rfl
theorem q1572 : (Jvm.Cond.lays "java/lang/IllegalStateException" "java/lang/Throwable" "backtrace" "Ljava/lang/Object;") ∈ lw_all := lw_g (lw_at lw_m6 230 rfl) rfl
theorem q1575 : (Jvm.Cond.instanceMethod ({ cls := "java/lang/IllegalStateException", name := "<init>", desc := "(Ljava/lang/String;)V" } : Jvm.MethodName)) ∈ lw_all := lw_g (lw_at lw_m6 233 rfl) rfl
theorem q1576 : (Jvm.Cond.code ({ cls := "java/lang/IllegalStateException", name := "<init>", desc := "(Ljava/lang/String;)V" } : Jvm.MethodName) prog_37_method_2_code (2 : Nat) (Option.none : Option Jvm.ClassFile.FieldType)) ∈ lw_all := lw_g (lw_at lw_m6 234 rfl) rfl
theorem q1577 : (Jvm.Cond.methodLink "java/lang/IllegalStateException" (7 : Nat) ({ cls := "java/lang/RuntimeException", name := "<init>", desc := "(Ljava/lang/String;)V" } : Jvm.MethodName)) ∈ lw_all := lw_g (lw_at lw_m6 235 rfl) rfl
theorem q1578 : (Jvm.Cond.lays "java/lang/IllegalStateException" "java/lang/Throwable" "depth" "I") ∈ lw_all := lw_g (lw_at lw_m6 236 rfl) rfl
theorem q1579 : (Jvm.Cond.superclass "java/lang/IllegalStateException" "java/lang/RuntimeException") ∈ lw_all := lw_g (lw_at lw_m6 237 rfl) rfl
theorem q1845 : (Jvm.Cond.selects "java/lang/IllegalStateException" ({ cls := "java/lang/Throwable", name := "toString", desc := "()Ljava/lang/String;" } : Jvm.MethodName) ({ cls := "java/lang/Throwable", name := "toString", desc := "()Ljava/lang/String;" } : Jvm.MethodName)) ∈ lw_all := lw_g (lw_at lw_m8 23 rfl) rfl
theorem q1857 : (Jvm.Cond.selects "java/lang/IllegalStateException" ({ cls := "java/lang/Throwable", name := "getLocalizedMessage", desc := "()Ljava/lang/String;" } : Jvm.MethodName) ({ cls := "java/lang/Throwable", name := "getLocalizedMessage", desc := "()Ljava/lang/String;" } : Jvm.MethodName)) ∈ lw_all := lw_g (lw_at lw_m8 35 rfl) rfl
theorem q1868 : (Jvm.Cond.selects "java/lang/IllegalStateException" ({ cls := "java/lang/Throwable", name := "getMessage", desc := "()Ljava/lang/String;" } : Jvm.MethodName) ({ cls := "java/lang/Throwable", name := "getMessage", desc := "()Ljava/lang/String;" } : Jvm.MethodName)) ∈ lw_all := lw_g (lw_at lw_m8 46 rfl) rfl
theorem q1985 : (Jvm.Cond.instanceMethod ({ cls := "java/lang/IllegalStateException", name := "<init>", desc := "()V" } : Jvm.MethodName)) ∈ lw_all := lw_g (lw_at lw_m8 163 rfl) rfl
theorem q1986 : (Jvm.Cond.code ({ cls := "java/lang/IllegalStateException", name := "<init>", desc := "()V" } : Jvm.MethodName) prog_37_method_1_code (1 : Nat) (Option.none : Option Jvm.ClassFile.FieldType)) ∈ lw_all := lw_g (lw_at lw_m8 164 rfl) rfl
theorem q1987 : (Jvm.Cond.methodLink "java/lang/IllegalStateException" (1 : Nat) ({ cls := "java/lang/RuntimeException", name := "<init>", desc := "()V" } : Jvm.MethodName)) ∈ lw_all := lw_g (lw_at lw_m8 165 rfl) rfl
theorem q3495 : (Jvm.Cond.castable "java/lang/IllegalStateException" "java/lang/Object") ∈ lw_tbl := lw_at lw_m14 233 rfl
theorem in_J21 : ∀ w ∈ wsJ210, w ∈ lw_all := lw_in wsJ210 [1568, 1569, 1570, 1571, 1572, 1578] (by decide +kernel) (by decide +kernel)
/-! J22.java_util_Objects -/
def RJ22 : String := "java/util/Objects"
abbrev cJ22_checkIndex : ByteArray := prog_74_method_17_code
def yJ22_checkIndex : MethodName := ⟨RJ22, "checkIndex", "(II)I"⟩
theorem q176 : (Jvm.Cond.initialized "java/util/Objects") ∈ lw_all := lw_g (lw_at lw_m1 34 rfl) rfl
theorem q1257 : (Jvm.Cond.static ({ cls := "java/util/Objects", name := "checkIndex", desc := "(II)I" } : Jvm.MethodName)) ∈ lw_all := lw_g (lw_at lw_m5 155 rfl) rfl
theorem q1258 : (Jvm.Cond.code ({ cls := "java/util/Objects", name := "checkIndex", desc := "(II)I" } : Jvm.MethodName) prog_74_method_17_code (2 : Nat) (Option.some Jvm.ClassFile.FieldType.int)) ∈ lw_all := lw_g (lw_at lw_m5 156 rfl) rfl
theorem q1259 : (Jvm.Cond.methodLink "java/util/Objects" (105 : Nat) ({ cls := "jdk/internal/util/Preconditions", name := "checkIndex", desc := "(IILjava/util/function/BiFunction;)I" } : Jvm.MethodName)) ∈ lw_all := lw_g (lw_at lw_m5 157 rfl) rfl
/-! J23.java_util_LinkedList_Node -/
def RJ23 : String := "java/util/LinkedList$Node"
def TJ23 : u_T := fun k => match k with
  | 0 => ("java/util/LinkedList$Node", "item", "Ljava/lang/Object;", false)
  | 1 => ("java/util/LinkedList$Node", "next", "Ljava/util/LinkedList$Node;", false)
  | _ => ("java/util/LinkedList$Node", "prev", "Ljava/util/LinkedList$Node;", false)
def tyJ23 : Nat → FieldType := fun k => match k with
  | 0 => .object "java/lang/Object"
  | 1 => .object "java/util/LinkedList$Node"
  | _ => .object "java/util/LinkedList$Node"
abbrev wsJ230 : List Cond := u_ws RJ23 TJ23 3
theorem nmJ23 : ∀ a, a < 3 → ∀ b, b < 3 → a ≠ b → (TJ23 a).2.1 ≠ (TJ23 b).2.1 := by decide +kernel
theorem tyJ23_ok : ∀ k, k < 3 → parseFieldDescriptor (TJ23 k).2.2.1 = some (tyJ23 k) := by decide +kernel
abbrev cJ23_init : ByteArray := prog_70_method_1_code
def yJ23_init : MethodName := ⟨RJ23, "<init>", "(Ljava/util/LinkedList$Node;Ljava/lang/Object;Ljava/util/LinkedList$Node;)V"⟩
theorem q186 : (Jvm.Cond.initialized "java/util/LinkedList$Node") ∈ lw_all := lw_g (lw_at lw_m1 44 rfl) rfl
theorem q808 : (Jvm.Cond.selects "java/util/LinkedList$Node" ({ cls := "java/lang/Object", name := "getClass", desc := "()Ljava/lang/Class;" } : Jvm.MethodName) ({ cls := "java/lang/Object", name := "getClass", desc := "()Ljava/lang/Class;" } : Jvm.MethodName)) ∈ lw_all := lw_g (lw_at lw_m3 186 rfl) rfl
theorem q1485 : (Jvm.Cond.instantiable "java/util/LinkedList$Node" (3 : Nat)) ∈ lw_all := lw_g (lw_at lw_m6 143 rfl) rfl
theorem q1487 : (Jvm.Cond.instanceMethod ({ cls := "java/util/LinkedList$Node", name := "<init>", desc := "(Ljava/util/LinkedList$Node;Ljava/lang/Object;Ljava/util/LinkedList$Node;)V" } : Jvm.MethodName)) ∈ lw_all := lw_g (lw_at lw_m6 145 rfl) rfl
theorem q1488 : (Jvm.Cond.code ({ cls := "java/util/LinkedList$Node", name := "<init>", desc := "(Ljava/util/LinkedList$Node;Ljava/lang/Object;Ljava/util/LinkedList$Node;)V" } : Jvm.MethodName) prog_70_method_1_code (4 : Nat) (Option.none : Option Jvm.ClassFile.FieldType)) ∈ lw_all := lw_g (lw_at lw_m6 146 rfl) rfl
theorem q1489 : (Jvm.Cond.methodLink "java/util/LinkedList$Node" (1 : Nat) ({ cls := "java/lang/Object", name := "<init>", desc := "()V" } : Jvm.MethodName)) ∈ lw_all := lw_g (lw_at lw_m6 147 rfl) rfl
theorem q1490 : (Jvm.Cond.fieldLink "java/util/LinkedList$Node" (7 : Nat) "java/util/LinkedList$Node" "item" "Ljava/lang/Object;") ∈ lw_all := lw_g (lw_at lw_m6 148 rfl) rfl
theorem q1493 : (Jvm.Cond.fieldLink "java/util/LinkedList$Node" (13 : Nat) "java/util/LinkedList$Node" "next" "Ljava/util/LinkedList$Node;") ∈ lw_all := lw_g (lw_at lw_m6 151 rfl) rfl
theorem q1496 : (Jvm.Cond.fieldLink "java/util/LinkedList$Node" (17 : Nat) "java/util/LinkedList$Node" "prev" "Ljava/util/LinkedList$Node;") ∈ lw_all := lw_g (lw_at lw_m6 154 rfl) rfl
theorem q1498 : (Jvm.Cond.lays "java/util/LinkedList$Node" "java/util/LinkedList$Node" "item" "Ljava/lang/Object;") ∈ lw_all := lw_g (lw_at lw_m6 156 rfl) rfl
theorem q1499 : (Jvm.Cond.soleField "java/util/LinkedList$Node" "item") ∈ lw_all := lw_g (lw_at lw_m6 157 rfl) rfl
theorem q1500 : (Jvm.Cond.lays "java/util/LinkedList$Node" "java/util/LinkedList$Node" "next" "Ljava/util/LinkedList$Node;") ∈ lw_all := lw_g (lw_at lw_m6 158 rfl) rfl
theorem q1501 : (Jvm.Cond.soleField "java/util/LinkedList$Node" "next") ∈ lw_all := lw_g (lw_at lw_m6 159 rfl) rfl
theorem q1502 : (Jvm.Cond.lays "java/util/LinkedList$Node" "java/util/LinkedList$Node" "prev" "Ljava/util/LinkedList$Node;") ∈ lw_all := lw_g (lw_at lw_m6 160 rfl) rfl
theorem q1503 : (Jvm.Cond.soleField "java/util/LinkedList$Node" "prev") ∈ lw_all := lw_g (lw_at lw_m6 161 rfl) rfl
theorem q1504 : (Jvm.Cond.superclass "java/util/LinkedList$Node" "java/lang/Object") ∈ lw_all := lw_g (lw_at lw_m6 162 rfl) rfl
theorem q3508 : (Jvm.Cond.castable "java/util/LinkedList$Node" "java/lang/Object") ∈ lw_tbl := lw_at lw_m15 6 rfl
theorem in_J23 : ∀ w ∈ wsJ230, w ∈ lw_all := lw_in wsJ230 [1498, 1500, 1502] (by decide +kernel) (by decide +kernel)
/-! J24.java_util_NoSuchElementException -/
def RJ24 : String := "java/util/NoSuchElementException"
def TJ24 : u_T := fun k => match k with
  | 0 => ("java/lang/Throwable", "cause", "Ljava/lang/Throwable;", false)
  | 1 => ("java/lang/Throwable", "stackTrace", "[Ljava/lang/StackTraceElement;", false)
  | 2 => ("java/lang/Throwable", "suppressedExceptions", "Ljava/util/List;", false)
  | 3 => ("java/lang/Throwable", "detailMessage", "Ljava/lang/String;", false)
  | 4 => ("java/lang/Throwable", "backtrace", "Ljava/lang/Object;", false)
  | _ => ("java/lang/Throwable", "depth", "I", false)
def tyJ24 : Nat → FieldType := fun k => match k with
  | 0 => .object "java/lang/Throwable"
  | 1 => .array (.object "java/lang/StackTraceElement")
  | 2 => .object "java/util/List"
  | 3 => .object "java/lang/String"
  | 4 => .object "java/lang/Object"
  | _ => .int
abbrev wsJ240 : List Cond := u_ws RJ24 TJ24 6
theorem nmJ24 : ∀ a, a < 6 → ∀ b, b < 6 → a ≠ b → (TJ24 a).2.1 ≠ (TJ24 b).2.1 := by decide +kernel
theorem tyJ24_ok : ∀ k, k < 6 → parseFieldDescriptor (TJ24 k).2.2.1 = some (tyJ24 k) := by decide +kernel
abbrev cJ24_init : ByteArray := prog_73_method_1_code
def yJ24_init : MethodName := ⟨RJ24, "<init>", "()V"⟩
abbrev cJ24_init_2 : ByteArray := prog_73_method_3_code
def yJ24_init_2 : MethodName := ⟨RJ24, "<init>", "(Ljava/lang/Throwable;)V"⟩
theorem q187 : (Jvm.Cond.initialized "java/util/NoSuchElementException") ∈ lw_all := lw_g (lw_at lw_m1 45 rfl) rfl
theorem q270 : (Jvm.Cond.selects "java/util/NoSuchElementException" ({ cls := "java/lang/Throwable", name := "fillInStackTrace", desc := "()Ljava/lang/Throwable;" } : Jvm.MethodName) ({ cls := "java/lang/Throwable", name := "fillInStackTrace", desc := "()Ljava/lang/Throwable;" } : Jvm.MethodName)) ∈ lw_all := lw_g (lw_at lw_m1 128 rfl) rfl
theorem q809 : (Jvm.Cond.selects "java/util/NoSuchElementException" ({ cls := "java/lang/Object", name := "getClass", desc := "()Ljava/lang/Class;" } : Jvm.MethodName) ({ cls := "java/lang/Object", name := "getClass", desc := "()Ljava/lang/Class;" } : Jvm.MethodName)) ∈ lw_all := lw_g (lw_at lw_m3 187 rfl) rfl
theorem q1531 : (Jvm.Cond.instantiable "java/util/NoSuchElementException" (6 : Nat)) ∈ lw_all := lw_g (lw_at lw_m6 189 rfl) rfl
theorem q1532 : (Jvm.Cond.castable "java/util/NoSuchElementException" "java/util/NoSuchElementException") ∈ lw_tbl := lw_at lw_m6 190 rfl
theorem q1533 : (Jvm.Cond.selects "java/util/NoSuchElementException" ({ cls := "java/lang/Throwable", name := "fillInStackTrace", desc := "(I)Ljava/lang/Throwable;" } : Jvm.MethodName) ({ cls := "java/lang/Throwable", name := "fillInStackTrace", desc := "(I)Ljava/lang/Throwable;" } : Jvm.MethodName)) ∈ lw_all := lw_g (lw_at lw_m6 191 rfl) rfl
theorem q1534 : (Jvm.Cond.lays "java/util/NoSuchElementException" "java/lang/Throwable" "cause" "Ljava/lang/Throwable;") ∈ lw_all := lw_g (lw_at lw_m6 192 rfl) rfl
theorem q1535 : (Jvm.Cond.lays "java/util/NoSuchElementException" "java/lang/Throwable" "stackTrace" "[Ljava/lang/StackTraceElement;") ∈ lw_all := lw_g (lw_at lw_m6 193 rfl) rfl
theorem q1536 : (Jvm.Cond.lays "java/util/NoSuchElementException" "java/lang/Throwable" "suppressedExceptions" "Ljava/util/List;") ∈ lw_all := lw_g (lw_at lw_m6 194 rfl) rfl
theorem q1537 : (Jvm.Cond.lays "java/util/NoSuchElementException" "java/lang/Throwable" "detailMessage" "Ljava/lang/String;") ∈ lw_all := lw_g (lw_at lw_m6 195 rfl) rfl
theorem q1538 : (Jvm.Cond.lays "java/util/NoSuchElementException" "java/lang/Throwable" "backtrace" "Ljava/lang/Object;") ∈ lw_all := lw_g (lw_at lw_m6 196 rfl) rfl
theorem q1540 : (Jvm.Cond.instanceMethod ({ cls := "java/util/NoSuchElementException", name := "<init>", desc := "()V" } : Jvm.MethodName)) ∈ lw_all := lw_g (lw_at lw_m6 198 rfl) rfl
theorem q1541 : (Jvm.Cond.code ({ cls := "java/util/NoSuchElementException", name := "<init>", desc := "()V" } : Jvm.MethodName) prog_73_method_1_code (1 : Nat) (Option.none : Option Jvm.ClassFile.FieldType)) ∈ lw_all := lw_g (lw_at lw_m6 199 rfl) rfl
theorem q1542 : (Jvm.Cond.methodLink "java/util/NoSuchElementException" (1 : Nat) ({ cls := "java/lang/RuntimeException", name := "<init>", desc := "()V" } : Jvm.MethodName)) ∈ lw_all := lw_g (lw_at lw_m6 200 rfl) rfl
theorem q1549 : (Jvm.Cond.lays "java/util/NoSuchElementException" "java/lang/Throwable" "depth" "I") ∈ lw_all := lw_g (lw_at lw_m6 207 rfl) rfl
theorem q1550 : (Jvm.Cond.superclass "java/util/NoSuchElementException" "java/lang/RuntimeException") ∈ lw_all := lw_g (lw_at lw_m6 208 rfl) rfl
theorem q1828 : (Jvm.Cond.instanceMethod ({ cls := "java/util/NoSuchElementException", name := "<init>", desc := "(Ljava/lang/Throwable;)V" } : Jvm.MethodName)) ∈ lw_all := lw_g (lw_at lw_m8 6 rfl) rfl
theorem q1829 : (Jvm.Cond.code ({ cls := "java/util/NoSuchElementException", name := "<init>", desc := "(Ljava/lang/Throwable;)V" } : Jvm.MethodName) prog_73_method_3_code (2 : Nat) (Option.none : Option Jvm.ClassFile.FieldType)) ∈ lw_all := lw_g (lw_at lw_m8 7 rfl) rfl
theorem q1830 : (Jvm.Cond.methodLink "java/util/NoSuchElementException" (10 : Nat) ({ cls := "java/lang/RuntimeException", name := "<init>", desc := "(Ljava/lang/Throwable;)V" } : Jvm.MethodName)) ∈ lw_all := lw_g (lw_at lw_m8 8 rfl) rfl
theorem q1848 : (Jvm.Cond.selects "java/util/NoSuchElementException" ({ cls := "java/lang/Throwable", name := "toString", desc := "()Ljava/lang/String;" } : Jvm.MethodName) ({ cls := "java/lang/Throwable", name := "toString", desc := "()Ljava/lang/String;" } : Jvm.MethodName)) ∈ lw_all := lw_g (lw_at lw_m8 26 rfl) rfl
theorem q1860 : (Jvm.Cond.selects "java/util/NoSuchElementException" ({ cls := "java/lang/Throwable", name := "getLocalizedMessage", desc := "()Ljava/lang/String;" } : Jvm.MethodName) ({ cls := "java/lang/Throwable", name := "getLocalizedMessage", desc := "()Ljava/lang/String;" } : Jvm.MethodName)) ∈ lw_all := lw_g (lw_at lw_m8 38 rfl) rfl
theorem q1871 : (Jvm.Cond.selects "java/util/NoSuchElementException" ({ cls := "java/lang/Throwable", name := "getMessage", desc := "()Ljava/lang/String;" } : Jvm.MethodName) ({ cls := "java/lang/Throwable", name := "getMessage", desc := "()Ljava/lang/String;" } : Jvm.MethodName)) ∈ lw_all := lw_g (lw_at lw_m8 49 rfl) rfl
theorem q3509 : (Jvm.Cond.castable "java/util/NoSuchElementException" "java/lang/Object") ∈ lw_tbl := lw_at lw_m15 7 rfl
theorem in_J24 : ∀ w ∈ wsJ240, w ∈ lw_all := lw_in wsJ240 [1534, 1535, 1536, 1537, 1538, 1549] (by decide +kernel) (by decide +kernel)
/-! J25.java_lang_IndexOutOfBoundsException -/
def RJ25 : String := "java/lang/IndexOutOfBoundsException"
def TJ25 : u_T := fun k => match k with
  | 0 => ("java/lang/Throwable", "cause", "Ljava/lang/Throwable;", false)
  | 1 => ("java/lang/Throwable", "stackTrace", "[Ljava/lang/StackTraceElement;", false)
  | 2 => ("java/lang/Throwable", "suppressedExceptions", "Ljava/util/List;", false)
  | 3 => ("java/lang/Throwable", "detailMessage", "Ljava/lang/String;", false)
  | 4 => ("java/lang/Throwable", "backtrace", "Ljava/lang/Object;", false)
  | _ => ("java/lang/Throwable", "depth", "I", false)
def tyJ25 : Nat → FieldType := fun k => match k with
  | 0 => .object "java/lang/Throwable"
  | 1 => .array (.object "java/lang/StackTraceElement")
  | 2 => .object "java/util/List"
  | 3 => .object "java/lang/String"
  | 4 => .object "java/lang/Object"
  | _ => .int
abbrev wsJ250 : List Cond := u_ws RJ25 TJ25 6
theorem nmJ25 : ∀ a, a < 6 → ∀ b, b < 6 → a ≠ b → (TJ25 a).2.1 ≠ (TJ25 b).2.1 := by decide +kernel
theorem tyJ25_ok : ∀ k, k < 6 → parseFieldDescriptor (TJ25 k).2.2.1 = some (tyJ25 k) := by decide +kernel
abbrev cJ25_init : ByteArray := prog_38_method_2_code
def yJ25_init : MethodName := ⟨RJ25, "<init>", "(Ljava/lang/String;)V"⟩
abbrev cJ25_init_2 : ByteArray := prog_38_method_1_code
def yJ25_init_2 : MethodName := ⟨RJ25, "<init>", "()V"⟩
theorem q188 : (Jvm.Cond.initialized "java/lang/IndexOutOfBoundsException") ∈ lw_all := lw_g (lw_at lw_m1 46 rfl) rfl
theorem q268 : (Jvm.Cond.selects "java/lang/IndexOutOfBoundsException" ({ cls := "java/lang/Throwable", name := "fillInStackTrace", desc := "()Ljava/lang/Throwable;" } : Jvm.MethodName) ({ cls := "java/lang/Throwable", name := "fillInStackTrace", desc := "()Ljava/lang/Throwable;" } : Jvm.MethodName)) ∈ lw_all := lw_g (lw_at lw_m1 126 rfl) rfl
theorem q796 : (Jvm.Cond.selects "java/lang/IndexOutOfBoundsException" ({ cls := "java/lang/Object", name := "getClass", desc := "()Ljava/lang/Class;" } : Jvm.MethodName) ({ cls := "java/lang/Object", name := "getClass", desc := "()Ljava/lang/Class;" } : Jvm.MethodName)) ∈ lw_all := lw_g (lw_at lw_m3 174 rfl) rfl
theorem q1241 : (Jvm.Cond.selects "java/lang/IndexOutOfBoundsException" ({ cls := "java/lang/Object", name := "equals", desc := "(Ljava/lang/Object;)Z" } : Jvm.MethodName) ({ cls := "java/lang/Object", name := "equals", desc := "(Ljava/lang/Object;)Z" } : Jvm.MethodName)) ∈ lw_all := lw_g (lw_at lw_m5 139 rfl) rfl
theorem q1663 : (Jvm.Cond.instantiable "java/lang/IndexOutOfBoundsException" (6 : Nat)) ∈ lw_all := lw_g (lw_at lw_m7 81 rfl) rfl
theorem q1664 : (Jvm.Cond.castable "java/lang/IndexOutOfBoundsException" "java/lang/IndexOutOfBoundsException") ∈ lw_tbl := lw_at lw_m7 82 rfl
theorem q1665 : (Jvm.Cond.selects "java/lang/IndexOutOfBoundsException" ({ cls := "java/lang/Throwable", name := "fillInStackTrace", desc := "(I)Ljava/lang/Throwable;" } : Jvm.MethodName) ({ cls := "java/lang/Throwable", name := "fillInStackTrace", desc := "(I)Ljava/lang/Throwable;" } : Jvm.MethodName)) ∈ lw_all := lw_g (lw_at lw_m7 83 rfl) rfl
theorem q1666 : (Jvm.Cond.lays "java/lang/IndexOutOfBoundsException" "java/lang/Throwable" "cause" "Ljava/lang/Throwable;") ∈ lw_all := lw_g (lw_at lw_m7 84 rfl) rfl
theorem q1667 : (Jvm.Cond.lays "java/lang/IndexOutOfBoundsException" "java/lang/Throwable" "stackTrace" "[Ljava/lang/StackTraceElement;") ∈ lw_all := lw_g (lw_at lw_m7 85 rfl) rfl
theorem q1668 : (Jvm.Cond.lays "java/lang/IndexOutOfBoundsException" "java/lang/Throwable" "suppressedExceptions" "Ljava/util/List;") ∈ lw_all := lw_g (lw_at lw_m7 86 rfl) rfl
theorem q1669 : (Jvm.Cond.lays "java/lang/IndexOutOfBoundsException" "java/lang/Throwable" "detailMessage" "Ljava/lang/String;") ∈ lw_all := lw_g (lw_at lw_m7 87 rfl) rfl
theorem q1670 : (Jvm.Cond.lays "java/lang/IndexOutOfBoundsException" "java/lang/Throwable" "backtrace" "Ljava/lang/Object;") ∈ lw_all := lw_g (lw_at lw_m7 88 rfl) rfl
theorem q1678 : (Jvm.Cond.instanceMethod ({ cls := "java/lang/IndexOutOfBoundsException", name := "<init>", desc := "(Ljava/lang/String;)V" } : Jvm.MethodName)) ∈ lw_all := lw_g (lw_at lw_m7 96 rfl) rfl
theorem q1679 : (Jvm.Cond.code ({ cls := "java/lang/IndexOutOfBoundsException", name := "<init>", desc := "(Ljava/lang/String;)V" } : Jvm.MethodName) prog_38_method_2_code (2 : Nat) (Option.none : Option Jvm.ClassFile.FieldType)) ∈ lw_all := lw_g (lw_at lw_m7 97 rfl) rfl
theorem q1680 : (Jvm.Cond.methodLink "java/lang/IndexOutOfBoundsException" (7 : Nat) ({ cls := "java/lang/RuntimeException", name := "<init>", desc := "(Ljava/lang/String;)V" } : Jvm.MethodName)) ∈ lw_all := lw_g (lw_at lw_m7 98 rfl) rfl
theorem q1681 : (Jvm.Cond.lays "java/lang/IndexOutOfBoundsException" "java/lang/Throwable" "depth" "I") ∈ lw_all := lw_g (lw_at lw_m7 99 rfl) rfl
theorem q1682 : (Jvm.Cond.superclass "java/lang/IndexOutOfBoundsException" "java/lang/RuntimeException") ∈ lw_all := lw_g (lw_at lw_m7 100 rfl) rfl
theorem q1846 : (Jvm.Cond.selects "java/lang/IndexOutOfBoundsException" ({ cls := "java/lang/Throwable", name := "toString", desc := "()Ljava/lang/String;" } : Jvm.MethodName) ({ cls := "java/lang/Throwable", name := "toString", desc := "()Ljava/lang/String;" } : Jvm.MethodName)) ∈ lw_all := lw_g (lw_at lw_m8 24 rfl) rfl
theorem q1858 : (Jvm.Cond.selects "java/lang/IndexOutOfBoundsException" ({ cls := "java/lang/Throwable", name := "getLocalizedMessage", desc := "()Ljava/lang/String;" } : Jvm.MethodName) ({ cls := "java/lang/Throwable", name := "getLocalizedMessage", desc := "()Ljava/lang/String;" } : Jvm.MethodName)) ∈ lw_all := lw_g (lw_at lw_m8 36 rfl) rfl
theorem q1869 : (Jvm.Cond.selects "java/lang/IndexOutOfBoundsException" ({ cls := "java/lang/Throwable", name := "getMessage", desc := "()Ljava/lang/String;" } : Jvm.MethodName) ({ cls := "java/lang/Throwable", name := "getMessage", desc := "()Ljava/lang/String;" } : Jvm.MethodName)) ∈ lw_all := lw_g (lw_at lw_m8 47 rfl) rfl
theorem q2042 : (Jvm.Cond.declares ({ cls := "java/lang/IndexOutOfBoundsException", name := "<init>", desc := "()V" } : Jvm.MethodName)) ∈ lw_tbl := lw_at lw_m8 220 rfl
theorem q2043 : (Jvm.Cond.declares ({ cls := "java/lang/IndexOutOfBoundsException", name := "<init>", desc := "(Ljava/lang/String;)V" } : Jvm.MethodName)) ∈ lw_tbl := lw_at lw_m8 221 rfl
theorem q2058 : (Jvm.Cond.instanceMethod ({ cls := "java/lang/IndexOutOfBoundsException", name := "<init>", desc := "()V" } : Jvm.MethodName)) ∈ lw_all := lw_g (lw_at lw_m8 236 rfl) rfl
theorem q2059 : (Jvm.Cond.code ({ cls := "java/lang/IndexOutOfBoundsException", name := "<init>", desc := "()V" } : Jvm.MethodName) prog_38_method_1_code (1 : Nat) (Option.none : Option Jvm.ClassFile.FieldType)) ∈ lw_all := lw_g (lw_at lw_m8 237 rfl) rfl
theorem q2060 : (Jvm.Cond.methodLink "java/lang/IndexOutOfBoundsException" (1 : Nat) ({ cls := "java/lang/RuntimeException", name := "<init>", desc := "()V" } : Jvm.MethodName)) ∈ lw_all := lw_g (lw_at lw_m8 238 rfl) rfl
theorem q3511 : (Jvm.Cond.castable "java/lang/IndexOutOfBoundsException" "java/lang/Object") ∈ lw_tbl := lw_at lw_m15 9 rfl
theorem in_J25 : ∀ w ∈ wsJ250, w ∈ lw_all := lw_in wsJ250 [1666, 1667, 1668, 1669, 1670, 1681] (by decide +kernel) (by decide +kernel)
/-! J26.java_lang_ArrayIndexOutOfBoundsException -/
def RJ26 : String := "java/lang/ArrayIndexOutOfBoundsException"
def TJ26 : u_T := fun k => match k with
  | 0 => ("java/lang/Throwable", "backtrace", "Ljava/lang/Object;", false)
  | 1 => ("java/lang/Throwable", "detailMessage", "Ljava/lang/String;", false)
  | 2 => ("java/lang/Throwable", "cause", "Ljava/lang/Throwable;", false)
  | 3 => ("java/lang/Throwable", "stackTrace", "[Ljava/lang/StackTraceElement;", false)
  | 4 => ("java/lang/Throwable", "depth", "I", false)
  | _ => ("java/lang/Throwable", "suppressedExceptions", "Ljava/util/List;", false)
def tyJ26 : Nat → FieldType := fun k => match k with
  | 0 => .object "java/lang/Object"
  | 1 => .object "java/lang/String"
  | 2 => .object "java/lang/Throwable"
  | 3 => .array (.object "java/lang/StackTraceElement")
  | 4 => .int
  | _ => .object "java/util/List"
abbrev wsJ260 : List Cond := u_ws RJ26 TJ26 6
theorem nmJ26 : ∀ a, a < 6 → ∀ b, b < 6 → a ≠ b → (TJ26 a).2.1 ≠ (TJ26 b).2.1 := by decide +kernel
theorem tyJ26_ok : ∀ k, k < 6 → parseFieldDescriptor (TJ26 k).2.2.1 = some (tyJ26 k) := by decide +kernel
abbrev cJ26_init : ByteArray := prog_30_method_2_code
def yJ26_init : MethodName := ⟨RJ26, "<init>", "(Ljava/lang/String;)V"⟩
abbrev cJ26_init_2 : ByteArray := prog_30_method_3_code
def yJ26_init_2 : MethodName := ⟨RJ26, "<init>", "(I)V"⟩
theorem q189 : (Jvm.Cond.initialized "java/lang/ArrayIndexOutOfBoundsException") ∈ lw_all := lw_g (lw_at lw_m1 47 rfl) rfl
theorem q266 : (Jvm.Cond.selects "java/lang/ArrayIndexOutOfBoundsException" ({ cls := "java/lang/Throwable", name := "fillInStackTrace", desc := "()Ljava/lang/Throwable;" } : Jvm.MethodName) ({ cls := "java/lang/Throwable", name := "fillInStackTrace", desc := "()Ljava/lang/Throwable;" } : Jvm.MethodName)) ∈ lw_all := lw_g (lw_at lw_m1 124 rfl) rfl
theorem q793 : (Jvm.Cond.selects "java/lang/ArrayIndexOutOfBoundsException" ({ cls := "java/lang/Object", name := "getClass", desc := "()Ljava/lang/Class;" } : Jvm.MethodName) ({ cls := "java/lang/Object", name := "getClass", desc := "()Ljava/lang/Class;" } : Jvm.MethodName)) ∈ lw_all := lw_g (lw_at lw_m3 171 rfl) rfl
theorem q1238 : (Jvm.Cond.selects "java/lang/ArrayIndexOutOfBoundsException" ({ cls := "java/lang/Object", name := "equals", desc := "(Ljava/lang/Object;)Z" } : Jvm.MethodName) ({ cls := "java/lang/Object", name := "equals", desc := "(Ljava/lang/Object;)Z" } : Jvm.MethodName)) ∈ lw_all := lw_g (lw_at lw_m5 136 rfl) rfl
theorem q1843 : (Jvm.Cond.selects "java/lang/ArrayIndexOutOfBoundsException" ({ cls := "java/lang/Throwable", name := "toString", desc := "()Ljava/lang/String;" } : Jvm.MethodName) ({ cls := "java/lang/Throwable", name := "toString", desc := "()Ljava/lang/String;" } : Jvm.MethodName)) ∈ lw_all := lw_g (lw_at lw_m8 21 rfl) rfl
theorem q1855 : (Jvm.Cond.selects "java/lang/ArrayIndexOutOfBoundsException" ({ cls := "java/lang/Throwable", name := "getLocalizedMessage", desc := "()Ljava/lang/String;" } : Jvm.MethodName) ({ cls := "java/lang/Throwable", name := "getLocalizedMessage", desc := "()Ljava/lang/String;" } : Jvm.MethodName)) ∈ lw_all := lw_g (lw_at lw_m8 33 rfl) rfl
theorem q1866 : (Jvm.Cond.selects "java/lang/ArrayIndexOutOfBoundsException" ({ cls := "java/lang/Throwable", name := "getMessage", desc := "()Ljava/lang/String;" } : Jvm.MethodName) ({ cls := "java/lang/Throwable", name := "getMessage", desc := "()Ljava/lang/String;" } : Jvm.MethodName)) ∈ lw_all := lw_g (lw_at lw_m8 44 rfl) rfl
theorem q2030 : (Jvm.Cond.instantiable "java/lang/ArrayIndexOutOfBoundsException" (6 : Nat)) ∈ lw_all := lw_g (lw_at lw_m8 208 rfl) rfl
theorem q2031 : (Jvm.Cond.instanceMethod ({ cls := "java/lang/ArrayIndexOutOfBoundsException", name := "<init>", desc := "(Ljava/lang/String;)V" } : Jvm.MethodName)) ∈ lw_all := lw_g (lw_at lw_m8 209 rfl) rfl
theorem q2032 : (Jvm.Cond.code ({ cls := "java/lang/ArrayIndexOutOfBoundsException", name := "<init>", desc := "(Ljava/lang/String;)V" } : Jvm.MethodName) prog_30_method_2_code (2 : Nat) (Option.none : Option Jvm.ClassFile.FieldType)) ∈ lw_all := lw_g (lw_at lw_m8 210 rfl) rfl
theorem q2033 : (Jvm.Cond.methodLink "java/lang/ArrayIndexOutOfBoundsException" (7 : Nat) ({ cls := "java/lang/IndexOutOfBoundsException", name := "<init>", desc := "(Ljava/lang/String;)V" } : Jvm.MethodName)) ∈ lw_all := lw_g (lw_at lw_m8 211 rfl) rfl
theorem q2034 : (Jvm.Cond.lays "java/lang/ArrayIndexOutOfBoundsException" "java/lang/Throwable" "backtrace" "Ljava/lang/Object;") ∈ lw_all := lw_g (lw_at lw_m8 212 rfl) rfl
theorem q2035 : (Jvm.Cond.lays "java/lang/ArrayIndexOutOfBoundsException" "java/lang/Throwable" "detailMessage" "Ljava/lang/String;") ∈ lw_all := lw_g (lw_at lw_m8 213 rfl) rfl
theorem q2036 : (Jvm.Cond.lays "java/lang/ArrayIndexOutOfBoundsException" "java/lang/Throwable" "cause" "Ljava/lang/Throwable;") ∈ lw_all := lw_g (lw_at lw_m8 214 rfl) rfl
theorem q2037 : (Jvm.Cond.lays "java/lang/ArrayIndexOutOfBoundsException" "java/lang/Throwable" "stackTrace" "[Ljava/lang/StackTraceElement;") ∈ lw_all := lw_g (lw_at lw_m8 215 rfl) rfl
theorem q2038 : (Jvm.Cond.lays "java/lang/ArrayIndexOutOfBoundsException" "java/lang/Throwable" "depth" "I") ∈ lw_all := lw_g (lw_at lw_m8 216 rfl) rfl
theorem q2039 : (Jvm.Cond.lays "java/lang/ArrayIndexOutOfBoundsException" "java/lang/Throwable" "suppressedExceptions" "Ljava/util/List;") ∈ lw_all := lw_g (lw_at lw_m8 217 rfl) rfl
theorem q2040 : (Jvm.Cond.superclass "java/lang/ArrayIndexOutOfBoundsException" "java/lang/IndexOutOfBoundsException") ∈ lw_all := lw_g (lw_at lw_m8 218 rfl) rfl
theorem q2041 : (Jvm.Cond.castable "java/lang/ArrayIndexOutOfBoundsException" "java/lang/ArrayIndexOutOfBoundsException") ∈ lw_tbl := lw_at lw_m8 219 rfl
theorem q2044 : (Jvm.Cond.selects "java/lang/ArrayIndexOutOfBoundsException" ({ cls := "java/lang/Throwable", name := "fillInStackTrace", desc := "(I)Ljava/lang/Throwable;" } : Jvm.MethodName) ({ cls := "java/lang/Throwable", name := "fillInStackTrace", desc := "(I)Ljava/lang/Throwable;" } : Jvm.MethodName)) ∈ lw_all := lw_g (lw_at lw_m8 222 rfl) rfl
theorem q2706 : (Jvm.Cond.instanceMethod ({ cls := "java/lang/ArrayIndexOutOfBoundsException", name := "<init>", desc := "(I)V" } : Jvm.MethodName)) ∈ lw_all := lw_g (lw_at lw_m11 164 rfl) rfl
theorem q2707 : (Jvm.Cond.code ({ cls := "java/lang/ArrayIndexOutOfBoundsException", name := "<init>", desc := "(I)V" } : Jvm.MethodName) prog_30_method_3_code (2 : Nat) (Option.none : Option Jvm.ClassFile.FieldType)) ∈ lw_all := lw_g (lw_at lw_m11 165 rfl) rfl
theorem q2708 : (Jvm.Cond.classLink "java/lang/ArrayIndexOutOfBoundsException" (10 : Nat) "java/lang/StringBuilder") ∈ lw_all := lw_g (lw_at lw_m11 166 rfl) rfl
theorem q2709 : (Jvm.Cond.methodLink "java/lang/ArrayIndexOutOfBoundsException" (12 : Nat) ({ cls := "java/lang/StringBuilder", name := "<init>", desc := "()V" } : Jvm.MethodName)) ∈ lw_all := lw_g (lw_at lw_m11 167 rfl) rfl
theorem q2710 : (Jvm.Cond.stringRef "java/lang/ArrayIndexOutOfBoundsException" (13 : Nat) "Array index out of range: ") ∈ lw_tbl := lw_at lw_m11 168 rfl
theorem q2711 : (Jvm.Cond.methodLink "java/lang/ArrayIndexOutOfBoundsException" (15 : Nat) ({ cls := "java/lang/StringBuilder", name := "append", desc := "(Ljava/lang/String;)Ljava/lang/StringBuilder;" } : Jvm.MethodName)) ∈ lw_all := lw_g (lw_at lw_m11 169 rfl) rfl
theorem q2712 : (Jvm.Cond.methodLink "java/lang/ArrayIndexOutOfBoundsException" (19 : Nat) ({ cls := "java/lang/StringBuilder", name := "append", desc := "(I)Ljava/lang/StringBuilder;" } : Jvm.MethodName)) ∈ lw_all := lw_g (lw_at lw_m11 170 rfl) rfl
theorem q2713 : (Jvm.Cond.methodLink "java/lang/ArrayIndexOutOfBoundsException" (22 : Nat) ({ cls := "java/lang/StringBuilder", name := "toString", desc := "()Ljava/lang/String;" } : Jvm.MethodName)) ∈ lw_all := lw_g (lw_at lw_m11 171 rfl) rfl
theorem q3471 : (Jvm.Cond.castable "java/lang/ArrayIndexOutOfBoundsException" "java/lang/IndexOutOfBoundsException") ∈ lw_tbl := lw_at lw_m14 209 rfl
theorem q3510 : (Jvm.Cond.castable "java/lang/ArrayIndexOutOfBoundsException" "java/lang/Object") ∈ lw_tbl := lw_at lw_m15 8 rfl
theorem in_J26 : ∀ w ∈ wsJ260, w ∈ lw_all := lw_in wsJ260 [2034, 2035, 2036, 2037, 2038, 2039] (by decide +kernel) (by decide +kernel)
/-! J27.java_util_AbstractList_Itr -/
def RJ27 : String := "java/util/AbstractList$Itr"
abbrev cJ27_hasNext : ByteArray := prog_56_method_2_code
def yJ27_hasNext : MethodName := ⟨RJ27, "hasNext", "()Z"⟩
abbrev cJ27_next : ByteArray := prog_56_method_3_code
def yJ27_next : MethodName := ⟨RJ27, "next", "()Ljava/lang/Object;"⟩
abbrev cJ27_checkForComodification : ByteArray := prog_56_method_5_code
def yJ27_checkForComodification : MethodName := ⟨RJ27, "checkForComodification", "()V"⟩
theorem q190 : (Jvm.Cond.initialized "java/util/AbstractList$Itr") ∈ lw_all := lw_g (lw_at lw_m1 48 rfl) rfl
theorem q561 : (Jvm.Cond.fieldLink "java/util/AbstractList$Itr" (20 : Nat) "java/util/AbstractList" "modCount" "I") ∈ lw_all := lw_g (lw_at lw_m2 179 rfl) rfl
theorem q1768 : (Jvm.Cond.instanceMethod ({ cls := "java/util/AbstractList$Itr", name := "hasNext", desc := "()Z" } : Jvm.MethodName)) ∈ lw_all := lw_g (lw_at lw_m7 186 rfl) rfl
theorem q1769 : (Jvm.Cond.publicMethod ({ cls := "java/util/AbstractList$Itr", name := "hasNext", desc := "()Z" } : Jvm.MethodName)) ∈ lw_tbl := lw_at lw_m7 187 rfl
theorem q1770 : (Jvm.Cond.code ({ cls := "java/util/AbstractList$Itr", name := "hasNext", desc := "()Z" } : Jvm.MethodName) prog_56_method_2_code (1 : Nat) (Option.some Jvm.ClassFile.FieldType.boolean)) ∈ lw_all := lw_g (lw_at lw_m7 188 rfl) rfl
theorem q1771 : (Jvm.Cond.methodLink "java/util/AbstractList$Itr" (28 : Nat) ({ cls := "java/util/AbstractList", name := "size", desc := "()I" } : Jvm.MethodName)) ∈ lw_all := lw_g (lw_at lw_m7 189 rfl) rfl
theorem q1802 : (Jvm.Cond.instanceMethod ({ cls := "java/util/AbstractList$Itr", name := "next", desc := "()Ljava/lang/Object;" } : Jvm.MethodName)) ∈ lw_all := lw_g (lw_at lw_m7 220 rfl) rfl
theorem q1803 : (Jvm.Cond.publicMethod ({ cls := "java/util/AbstractList$Itr", name := "next", desc := "()Ljava/lang/Object;" } : Jvm.MethodName)) ∈ lw_tbl := lw_at lw_m7 221 rfl
theorem q1804 : (Jvm.Cond.codeWith ({ cls := "java/util/AbstractList$Itr", name := "next", desc := "()Ljava/lang/Object;" } : Jvm.MethodName) prog_56_method_3_code (3 : Nat) (Option.some (Jvm.ClassFile.FieldType.object "java/lang/Object")) [((4 : Nat), (31 : Nat), (32 : Nat), (39 : Nat))]) ∈ lw_all := lw_g (lw_at lw_m7 222 rfl) rfl
theorem q1805 : (Jvm.Cond.methodLink "java/util/AbstractList$Itr" (32 : Nat) ({ cls := "java/util/AbstractList$Itr", name := "checkForComodification", desc := "()V" } : Jvm.MethodName)) ∈ lw_all := lw_g (lw_at lw_m7 223 rfl) rfl
theorem q1806 : (Jvm.Cond.instanceMethod ({ cls := "java/util/AbstractList$Itr", name := "checkForComodification", desc := "()V" } : Jvm.MethodName)) ∈ lw_all := lw_g (lw_at lw_m7 224 rfl) rfl
theorem q1807 : (Jvm.Cond.sameMethod "java/util/AbstractList$Itr" "java/util/AbstractList$Itr" "checkForComodification" "()V") ∈ lw_all := lw_g (lw_at lw_m7 225 rfl) rfl
theorem q1809 : (Jvm.Cond.code ({ cls := "java/util/AbstractList$Itr", name := "checkForComodification", desc := "()V" } : Jvm.MethodName) prog_56_method_5_code (1 : Nat) (Option.none : Option Jvm.ClassFile.FieldType)) ∈ lw_all := lw_g (lw_at lw_m7 227 rfl) rfl
theorem q1810 : (Jvm.Cond.methodLink "java/util/AbstractList$Itr" (35 : Nat) ({ cls := "java/util/AbstractList", name := "get", desc := "(I)Ljava/lang/Object;" } : Jvm.MethodName)) ∈ lw_all := lw_g (lw_at lw_m7 228 rfl) rfl
theorem q1826 : (Jvm.Cond.classLink "java/util/AbstractList$Itr" (41 : Nat) "java/util/NoSuchElementException") ∈ lw_all := lw_g (lw_at lw_m8 4 rfl) rfl
theorem q1827 : (Jvm.Cond.methodLink "java/util/AbstractList$Itr" (43 : Nat) ({ cls := "java/util/NoSuchElementException", name := "<init>", desc := "(Ljava/lang/Throwable;)V" } : Jvm.MethodName)) ∈ lw_all := lw_g (lw_at lw_m8 5 rfl) rfl
theorem q3539 : (Jvm.Cond.fieldLink "java/util/AbstractList$Itr" (1 : Nat) "java/util/AbstractList$Itr" "this$0" "Ljava/util/AbstractList;") ∈ lw_all := lw_g (lw_at lw_m15 37 rfl) rfl
theorem q3540 : (Jvm.Cond.fieldLink "java/util/AbstractList$Itr" (13 : Nat) "java/util/AbstractList$Itr" "cursor" "I") ∈ lw_all := lw_g (lw_at lw_m15 38 rfl) rfl
theorem q3541 : (Jvm.Cond.fieldLink "java/util/AbstractList$Itr" (17 : Nat) "java/util/AbstractList$Itr" "lastRet" "I") ∈ lw_all := lw_g (lw_at lw_m15 39 rfl) rfl
theorem q3542 : (Jvm.Cond.fieldLink "java/util/AbstractList$Itr" (25 : Nat) "java/util/AbstractList$Itr" "expectedModCount" "I") ∈ lw_all := lw_g (lw_at lw_m15 40 rfl) rfl
/-! J28.java_util_ArrayList_Itr -/
def RJ28 : String := "java/util/ArrayList$Itr"
abbrev cJ28_init : ByteArray := prog_62_method_1_code
def yJ28_init : MethodName := ⟨RJ28, "<init>", "(Ljava/util/ArrayList;)V"⟩
abbrev cJ28_hasNext : ByteArray := prog_62_method_2_code
def yJ28_hasNext : MethodName := ⟨RJ28, "hasNext", "()Z"⟩
abbrev cJ28_next : ByteArray := prog_62_method_3_code
def yJ28_next : MethodName := ⟨RJ28, "next", "()Ljava/lang/Object;"⟩
abbrev cJ28_checkForComodification : ByteArray := prog_62_method_6_code
def yJ28_checkForComodification : MethodName := ⟨RJ28, "checkForComodification", "()V"⟩
theorem q192 : (Jvm.Cond.initialized "java/util/ArrayList$Itr") ∈ lw_all := lw_g (lw_at lw_m1 50 rfl) rfl
theorem q553 : (Jvm.Cond.fieldLink "java/util/ArrayList$Itr" (37 : Nat) "java/util/ArrayList" "elementData" "[Ljava/lang/Object;") ∈ lw_all := lw_g (lw_at lw_m2 171 rfl) rfl
theorem q554 : (Jvm.Cond.fieldLinkNest "java/util/ArrayList$Itr" (28 : Nat) "java/util/ArrayList" "size" "I" "java/util/ArrayList") ∈ lw_tbl := lw_at lw_m2 172 rfl
theorem q559 : (Jvm.Cond.fieldLink "java/util/ArrayList$Itr" (17 : Nat) "java/util/ArrayList" "modCount" "I") ∈ lw_all := lw_g (lw_at lw_m2 177 rfl) rfl
theorem q1689 : (Jvm.Cond.instanceMethod ({ cls := "java/util/ArrayList$Itr", name := "<init>", desc := "(Ljava/util/ArrayList;)V" } : Jvm.MethodName)) ∈ lw_all := lw_g (lw_at lw_m7 107 rfl) rfl
theorem q1690 : (Jvm.Cond.code ({ cls := "java/util/ArrayList$Itr", name := "<init>", desc := "(Ljava/util/ArrayList;)V" } : Jvm.MethodName) prog_62_method_1_code (2 : Nat) (Option.none : Option Jvm.ClassFile.FieldType)) ∈ lw_all := lw_g (lw_at lw_m7 108 rfl) rfl
theorem q1691 : (Jvm.Cond.methodLink "java/util/ArrayList$Itr" (7 : Nat) ({ cls := "java/lang/Object", name := "<init>", desc := "()V" } : Jvm.MethodName)) ∈ lw_all := lw_g (lw_at lw_m7 109 rfl) rfl
theorem q1695 : (Jvm.Cond.fieldLink "java/util/ArrayList$Itr" (25 : Nat) "java/util/ArrayList$Itr" "cursor" "I") ∈ lw_all := lw_g (lw_at lw_m7 113 rfl) rfl
theorem q1696 : (Jvm.Cond.fieldLink "java/util/ArrayList$Itr" (13 : Nat) "java/util/ArrayList$Itr" "lastRet" "I") ∈ lw_all := lw_g (lw_at lw_m7 114 rfl) rfl
theorem q1697 : (Jvm.Cond.fieldLink "java/util/ArrayList$Itr" (22 : Nat) "java/util/ArrayList$Itr" "expectedModCount" "I") ∈ lw_all := lw_g (lw_at lw_m7 115 rfl) rfl
theorem q1698 : (Jvm.Cond.fieldLink "java/util/ArrayList$Itr" (1 : Nat) "java/util/ArrayList$Itr" "this$0" "Ljava/util/ArrayList;") ∈ lw_all := lw_g (lw_at lw_m7 116 rfl) rfl
theorem q1702 : (Jvm.Cond.soleField "java/util/ArrayList$Itr" "cursor") ∈ lw_all := lw_g (lw_at lw_m7 120 rfl) rfl
theorem q1704 : (Jvm.Cond.soleField "java/util/ArrayList$Itr" "lastRet") ∈ lw_all := lw_g (lw_at lw_m7 122 rfl) rfl
theorem q1706 : (Jvm.Cond.soleField "java/util/ArrayList$Itr" "expectedModCount") ∈ lw_all := lw_g (lw_at lw_m7 124 rfl) rfl
theorem q1708 : (Jvm.Cond.soleField "java/util/ArrayList$Itr" "this$0") ∈ lw_all := lw_g (lw_at lw_m7 126 rfl) rfl
theorem q1787 : (Jvm.Cond.instanceMethod ({ cls := "java/util/ArrayList$Itr", name := "hasNext", desc := "()Z" } : Jvm.MethodName)) ∈ lw_all := lw_g (lw_at lw_m7 205 rfl) rfl
theorem q1788 : (Jvm.Cond.publicMethod ({ cls := "java/util/ArrayList$Itr", name := "hasNext", desc := "()Z" } : Jvm.MethodName)) ∈ lw_tbl := lw_at lw_m7 206 rfl
theorem q1789 : (Jvm.Cond.code ({ cls := "java/util/ArrayList$Itr", name := "hasNext", desc := "()Z" } : Jvm.MethodName) prog_62_method_2_code (1 : Nat) (Option.some Jvm.ClassFile.FieldType.boolean)) ∈ lw_all := lw_g (lw_at lw_m7 207 rfl) rfl
theorem q1891 : (Jvm.Cond.instanceMethod ({ cls := "java/util/ArrayList$Itr", name := "next", desc := "()Ljava/lang/Object;" } : Jvm.MethodName)) ∈ lw_all := lw_g (lw_at lw_m8 69 rfl) rfl
theorem q1892 : (Jvm.Cond.publicMethod ({ cls := "java/util/ArrayList$Itr", name := "next", desc := "()Ljava/lang/Object;" } : Jvm.MethodName)) ∈ lw_tbl := lw_at lw_m8 70 rfl
theorem q1893 : (Jvm.Cond.code ({ cls := "java/util/ArrayList$Itr", name := "next", desc := "()Ljava/lang/Object;" } : Jvm.MethodName) prog_62_method_3_code (3 : Nat) (Option.some (Jvm.ClassFile.FieldType.object "java/lang/Object"))) ∈ lw_all := lw_g (lw_at lw_m8 71 rfl) rfl
theorem q1894 : (Jvm.Cond.methodLink "java/util/ArrayList$Itr" (31 : Nat) ({ cls := "java/util/ArrayList$Itr", name := "checkForComodification", desc := "()V" } : Jvm.MethodName)) ∈ lw_all := lw_g (lw_at lw_m8 72 rfl) rfl
theorem q1895 : (Jvm.Cond.instanceMethod ({ cls := "java/util/ArrayList$Itr", name := "checkForComodification", desc := "()V" } : Jvm.MethodName)) ∈ lw_all := lw_g (lw_at lw_m8 73 rfl) rfl
theorem q1896 : (Jvm.Cond.sameMethod "java/util/ArrayList$Itr" "java/util/ArrayList$Itr" "checkForComodification" "()V") ∈ lw_all := lw_g (lw_at lw_m8 74 rfl) rfl
theorem q1898 : (Jvm.Cond.code ({ cls := "java/util/ArrayList$Itr", name := "checkForComodification", desc := "()V" } : Jvm.MethodName) prog_62_method_6_code (1 : Nat) (Option.none : Option Jvm.ClassFile.FieldType)) ∈ lw_all := lw_g (lw_at lw_m8 76 rfl) rfl
theorem q1899 : (Jvm.Cond.classLink "java/util/ArrayList$Itr" (34 : Nat) "java/util/NoSuchElementException") ∈ lw_all := lw_g (lw_at lw_m8 77 rfl) rfl
theorem q1900 : (Jvm.Cond.methodLink "java/util/ArrayList$Itr" (36 : Nat) ({ cls := "java/util/NoSuchElementException", name := "<init>", desc := "()V" } : Jvm.MethodName)) ∈ lw_all := lw_g (lw_at lw_m8 78 rfl) rfl
/-! J29.java_util_ArrayList_ListItr -/
def RJ29 : String := "java/util/ArrayList$ListItr"
def TJ29 : u_T := fun k => match k with
  | 0 => ("java/util/ArrayList$Itr", "cursor", "I", false)
  | 1 => ("java/util/ArrayList$Itr", "lastRet", "I", false)
  | 2 => ("java/util/ArrayList$Itr", "expectedModCount", "I", false)
  | 3 => ("java/util/ArrayList$Itr", "this$0", "Ljava/util/ArrayList;", true)
  | _ => ("java/util/ArrayList$ListItr", "this$0", "Ljava/util/ArrayList;", true)
def tyJ29 : Nat → FieldType := fun k => match k with
  | 0 => .int
  | 1 => .int
  | 2 => .int
  | 3 => .object "java/util/ArrayList"
  | _ => .object "java/util/ArrayList"
abbrev wsJ290 : List Cond := u_ws RJ29 TJ29 5
-- two fields of one name: no nmJ29
theorem tyJ29_ok : ∀ k, k < 5 → parseFieldDescriptor (TJ29 k).2.2.1 = some (tyJ29 k) := by decide +kernel
abbrev cJ29_init : ByteArray := prog_63_method_1_code
def yJ29_init : MethodName := ⟨RJ29, "<init>", "(Ljava/util/ArrayList;I)V"⟩
theorem q193 : (Jvm.Cond.initialized "java/util/ArrayList$ListItr") ∈ lw_all := lw_g (lw_at lw_m1 51 rfl) rfl
theorem q805 : (Jvm.Cond.selects "java/util/ArrayList$ListItr" ({ cls := "java/lang/Object", name := "getClass", desc := "()Ljava/lang/Class;" } : Jvm.MethodName) ({ cls := "java/lang/Object", name := "getClass", desc := "()Ljava/lang/Class;" } : Jvm.MethodName)) ∈ lw_all := lw_g (lw_at lw_m3 183 rfl) rfl
theorem q1684 : (Jvm.Cond.instantiable "java/util/ArrayList$ListItr" (5 : Nat)) ∈ lw_all := lw_g (lw_at lw_m7 102 rfl) rfl
theorem q1686 : (Jvm.Cond.instanceMethod ({ cls := "java/util/ArrayList$ListItr", name := "<init>", desc := "(Ljava/util/ArrayList;I)V" } : Jvm.MethodName)) ∈ lw_all := lw_g (lw_at lw_m7 104 rfl) rfl
theorem q1687 : (Jvm.Cond.code ({ cls := "java/util/ArrayList$ListItr", name := "<init>", desc := "(Ljava/util/ArrayList;I)V" } : Jvm.MethodName) prog_63_method_1_code (3 : Nat) (Option.none : Option Jvm.ClassFile.FieldType)) ∈ lw_all := lw_g (lw_at lw_m7 105 rfl) rfl
theorem q1688 : (Jvm.Cond.methodLink "java/util/ArrayList$ListItr" (7 : Nat) ({ cls := "java/util/ArrayList$Itr", name := "<init>", desc := "(Ljava/util/ArrayList;)V" } : Jvm.MethodName)) ∈ lw_all := lw_g (lw_at lw_m7 106 rfl) rfl
theorem q1692 : (Jvm.Cond.fieldLink "java/util/ArrayList$ListItr" (1 : Nat) "java/util/ArrayList$ListItr" "this$0" "Ljava/util/ArrayList;") ∈ lw_all := lw_g (lw_at lw_m7 110 rfl) rfl
theorem q1693 : (Jvm.Cond.fieldLink "java/util/ArrayList$ListItr" (13 : Nat) "java/util/ArrayList$ListItr" "cursor" "I") ∈ lw_all := lw_g (lw_at lw_m7 111 rfl) rfl
theorem q1694 : (Jvm.Cond.sameField "java/util/ArrayList$ListItr" "java/util/ArrayList$Itr" "cursor" "I") ∈ lw_all := lw_g (lw_at lw_m7 112 rfl) rfl
theorem q1699 : (Jvm.Cond.laysFinal "java/util/ArrayList$ListItr" "java/util/ArrayList$ListItr" "this$0" "Ljava/util/ArrayList;") ∈ lw_all := lw_g (lw_at lw_m7 117 rfl) rfl
theorem q1700 : (Jvm.Cond.soleField "java/util/ArrayList$ListItr" "this$0") ∈ lw_all := lw_g (lw_at lw_m7 118 rfl) rfl
theorem q1701 : (Jvm.Cond.lays "java/util/ArrayList$ListItr" "java/util/ArrayList$Itr" "cursor" "I") ∈ lw_all := lw_g (lw_at lw_m7 119 rfl) rfl
theorem q1703 : (Jvm.Cond.lays "java/util/ArrayList$ListItr" "java/util/ArrayList$Itr" "lastRet" "I") ∈ lw_all := lw_g (lw_at lw_m7 121 rfl) rfl
theorem q1705 : (Jvm.Cond.lays "java/util/ArrayList$ListItr" "java/util/ArrayList$Itr" "expectedModCount" "I") ∈ lw_all := lw_g (lw_at lw_m7 123 rfl) rfl
theorem q1707 : (Jvm.Cond.laysFinal "java/util/ArrayList$ListItr" "java/util/ArrayList$Itr" "this$0" "Ljava/util/ArrayList;") ∈ lw_all := lw_g (lw_at lw_m7 125 rfl) rfl
theorem q1709 : (Jvm.Cond.superclass "java/util/ArrayList$ListItr" "java/util/ArrayList$Itr") ∈ lw_all := lw_g (lw_at lw_m7 127 rfl) rfl
theorem q1784 : (Jvm.Cond.castable "java/util/ArrayList$ListItr" "java/util/Iterator") ∈ lw_tbl := lw_at lw_m7 202 rfl
theorem q1785 : (Jvm.Cond.selects "java/util/ArrayList$ListItr" ({ cls := "java/util/Iterator", name := "hasNext", desc := "()Z" } : Jvm.MethodName) ({ cls := "java/util/ArrayList$Itr", name := "hasNext", desc := "()Z" } : Jvm.MethodName)) ∈ lw_all := lw_g (lw_at lw_m7 203 rfl) rfl
theorem q1786 : (Jvm.Cond.unhidden "java/util/ArrayList$ListItr" "hasNext" "()Z") ∈ lw_tbl := lw_at lw_m7 204 rfl
theorem q1889 : (Jvm.Cond.selects "java/util/ArrayList$ListItr" ({ cls := "java/util/Iterator", name := "next", desc := "()Ljava/lang/Object;" } : Jvm.MethodName) ({ cls := "java/util/ArrayList$Itr", name := "next", desc := "()Ljava/lang/Object;" } : Jvm.MethodName)) ∈ lw_all := lw_g (lw_at lw_m8 67 rfl) rfl
theorem q1890 : (Jvm.Cond.unhidden "java/util/ArrayList$ListItr" "next" "()Ljava/lang/Object;") ∈ lw_tbl := lw_at lw_m8 68 rfl
theorem q1897 : (Jvm.Cond.selects "java/util/ArrayList$ListItr" ({ cls := "java/util/ArrayList$Itr", name := "checkForComodification", desc := "()V" } : Jvm.MethodName) ({ cls := "java/util/ArrayList$Itr", name := "checkForComodification", desc := "()V" } : Jvm.MethodName)) ∈ lw_all := lw_g (lw_at lw_m8 75 rfl) rfl
theorem q3513 : (Jvm.Cond.castable "java/util/ArrayList$ListItr" "java/lang/Object") ∈ lw_tbl := lw_at lw_m15 11 rfl
theorem in_J29 : ∀ w ∈ wsJ290, w ∈ lw_all := lw_in wsJ290 [1701, 1703, 1705, 1707, 1699] (by decide +kernel) (by decide +kernel)
/-! J30.java_util_LinkedList_ListItr -/
def RJ30 : String := "java/util/LinkedList$ListItr"
def TJ30 : u_T := fun k => match k with
  | 0 => ("java/util/LinkedList$ListItr", "lastReturned", "Ljava/util/LinkedList$Node;", false)
  | 1 => ("java/util/LinkedList$ListItr", "next", "Ljava/util/LinkedList$Node;", false)
  | 2 => ("java/util/LinkedList$ListItr", "nextIndex", "I", false)
  | 3 => ("java/util/LinkedList$ListItr", "expectedModCount", "I", false)
  | _ => ("java/util/LinkedList$ListItr", "this$0", "Ljava/util/LinkedList;", true)
def tyJ30 : Nat → FieldType := fun k => match k with
  | 0 => .object "java/util/LinkedList$Node"
  | 1 => .object "java/util/LinkedList$Node"
  | 2 => .int
  | 3 => .int
  | _ => .object "java/util/LinkedList"
abbrev wsJ300 : List Cond := u_ws RJ30 TJ30 5
theorem nmJ30 : ∀ a, a < 5 → ∀ b, b < 5 → a ≠ b → (TJ30 a).2.1 ≠ (TJ30 b).2.1 := by decide +kernel
theorem tyJ30_ok : ∀ k, k < 5 → parseFieldDescriptor (TJ30 k).2.2.1 = some (tyJ30 k) := by decide +kernel
abbrev cJ30_init : ByteArray := prog_69_method_1_code
def yJ30_init : MethodName := ⟨RJ30, "<init>", "(Ljava/util/LinkedList;I)V"⟩
abbrev cJ30_hasNext : ByteArray := prog_69_method_2_code
def yJ30_hasNext : MethodName := ⟨RJ30, "hasNext", "()Z"⟩
abbrev cJ30_next : ByteArray := prog_69_method_3_code
def yJ30_next : MethodName := ⟨RJ30, "next", "()Ljava/lang/Object;"⟩
abbrev cJ30_checkForComodification : ByteArray := prog_69_method_12_code
def yJ30_checkForComodification : MethodName := ⟨RJ30, "checkForComodification", "()V"⟩
theorem q194 : (Jvm.Cond.initialized "java/util/LinkedList$ListItr") ∈ lw_all := lw_g (lw_at lw_m1 52 rfl) rfl
theorem q557 : (Jvm.Cond.fieldLink "java/util/LinkedList$ListItr" (13 : Nat) "java/util/LinkedList" "modCount" "I") ∈ lw_all := lw_g (lw_at lw_m2 175 rfl) rfl
theorem q634 : (Jvm.Cond.fieldLink "java/util/LinkedList$ListItr" (22 : Nat) "java/util/LinkedList" "size" "I") ∈ lw_all := lw_g (lw_at lw_m3 12 rfl) rfl
theorem q807 : (Jvm.Cond.selects "java/util/LinkedList$ListItr" ({ cls := "java/lang/Object", name := "getClass", desc := "()Ljava/lang/Class;" } : Jvm.MethodName) ({ cls := "java/lang/Object", name := "getClass", desc := "()Ljava/lang/Class;" } : Jvm.MethodName)) ∈ lw_all := lw_g (lw_at lw_m3 185 rfl) rfl
theorem q1491 : (Jvm.Cond.fieldLink "java/util/LinkedList$ListItr" (52 : Nat) "java/util/LinkedList$Node" "item" "Ljava/lang/Object;") ∈ lw_all := lw_g (lw_at lw_m6 149 rfl) rfl
theorem q1494 : (Jvm.Cond.fieldLink "java/util/LinkedList$ListItr" (49 : Nat) "java/util/LinkedList$Node" "next" "Ljava/util/LinkedList$Node;") ∈ lw_all := lw_g (lw_at lw_m6 152 rfl) rfl
theorem q1735 : (Jvm.Cond.instantiable "java/util/LinkedList$ListItr" (5 : Nat)) ∈ lw_all := lw_g (lw_at lw_m7 153 rfl) rfl
theorem q1737 : (Jvm.Cond.instanceMethod ({ cls := "java/util/LinkedList$ListItr", name := "<init>", desc := "(Ljava/util/LinkedList;I)V" } : Jvm.MethodName)) ∈ lw_all := lw_g (lw_at lw_m7 155 rfl) rfl
theorem q1738 : (Jvm.Cond.code ({ cls := "java/util/LinkedList$ListItr", name := "<init>", desc := "(Ljava/util/LinkedList;I)V" } : Jvm.MethodName) prog_69_method_1_code (3 : Nat) (Option.none : Option Jvm.ClassFile.FieldType)) ∈ lw_all := lw_g (lw_at lw_m7 156 rfl) rfl
theorem q1739 : (Jvm.Cond.methodLink "java/util/LinkedList$ListItr" (7 : Nat) ({ cls := "java/lang/Object", name := "<init>", desc := "()V" } : Jvm.MethodName)) ∈ lw_all := lw_g (lw_at lw_m7 157 rfl) rfl
theorem q1740 : (Jvm.Cond.methodLink "java/util/LinkedList$ListItr" (25 : Nat) ({ cls := "java/util/LinkedList", name := "node", desc := "(I)Ljava/util/LinkedList$Node;" } : Jvm.MethodName)) ∈ lw_all := lw_g (lw_at lw_m7 158 rfl) rfl
theorem q1744 : (Jvm.Cond.fieldLink "java/util/LinkedList$ListItr" (46 : Nat) "java/util/LinkedList$ListItr" "lastReturned" "Ljava/util/LinkedList$Node;") ∈ lw_all := lw_g (lw_at lw_m7 162 rfl) rfl
theorem q1745 : (Jvm.Cond.fieldLink "java/util/LinkedList$ListItr" (29 : Nat) "java/util/LinkedList$ListItr" "next" "Ljava/util/LinkedList$Node;") ∈ lw_all := lw_g (lw_at lw_m7 163 rfl) rfl
theorem q1746 : (Jvm.Cond.fieldLink "java/util/LinkedList$ListItr" (33 : Nat) "java/util/LinkedList$ListItr" "nextIndex" "I") ∈ lw_all := lw_g (lw_at lw_m7 164 rfl) rfl
theorem q1747 : (Jvm.Cond.fieldLink "java/util/LinkedList$ListItr" (19 : Nat) "java/util/LinkedList$ListItr" "expectedModCount" "I") ∈ lw_all := lw_g (lw_at lw_m7 165 rfl) rfl
theorem q1748 : (Jvm.Cond.fieldLink "java/util/LinkedList$ListItr" (1 : Nat) "java/util/LinkedList$ListItr" "this$0" "Ljava/util/LinkedList;") ∈ lw_all := lw_g (lw_at lw_m7 166 rfl) rfl
theorem q1749 : (Jvm.Cond.lays "java/util/LinkedList$ListItr" "java/util/LinkedList$ListItr" "lastReturned" "Ljava/util/LinkedList$Node;") ∈ lw_all := lw_g (lw_at lw_m7 167 rfl) rfl
theorem q1750 : (Jvm.Cond.soleField "java/util/LinkedList$ListItr" "lastReturned") ∈ lw_all := lw_g (lw_at lw_m7 168 rfl) rfl
theorem q1751 : (Jvm.Cond.lays "java/util/LinkedList$ListItr" "java/util/LinkedList$ListItr" "next" "Ljava/util/LinkedList$Node;") ∈ lw_all := lw_g (lw_at lw_m7 169 rfl) rfl
theorem q1752 : (Jvm.Cond.soleField "java/util/LinkedList$ListItr" "next") ∈ lw_all := lw_g (lw_at lw_m7 170 rfl) rfl
theorem q1753 : (Jvm.Cond.lays "java/util/LinkedList$ListItr" "java/util/LinkedList$ListItr" "nextIndex" "I") ∈ lw_all := lw_g (lw_at lw_m7 171 rfl) rfl
theorem q1754 : (Jvm.Cond.soleField "java/util/LinkedList$ListItr" "nextIndex") ∈ lw_all := lw_g (lw_at lw_m7 172 rfl) rfl
theorem q1755 : (Jvm.Cond.lays "java/util/LinkedList$ListItr" "java/util/LinkedList$ListItr" "expectedModCount" "I") ∈ lw_all := lw_g (lw_at lw_m7 173 rfl) rfl
theorem q1756 : (Jvm.Cond.soleField "java/util/LinkedList$ListItr" "expectedModCount") ∈ lw_all := lw_g (lw_at lw_m7 174 rfl) rfl
theorem q1757 : (Jvm.Cond.laysFinal "java/util/LinkedList$ListItr" "java/util/LinkedList$ListItr" "this$0" "Ljava/util/LinkedList;") ∈ lw_all := lw_g (lw_at lw_m7 175 rfl) rfl
theorem q1758 : (Jvm.Cond.soleField "java/util/LinkedList$ListItr" "this$0") ∈ lw_all := lw_g (lw_at lw_m7 176 rfl) rfl
theorem q1759 : (Jvm.Cond.superclass "java/util/LinkedList$ListItr" "java/lang/Object") ∈ lw_all := lw_g (lw_at lw_m7 177 rfl) rfl
theorem q1790 : (Jvm.Cond.castable "java/util/LinkedList$ListItr" "java/util/Iterator") ∈ lw_tbl := lw_at lw_m7 208 rfl
theorem q1791 : (Jvm.Cond.selects "java/util/LinkedList$ListItr" ({ cls := "java/util/Iterator", name := "hasNext", desc := "()Z" } : Jvm.MethodName) ({ cls := "java/util/LinkedList$ListItr", name := "hasNext", desc := "()Z" } : Jvm.MethodName)) ∈ lw_all := lw_g (lw_at lw_m7 209 rfl) rfl
theorem q1792 : (Jvm.Cond.unhidden "java/util/LinkedList$ListItr" "hasNext" "()Z") ∈ lw_tbl := lw_at lw_m7 210 rfl
theorem q1793 : (Jvm.Cond.instanceMethod ({ cls := "java/util/LinkedList$ListItr", name := "hasNext", desc := "()Z" } : Jvm.MethodName)) ∈ lw_all := lw_g (lw_at lw_m7 211 rfl) rfl
theorem q1794 : (Jvm.Cond.publicMethod ({ cls := "java/util/LinkedList$ListItr", name := "hasNext", desc := "()Z" } : Jvm.MethodName)) ∈ lw_tbl := lw_at lw_m7 212 rfl
theorem q1795 : (Jvm.Cond.code ({ cls := "java/util/LinkedList$ListItr", name := "hasNext", desc := "()Z" } : Jvm.MethodName) prog_69_method_2_code (1 : Nat) (Option.some Jvm.ClassFile.FieldType.boolean)) ∈ lw_all := lw_g (lw_at lw_m7 213 rfl) rfl
theorem q1901 : (Jvm.Cond.selects "java/util/LinkedList$ListItr" ({ cls := "java/util/Iterator", name := "next", desc := "()Ljava/lang/Object;" } : Jvm.MethodName) ({ cls := "java/util/LinkedList$ListItr", name := "next", desc := "()Ljava/lang/Object;" } : Jvm.MethodName)) ∈ lw_all := lw_g (lw_at lw_m8 79 rfl) rfl
theorem q1902 : (Jvm.Cond.unhidden "java/util/LinkedList$ListItr" "next" "()Ljava/lang/Object;") ∈ lw_tbl := lw_at lw_m8 80 rfl
theorem q1903 : (Jvm.Cond.instanceMethod ({ cls := "java/util/LinkedList$ListItr", name := "next", desc := "()Ljava/lang/Object;" } : Jvm.MethodName)) ∈ lw_all := lw_g (lw_at lw_m8 81 rfl) rfl
theorem q1904 : (Jvm.Cond.publicMethod ({ cls := "java/util/LinkedList$ListItr", name := "next", desc := "()Ljava/lang/Object;" } : Jvm.MethodName)) ∈ lw_tbl := lw_at lw_m8 82 rfl
theorem q1905 : (Jvm.Cond.code ({ cls := "java/util/LinkedList$ListItr", name := "next", desc := "()Ljava/lang/Object;" } : Jvm.MethodName) prog_69_method_3_code (1 : Nat) (Option.some (Jvm.ClassFile.FieldType.object "java/lang/Object"))) ∈ lw_all := lw_g (lw_at lw_m8 83 rfl) rfl
theorem q1906 : (Jvm.Cond.methodLink "java/util/LinkedList$ListItr" (36 : Nat) ({ cls := "java/util/LinkedList$ListItr", name := "checkForComodification", desc := "()V" } : Jvm.MethodName)) ∈ lw_all := lw_g (lw_at lw_m8 84 rfl) rfl
theorem q1907 : (Jvm.Cond.instanceMethod ({ cls := "java/util/LinkedList$ListItr", name := "checkForComodification", desc := "()V" } : Jvm.MethodName)) ∈ lw_all := lw_g (lw_at lw_m8 85 rfl) rfl
theorem q1908 : (Jvm.Cond.selects "java/util/LinkedList$ListItr" ({ cls := "java/util/LinkedList$ListItr", name := "checkForComodification", desc := "()V" } : Jvm.MethodName) ({ cls := "java/util/LinkedList$ListItr", name := "checkForComodification", desc := "()V" } : Jvm.MethodName)) ∈ lw_all := lw_g (lw_at lw_m8 86 rfl) rfl
theorem q1909 : (Jvm.Cond.code ({ cls := "java/util/LinkedList$ListItr", name := "checkForComodification", desc := "()V" } : Jvm.MethodName) prog_69_method_12_code (1 : Nat) (Option.none : Option Jvm.ClassFile.FieldType)) ∈ lw_all := lw_g (lw_at lw_m8 87 rfl) rfl
theorem q1910 : (Jvm.Cond.methodLink "java/util/LinkedList$ListItr" (39 : Nat) ({ cls := "java/util/LinkedList$ListItr", name := "hasNext", desc := "()Z" } : Jvm.MethodName)) ∈ lw_all := lw_g (lw_at lw_m8 88 rfl) rfl
theorem q1911 : (Jvm.Cond.classLink "java/util/LinkedList$ListItr" (43 : Nat) "java/util/NoSuchElementException") ∈ lw_all := lw_g (lw_at lw_m8 89 rfl) rfl
theorem q1912 : (Jvm.Cond.methodLink "java/util/LinkedList$ListItr" (45 : Nat) ({ cls := "java/util/NoSuchElementException", name := "<init>", desc := "()V" } : Jvm.MethodName)) ∈ lw_all := lw_g (lw_at lw_m8 90 rfl) rfl
theorem q3464 : (Jvm.Cond.selects "java/util/LinkedList$ListItr" ({ cls := "java/util/LinkedList$ListItr", name := "hasNext", desc := "()Z" } : Jvm.MethodName) ({ cls := "java/util/LinkedList$ListItr", name := "hasNext", desc := "()Z" } : Jvm.MethodName)) ∈ lw_all := lw_g (lw_at lw_m14 202 rfl) rfl
theorem q3514 : (Jvm.Cond.castable "java/util/LinkedList$ListItr" "java/lang/Object") ∈ lw_tbl := lw_at lw_m15 12 rfl
theorem in_J30 : ∀ w ∈ wsJ300, w ∈ lw_all := lw_in wsJ300 [1749, 1751, 1753, 1755, 1757] (by decide +kernel) (by decide +kernel)
/-! J31.java_util_ArrayDeque_DeqIterator -/
def RJ31 : String := "java/util/ArrayDeque$DeqIterator"
def TJ31 : u_T := fun k => match k with
  | 0 => ("java/util/ArrayDeque$DeqIterator", "cursor", "I", false)
  | 1 => ("java/util/ArrayDeque$DeqIterator", "remaining", "I", false)
  | 2 => ("java/util/ArrayDeque$DeqIterator", "lastRet", "I", false)
  | _ => ("java/util/ArrayDeque$DeqIterator", "this$0", "Ljava/util/ArrayDeque;", true)
def tyJ31 : Nat → FieldType := fun k => match k with
  | 0 => .int
  | 1 => .int
  | 2 => .int
  | _ => .object "java/util/ArrayDeque"
abbrev wsJ310 : List Cond := u_ws RJ31 TJ31 4
theorem nmJ31 : ∀ a, a < 4 → ∀ b, b < 4 → a ≠ b → (TJ31 a).2.1 ≠ (TJ31 b).2.1 := by decide +kernel
theorem tyJ31_ok : ∀ k, k < 4 → parseFieldDescriptor (TJ31 k).2.2.1 = some (tyJ31 k) := by decide +kernel
abbrev cJ31_hasNext : ByteArray := prog_60_method_2_code
def yJ31_hasNext : MethodName := ⟨RJ31, "hasNext", "()Z"⟩
abbrev cJ31_next : ByteArray := prog_60_method_3_code
def yJ31_next : MethodName := ⟨RJ31, "next", "()Ljava/lang/Object;"⟩
abbrev cJ31_init : ByteArray := prog_60_method_1_code
def yJ31_init : MethodName := ⟨RJ31, "<init>", "(Ljava/util/ArrayDeque;)V"⟩
theorem q195 : (Jvm.Cond.initialized "java/util/ArrayDeque$DeqIterator") ∈ lw_all := lw_g (lw_at lw_m1 53 rfl) rfl
theorem q653 : (Jvm.Cond.fieldLink "java/util/ArrayDeque$DeqIterator" (35 : Nat) "java/util/ArrayDeque" "elements" "[Ljava/lang/Object;") ∈ lw_all := lw_g (lw_at lw_m3 31 rfl) rfl
theorem q654 : (Jvm.Cond.fieldLink "java/util/ArrayDeque$DeqIterator" (26 : Nat) "java/util/ArrayDeque" "head" "I") ∈ lw_all := lw_g (lw_at lw_m3 32 rfl) rfl
theorem q803 : (Jvm.Cond.selects "java/util/ArrayDeque$DeqIterator" ({ cls := "java/lang/Object", name := "getClass", desc := "()Ljava/lang/Class;" } : Jvm.MethodName) ({ cls := "java/lang/Object", name := "getClass", desc := "()Ljava/lang/Class;" } : Jvm.MethodName)) ∈ lw_all := lw_g (lw_at lw_m3 181 rfl) rfl
theorem q1778 : (Jvm.Cond.castable "java/util/ArrayDeque$DeqIterator" "java/util/Iterator") ∈ lw_tbl := lw_at lw_m7 196 rfl
theorem q1779 : (Jvm.Cond.selects "java/util/ArrayDeque$DeqIterator" ({ cls := "java/util/Iterator", name := "hasNext", desc := "()Z" } : Jvm.MethodName) ({ cls := "java/util/ArrayDeque$DeqIterator", name := "hasNext", desc := "()Z" } : Jvm.MethodName)) ∈ lw_all := lw_g (lw_at lw_m7 197 rfl) rfl
theorem q1780 : (Jvm.Cond.unhidden "java/util/ArrayDeque$DeqIterator" "hasNext" "()Z") ∈ lw_tbl := lw_at lw_m7 198 rfl
theorem q1781 : (Jvm.Cond.instanceMethod ({ cls := "java/util/ArrayDeque$DeqIterator", name := "hasNext", desc := "()Z" } : Jvm.MethodName)) ∈ lw_all := lw_g (lw_at lw_m7 199 rfl) rfl
theorem q1782 : (Jvm.Cond.publicMethod ({ cls := "java/util/ArrayDeque$DeqIterator", name := "hasNext", desc := "()Z" } : Jvm.MethodName)) ∈ lw_tbl := lw_at lw_m7 200 rfl
theorem q1783 : (Jvm.Cond.code ({ cls := "java/util/ArrayDeque$DeqIterator", name := "hasNext", desc := "()Z" } : Jvm.MethodName) prog_60_method_2_code (1 : Nat) (Option.some Jvm.ClassFile.FieldType.boolean)) ∈ lw_all := lw_g (lw_at lw_m7 201 rfl) rfl
theorem q1878 : (Jvm.Cond.selects "java/util/ArrayDeque$DeqIterator" ({ cls := "java/util/Iterator", name := "next", desc := "()Ljava/lang/Object;" } : Jvm.MethodName) ({ cls := "java/util/ArrayDeque$DeqIterator", name := "next", desc := "()Ljava/lang/Object;" } : Jvm.MethodName)) ∈ lw_all := lw_g (lw_at lw_m8 56 rfl) rfl
theorem q1879 : (Jvm.Cond.unhidden "java/util/ArrayDeque$DeqIterator" "next" "()Ljava/lang/Object;") ∈ lw_tbl := lw_at lw_m8 57 rfl
theorem q1880 : (Jvm.Cond.instanceMethod ({ cls := "java/util/ArrayDeque$DeqIterator", name := "next", desc := "()Ljava/lang/Object;" } : Jvm.MethodName)) ∈ lw_all := lw_g (lw_at lw_m8 58 rfl) rfl
theorem q1881 : (Jvm.Cond.publicMethod ({ cls := "java/util/ArrayDeque$DeqIterator", name := "next", desc := "()Ljava/lang/Object;" } : Jvm.MethodName)) ∈ lw_tbl := lw_at lw_m8 59 rfl
theorem q1882 : (Jvm.Cond.code ({ cls := "java/util/ArrayDeque$DeqIterator", name := "next", desc := "()Ljava/lang/Object;" } : Jvm.MethodName) prog_60_method_3_code (3 : Nat) (Option.some (Jvm.ClassFile.FieldType.object "java/lang/Object"))) ∈ lw_all := lw_g (lw_at lw_m8 60 rfl) rfl
theorem q1883 : (Jvm.Cond.classLink "java/util/ArrayDeque$DeqIterator" (32 : Nat) "java/util/NoSuchElementException") ∈ lw_all := lw_g (lw_at lw_m8 61 rfl) rfl
theorem q1884 : (Jvm.Cond.methodLink "java/util/ArrayDeque$DeqIterator" (34 : Nat) ({ cls := "java/util/NoSuchElementException", name := "<init>", desc := "()V" } : Jvm.MethodName)) ∈ lw_all := lw_g (lw_at lw_m8 62 rfl) rfl
theorem q1885 : (Jvm.Cond.methodLink "java/util/ArrayDeque$DeqIterator" (39 : Nat) ({ cls := "java/util/ArrayDeque", name := "nonNullElementAt", desc := "([Ljava/lang/Object;I)Ljava/lang/Object;" } : Jvm.MethodName)) ∈ lw_all := lw_g (lw_at lw_m8 63 rfl) rfl
theorem q1888 : (Jvm.Cond.methodLink "java/util/ArrayDeque$DeqIterator" (43 : Nat) ({ cls := "java/util/ArrayDeque", name := "inc", desc := "(II)I" } : Jvm.MethodName)) ∈ lw_all := lw_g (lw_at lw_m8 66 rfl) rfl
theorem q1920 : (Jvm.Cond.instantiable "java/util/ArrayDeque$DeqIterator" (4 : Nat)) ∈ lw_all := lw_g (lw_at lw_m8 98 rfl) rfl
theorem q1922 : (Jvm.Cond.instanceMethod ({ cls := "java/util/ArrayDeque$DeqIterator", name := "<init>", desc := "(Ljava/util/ArrayDeque;)V" } : Jvm.MethodName)) ∈ lw_all := lw_g (lw_at lw_m8 100 rfl) rfl
theorem q1923 : (Jvm.Cond.code ({ cls := "java/util/ArrayDeque$DeqIterator", name := "<init>", desc := "(Ljava/util/ArrayDeque;)V" } : Jvm.MethodName) prog_60_method_1_code (2 : Nat) (Option.none : Option Jvm.ClassFile.FieldType)) ∈ lw_all := lw_g (lw_at lw_m8 101 rfl) rfl
theorem q1924 : (Jvm.Cond.methodLink "java/util/ArrayDeque$DeqIterator" (7 : Nat) ({ cls := "java/lang/Object", name := "<init>", desc := "()V" } : Jvm.MethodName)) ∈ lw_all := lw_g (lw_at lw_m8 102 rfl) rfl
theorem q1925 : (Jvm.Cond.methodLink "java/util/ArrayDeque$DeqIterator" (13 : Nat) ({ cls := "java/util/ArrayDeque", name := "size", desc := "()I" } : Jvm.MethodName)) ∈ lw_all := lw_g (lw_at lw_m8 103 rfl) rfl
theorem q1926 : (Jvm.Cond.fieldLink "java/util/ArrayDeque$DeqIterator" (29 : Nat) "java/util/ArrayDeque$DeqIterator" "cursor" "I") ∈ lw_all := lw_g (lw_at lw_m8 104 rfl) rfl
theorem q1927 : (Jvm.Cond.fieldLink "java/util/ArrayDeque$DeqIterator" (19 : Nat) "java/util/ArrayDeque$DeqIterator" "remaining" "I") ∈ lw_all := lw_g (lw_at lw_m8 105 rfl) rfl
theorem q1928 : (Jvm.Cond.fieldLink "java/util/ArrayDeque$DeqIterator" (23 : Nat) "java/util/ArrayDeque$DeqIterator" "lastRet" "I") ∈ lw_all := lw_g (lw_at lw_m8 106 rfl) rfl
theorem q1929 : (Jvm.Cond.fieldLink "java/util/ArrayDeque$DeqIterator" (1 : Nat) "java/util/ArrayDeque$DeqIterator" "this$0" "Ljava/util/ArrayDeque;") ∈ lw_all := lw_g (lw_at lw_m8 107 rfl) rfl
theorem q1930 : (Jvm.Cond.lays "java/util/ArrayDeque$DeqIterator" "java/util/ArrayDeque$DeqIterator" "cursor" "I") ∈ lw_all := lw_g (lw_at lw_m8 108 rfl) rfl
theorem q1931 : (Jvm.Cond.soleField "java/util/ArrayDeque$DeqIterator" "cursor") ∈ lw_all := lw_g (lw_at lw_m8 109 rfl) rfl
theorem q1932 : (Jvm.Cond.lays "java/util/ArrayDeque$DeqIterator" "java/util/ArrayDeque$DeqIterator" "remaining" "I") ∈ lw_all := lw_g (lw_at lw_m8 110 rfl) rfl
theorem q1933 : (Jvm.Cond.soleField "java/util/ArrayDeque$DeqIterator" "remaining") ∈ lw_all := lw_g (lw_at lw_m8 111 rfl) rfl
theorem q1934 : (Jvm.Cond.lays "java/util/ArrayDeque$DeqIterator" "java/util/ArrayDeque$DeqIterator" "lastRet" "I") ∈ lw_all := lw_g (lw_at lw_m8 112 rfl) rfl
theorem q1935 : (Jvm.Cond.soleField "java/util/ArrayDeque$DeqIterator" "lastRet") ∈ lw_all := lw_g (lw_at lw_m8 113 rfl) rfl
theorem q1936 : (Jvm.Cond.laysFinal "java/util/ArrayDeque$DeqIterator" "java/util/ArrayDeque$DeqIterator" "this$0" "Ljava/util/ArrayDeque;") ∈ lw_all := lw_g (lw_at lw_m8 114 rfl) rfl
theorem q1937 : (Jvm.Cond.soleField "java/util/ArrayDeque$DeqIterator" "this$0") ∈ lw_all := lw_g (lw_at lw_m8 115 rfl) rfl
theorem q1938 : (Jvm.Cond.superclass "java/util/ArrayDeque$DeqIterator" "java/lang/Object") ∈ lw_all := lw_g (lw_at lw_m8 116 rfl) rfl
theorem q3515 : (Jvm.Cond.castable "java/util/ArrayDeque$DeqIterator" "java/lang/Object") ∈ lw_tbl := lw_at lw_m15 13 rfl
theorem in_J31 : ∀ w ∈ wsJ310, w ∈ lw_all := lw_in wsJ310 [1930, 1932, 1934, 1936] (by decide +kernel) (by decide +kernel)
/-! J32.java_lang_StringIndexOutOfBoundsException -/
def RJ32 : String := "java/lang/StringIndexOutOfBoundsException"
def TJ32 : u_T := fun k => match k with
  | 0 => ("java/lang/Throwable", "backtrace", "Ljava/lang/Object;", false)
  | 1 => ("java/lang/Throwable", "detailMessage", "Ljava/lang/String;", false)
  | 2 => ("java/lang/Throwable", "cause", "Ljava/lang/Throwable;", false)
  | 3 => ("java/lang/Throwable", "stackTrace", "[Ljava/lang/StackTraceElement;", false)
  | 4 => ("java/lang/Throwable", "depth", "I", false)
  | _ => ("java/lang/Throwable", "suppressedExceptions", "Ljava/util/List;", false)
def tyJ32 : Nat → FieldType := fun k => match k with
  | 0 => .object "java/lang/Object"
  | 1 => .object "java/lang/String"
  | 2 => .object "java/lang/Throwable"
  | 3 => .array (.object "java/lang/StackTraceElement")
  | 4 => .int
  | _ => .object "java/util/List"
abbrev wsJ320 : List Cond := u_ws RJ32 TJ32 6
theorem nmJ32 : ∀ a, a < 6 → ∀ b, b < 6 → a ≠ b → (TJ32 a).2.1 ≠ (TJ32 b).2.1 := by decide +kernel
theorem tyJ32_ok : ∀ k, k < 6 → parseFieldDescriptor (TJ32 k).2.2.1 = some (tyJ32 k) := by decide +kernel
abbrev cJ32_init : ByteArray := prog_46_method_3_code
def yJ32_init : MethodName := ⟨RJ32, "<init>", "(I)V"⟩
theorem q199 : (Jvm.Cond.initialized "java/lang/StringIndexOutOfBoundsException") ∈ lw_all := lw_g (lw_at lw_m1 57 rfl) rfl
theorem q269 : (Jvm.Cond.selects "java/lang/StringIndexOutOfBoundsException" ({ cls := "java/lang/Throwable", name := "fillInStackTrace", desc := "()Ljava/lang/Throwable;" } : Jvm.MethodName) ({ cls := "java/lang/Throwable", name := "fillInStackTrace", desc := "()Ljava/lang/Throwable;" } : Jvm.MethodName)) ∈ lw_all := lw_g (lw_at lw_m1 127 rfl) rfl
theorem q799 : (Jvm.Cond.selects "java/lang/StringIndexOutOfBoundsException" ({ cls := "java/lang/Object", name := "getClass", desc := "()Ljava/lang/Class;" } : Jvm.MethodName) ({ cls := "java/lang/Object", name := "getClass", desc := "()Ljava/lang/Class;" } : Jvm.MethodName)) ∈ lw_all := lw_g (lw_at lw_m3 177 rfl) rfl
theorem q1244 : (Jvm.Cond.selects "java/lang/StringIndexOutOfBoundsException" ({ cls := "java/lang/Object", name := "equals", desc := "(Ljava/lang/Object;)Z" } : Jvm.MethodName) ({ cls := "java/lang/Object", name := "equals", desc := "(Ljava/lang/Object;)Z" } : Jvm.MethodName)) ∈ lw_all := lw_g (lw_at lw_m5 142 rfl) rfl
theorem q1847 : (Jvm.Cond.selects "java/lang/StringIndexOutOfBoundsException" ({ cls := "java/lang/Throwable", name := "toString", desc := "()Ljava/lang/String;" } : Jvm.MethodName) ({ cls := "java/lang/Throwable", name := "toString", desc := "()Ljava/lang/String;" } : Jvm.MethodName)) ∈ lw_all := lw_g (lw_at lw_m8 25 rfl) rfl
theorem q1859 : (Jvm.Cond.selects "java/lang/StringIndexOutOfBoundsException" ({ cls := "java/lang/Throwable", name := "getLocalizedMessage", desc := "()Ljava/lang/String;" } : Jvm.MethodName) ({ cls := "java/lang/Throwable", name := "getLocalizedMessage", desc := "()Ljava/lang/String;" } : Jvm.MethodName)) ∈ lw_all := lw_g (lw_at lw_m8 37 rfl) rfl
theorem q1870 : (Jvm.Cond.selects "java/lang/StringIndexOutOfBoundsException" ({ cls := "java/lang/Throwable", name := "getMessage", desc := "()Ljava/lang/String;" } : Jvm.MethodName) ({ cls := "java/lang/Throwable", name := "getMessage", desc := "()Ljava/lang/String;" } : Jvm.MethodName)) ∈ lw_all := lw_g (lw_at lw_m8 48 rfl) rfl
theorem q2674 : (Jvm.Cond.instantiable "java/lang/StringIndexOutOfBoundsException" (6 : Nat)) ∈ lw_all := lw_g (lw_at lw_m11 132 rfl) rfl
theorem q2676 : (Jvm.Cond.instanceMethod ({ cls := "java/lang/StringIndexOutOfBoundsException", name := "<init>", desc := "(I)V" } : Jvm.MethodName)) ∈ lw_all := lw_g (lw_at lw_m11 134 rfl) rfl
theorem q2677 : (Jvm.Cond.code ({ cls := "java/lang/StringIndexOutOfBoundsException", name := "<init>", desc := "(I)V" } : Jvm.MethodName) prog_46_method_3_code (2 : Nat) (Option.none : Option Jvm.ClassFile.FieldType)) ∈ lw_all := lw_g (lw_at lw_m11 135 rfl) rfl
theorem q2678 : (Jvm.Cond.classLink "java/lang/StringIndexOutOfBoundsException" (10 : Nat) "java/lang/StringBuilder") ∈ lw_all := lw_g (lw_at lw_m11 136 rfl) rfl
theorem q2679 : (Jvm.Cond.methodLink "java/lang/StringIndexOutOfBoundsException" (12 : Nat) ({ cls := "java/lang/StringBuilder", name := "<init>", desc := "()V" } : Jvm.MethodName)) ∈ lw_all := lw_g (lw_at lw_m11 137 rfl) rfl
theorem q2680 : (Jvm.Cond.stringRef "java/lang/StringIndexOutOfBoundsException" (13 : Nat) "String index out of range: ") ∈ lw_tbl := lw_at lw_m11 138 rfl
theorem q2681 : (Jvm.Cond.methodLink "java/lang/StringIndexOutOfBoundsException" (15 : Nat) ({ cls := "java/lang/StringBuilder", name := "append", desc := "(Ljava/lang/String;)Ljava/lang/StringBuilder;" } : Jvm.MethodName)) ∈ lw_all := lw_g (lw_at lw_m11 139 rfl) rfl
theorem q2682 : (Jvm.Cond.methodLink "java/lang/StringIndexOutOfBoundsException" (19 : Nat) ({ cls := "java/lang/StringBuilder", name := "append", desc := "(I)Ljava/lang/StringBuilder;" } : Jvm.MethodName)) ∈ lw_all := lw_g (lw_at lw_m11 140 rfl) rfl
theorem q2683 : (Jvm.Cond.methodLink "java/lang/StringIndexOutOfBoundsException" (22 : Nat) ({ cls := "java/lang/StringBuilder", name := "toString", desc := "()Ljava/lang/String;" } : Jvm.MethodName)) ∈ lw_all := lw_g (lw_at lw_m11 141 rfl) rfl
theorem q2684 : (Jvm.Cond.methodLink "java/lang/StringIndexOutOfBoundsException" (7 : Nat) ({ cls := "java/lang/IndexOutOfBoundsException", name := "<init>", desc := "(Ljava/lang/String;)V" } : Jvm.MethodName)) ∈ lw_all := lw_g (lw_at lw_m11 142 rfl) rfl
theorem q2685 : (Jvm.Cond.lays "java/lang/StringIndexOutOfBoundsException" "java/lang/Throwable" "backtrace" "Ljava/lang/Object;") ∈ lw_all := lw_g (lw_at lw_m11 143 rfl) rfl
theorem q2686 : (Jvm.Cond.lays "java/lang/StringIndexOutOfBoundsException" "java/lang/Throwable" "detailMessage" "Ljava/lang/String;") ∈ lw_all := lw_g (lw_at lw_m11 144 rfl) rfl
theorem q2687 : (Jvm.Cond.lays "java/lang/StringIndexOutOfBoundsException" "java/lang/Throwable" "cause" "Ljava/lang/Throwable;") ∈ lw_all := lw_g (lw_at lw_m11 145 rfl) rfl
theorem q2688 : (Jvm.Cond.lays "java/lang/StringIndexOutOfBoundsException" "java/lang/Throwable" "stackTrace" "[Ljava/lang/StackTraceElement;") ∈ lw_all := lw_g (lw_at lw_m11 146 rfl) rfl
theorem q2689 : (Jvm.Cond.lays "java/lang/StringIndexOutOfBoundsException" "java/lang/Throwable" "depth" "I") ∈ lw_all := lw_g (lw_at lw_m11 147 rfl) rfl
theorem q2690 : (Jvm.Cond.lays "java/lang/StringIndexOutOfBoundsException" "java/lang/Throwable" "suppressedExceptions" "Ljava/util/List;") ∈ lw_all := lw_g (lw_at lw_m11 148 rfl) rfl
theorem q2691 : (Jvm.Cond.superclass "java/lang/StringIndexOutOfBoundsException" "java/lang/IndexOutOfBoundsException") ∈ lw_all := lw_g (lw_at lw_m11 149 rfl) rfl
theorem q3472 : (Jvm.Cond.castable "java/lang/StringIndexOutOfBoundsException" "java/lang/IndexOutOfBoundsException") ∈ lw_tbl := lw_at lw_m14 210 rfl
theorem q3517 : (Jvm.Cond.castable "java/lang/StringIndexOutOfBoundsException" "java/lang/Object") ∈ lw_tbl := lw_at lw_m15 15 rfl
theorem in_J32 : ∀ w ∈ wsJ320, w ∈ lw_all := lw_in wsJ320 [2685, 2686, 2687, 2688, 2689, 2690] (by decide +kernel) (by decide +kernel)
/-! J33.java_lang_Object -/
def RJ33 : String := "java/lang/Object"
abbrev cJ33_init : ByteArray := object_method_1_code
def yJ33_init : MethodName := ⟨RJ33, "<init>", "()V"⟩
abbrev cJ33_equals : ByteArray := object_method_4_code
def yJ33_equals : MethodName := ⟨RJ33, "equals", "(Ljava/lang/Object;)Z"⟩
theorem q206 : (Jvm.Cond.instanceMethod ({ cls := "java/lang/Object", name := "<init>", desc := "()V" } : Jvm.MethodName)) ∈ lw_all := lw_g (lw_at lw_m1 64 rfl) rfl
theorem q207 : (Jvm.Cond.code ({ cls := "java/lang/Object", name := "<init>", desc := "()V" } : Jvm.MethodName) object_method_1_code (1 : Nat) (Option.none : Option Jvm.ClassFile.FieldType)) ∈ lw_all := lw_g (lw_at lw_m1 65 rfl) rfl
theorem q347 : (Jvm.Cond.native ({ cls := "java/lang/Object", name := "clone", desc := "()Ljava/lang/Object;" } : Jvm.MethodName)) ∈ lw_all := lw_g (lw_at lw_m1 205 rfl) rfl
theorem q348 : (Jvm.Cond.instanceMethod ({ cls := "java/lang/Object", name := "clone", desc := "()Ljava/lang/Object;" } : Jvm.MethodName)) ∈ lw_all := lw_g (lw_at lw_m1 206 rfl) rfl
theorem q768 : (Jvm.Cond.instanceMethod ({ cls := "java/lang/Object", name := "getClass", desc := "()Ljava/lang/Class;" } : Jvm.MethodName)) ∈ lw_all := lw_g (lw_at lw_m3 146 rfl) rfl
theorem q769 : (Jvm.Cond.sameMethod "java/lang/Object" "java/lang/Object" "getClass" "()Ljava/lang/Class;") ∈ lw_all := lw_g (lw_at lw_m3 147 rfl) rfl
theorem q810 : (Jvm.Cond.native ({ cls := "java/lang/Object", name := "getClass", desc := "()Ljava/lang/Class;" } : Jvm.MethodName)) ∈ lw_all := lw_g (lw_at lw_m3 188 rfl) rfl
theorem q1209 : (Jvm.Cond.declares ({ cls := "java/lang/Object", name := "equals", desc := "(Ljava/lang/Object;)Z" } : Jvm.MethodName)) ∈ lw_tbl := lw_at lw_m5 107 rfl
theorem q1211 : (Jvm.Cond.instanceMethod ({ cls := "java/lang/Object", name := "equals", desc := "(Ljava/lang/Object;)Z" } : Jvm.MethodName)) ∈ lw_all := lw_g (lw_at lw_m5 109 rfl) rfl
theorem q1212 : (Jvm.Cond.sameMethod "java/lang/Object" "java/lang/Object" "equals" "(Ljava/lang/Object;)Z") ∈ lw_all := lw_g (lw_at lw_m5 110 rfl) rfl
theorem q1246 : (Jvm.Cond.code ({ cls := "java/lang/Object", name := "equals", desc := "(Ljava/lang/Object;)Z" } : Jvm.MethodName) object_method_4_code (2 : Nat) (Option.some Jvm.ClassFile.FieldType.boolean)) ∈ lw_all := lw_g (lw_at lw_m5 144 rfl) rfl
theorem q3470 : (Jvm.Cond.initialized "java/lang/Object") ∈ lw_all := lw_g (lw_at lw_m14 208 rfl) rfl
theorem q3527 : (Jvm.Cond.declares ({ cls := "java/lang/Object", name := "getClass", desc := "()Ljava/lang/Class;" } : Jvm.MethodName)) ∈ lw_tbl := lw_at lw_m15 25 rfl
/-! J34.java_lang_System_2 -/
def RJ34 : String := "java/lang/System$2"
abbrev cJ34_getUTF16Char : ByteArray := prog_50_method_45_code
def yJ34_getUTF16Char : MethodName := ⟨RJ34, "getUTF16Char", "([BI)C"⟩
theorem q800 : (Jvm.Cond.selects "java/lang/System$2" ({ cls := "java/lang/Object", name := "getClass", desc := "()Ljava/lang/Class;" } : Jvm.MethodName) ({ cls := "java/lang/Object", name := "getClass", desc := "()Ljava/lang/Class;" } : Jvm.MethodName)) ∈ lw_all := lw_g (lw_at lw_m3 178 rfl) rfl
theorem q1098 : (Jvm.Cond.castable "java/lang/System$2" "jdk/internal/access/JavaLangAccess") ∈ lw_tbl := lw_at lw_m4 236 rfl
theorem q1099 : (Jvm.Cond.selects "java/lang/System$2" ({ cls := "jdk/internal/access/JavaLangAccess", name := "getUTF16Char", desc := "([BI)C" } : Jvm.MethodName) ({ cls := "java/lang/System$2", name := "getUTF16Char", desc := "([BI)C" } : Jvm.MethodName)) ∈ lw_all := lw_g (lw_at lw_m4 237 rfl) rfl
theorem q1100 : (Jvm.Cond.unhidden "java/lang/System$2" "getUTF16Char" "([BI)C") ∈ lw_tbl := lw_at lw_m4 238 rfl
theorem q1101 : (Jvm.Cond.instanceMethod ({ cls := "java/lang/System$2", name := "getUTF16Char", desc := "([BI)C" } : Jvm.MethodName)) ∈ lw_all := lw_g (lw_at lw_m4 239 rfl) rfl
theorem q1102 : (Jvm.Cond.publicMethod ({ cls := "java/lang/System$2", name := "getUTF16Char", desc := "([BI)C" } : Jvm.MethodName)) ∈ lw_tbl := lw_at lw_m5 0 rfl
theorem q1103 : (Jvm.Cond.code ({ cls := "java/lang/System$2", name := "getUTF16Char", desc := "([BI)C" } : Jvm.MethodName) prog_50_method_45_code (3 : Nat) (Option.some Jvm.ClassFile.FieldType.char)) ∈ lw_all := lw_g (lw_at lw_m5 1 rfl) rfl
theorem q1104 : (Jvm.Cond.methodLink "java/lang/System$2" (185 : Nat) ({ cls := "java/lang/StringUTF16", name := "getChar", desc := "([BI)C" } : Jvm.MethodName)) ∈ lw_all := lw_g (lw_at lw_m5 2 rfl) rfl
theorem q1245 : (Jvm.Cond.selects "java/lang/System$2" ({ cls := "java/lang/Object", name := "equals", desc := "(Ljava/lang/Object;)Z" } : Jvm.MethodName) ({ cls := "java/lang/Object", name := "equals", desc := "(Ljava/lang/Object;)Z" } : Jvm.MethodName)) ∈ lw_all := lw_g (lw_at lw_m5 143 rfl) rfl
theorem q3499 : (Jvm.Cond.castable "java/lang/System$2" "java/lang/Object") ∈ lw_tbl := lw_at lw_m14 237 rfl
/-! L.law -/
abbrev cL_law : ByteArray := code
theorem q174 : (Jvm.Cond.initialized "ArcRecorder$Token") ∈ lw_all := lw_g (lw_at lw_m1 32 rfl) rfl
theorem q790 : (Jvm.Cond.selects "ArcRecorder$Token" ({ cls := "java/lang/Object", name := "getClass", desc := "()Ljava/lang/Class;" } : Jvm.MethodName) ({ cls := "java/lang/Object", name := "getClass", desc := "()Ljava/lang/Class;" } : Jvm.MethodName)) ∈ lw_all := lw_g (lw_at lw_m3 168 rfl) rfl
theorem q930 : (Jvm.Cond.laysStatic "ArcRecorder$Token" "END" "LArcRecorder$Token;") ∈ lw_tbl := lw_at lw_m4 68 rfl
theorem q932 : (Jvm.Cond.laysStatic "ArcRecorder$Token" "WORD" "LArcRecorder$Token;") ∈ lw_tbl := lw_at lw_m4 70 rfl
theorem q959 : (Jvm.Cond.laysStatic "ArcRecorder$Token" "NUMBER" "LArcRecorder$Token;") ∈ lw_tbl := lw_at lw_m4 97 rfl
theorem q963 : (Jvm.Cond.laysStatic "ArcRecorder$Token" "SYMBOL" "LArcRecorder$Token;") ∈ lw_tbl := lw_at lw_m4 101 rfl
theorem q1235 : (Jvm.Cond.selects "ArcRecorder$Token" ({ cls := "java/lang/Object", name := "equals", desc := "(Ljava/lang/Object;)Z" } : Jvm.MethodName) ({ cls := "java/lang/Enum", name := "equals", desc := "(Ljava/lang/Object;)Z" } : Jvm.MethodName)) ∈ lw_all := lw_g (lw_at lw_m5 133 rfl) rfl
theorem q3497 : (Jvm.Cond.castable "ArcRecorder$Token" "java/lang/Object") ∈ lw_tbl := lw_at lw_m14 235 rfl
theorem q346 : (Jvm.Cond.sameMethod "[B" "java/lang/Object" "clone" "()Ljava/lang/Object;") ∈ lw_all := lw_g (lw_at lw_m1 204 rfl) rfl
theorem q349 : (Jvm.Cond.selects "[B" ({ cls := "[B", name := "clone", desc := "()Ljava/lang/Object;" } : Jvm.MethodName) ({ cls := "java/lang/Object", name := "clone", desc := "()Ljava/lang/Object;" } : Jvm.MethodName)) ∈ lw_all := lw_g (lw_at lw_m1 207 rfl) rfl
theorem q350 : (Jvm.Cond.castable "[B" "java/lang/Cloneable") ∈ lw_tbl := lw_at lw_m1 208 rfl
theorem q3530 : (Jvm.Cond.castable "[B" "java/lang/Object") ∈ lw_tbl := lw_at lw_m15 28 rfl
theorem q3535 : (Jvm.Cond.castable "[D" "java/lang/Object") ∈ lw_tbl := lw_at lw_m15 33 rfl
theorem q1635 : (Jvm.Cond.sameMethod "[F" "java/lang/Object" "clone" "()Ljava/lang/Object;") ∈ lw_all := lw_g (lw_at lw_m7 53 rfl) rfl
theorem q1636 : (Jvm.Cond.selects "[F" ({ cls := "[F", name := "clone", desc := "()Ljava/lang/Object;" } : Jvm.MethodName) ({ cls := "java/lang/Object", name := "clone", desc := "()Ljava/lang/Object;" } : Jvm.MethodName)) ∈ lw_all := lw_g (lw_at lw_m7 54 rfl) rfl
theorem q1637 : (Jvm.Cond.castable "[F" "java/lang/Cloneable") ∈ lw_tbl := lw_at lw_m7 55 rfl
theorem q3529 : (Jvm.Cond.castable "[F" "java/lang/Object") ∈ lw_tbl := lw_at lw_m15 27 rfl
theorem q3531 : (Jvm.Cond.castable "[I" "java/lang/Object") ∈ lw_tbl := lw_at lw_m15 29 rfl
theorem q3534 : (Jvm.Cond.castable "[J" "java/lang/Object") ∈ lw_tbl := lw_at lw_m15 32 rfl
theorem q670 : (Jvm.Cond.sameMethod "[LArcRecorder$Feature;" "java/lang/Object" "clone" "()Ljava/lang/Object;") ∈ lw_all := lw_g (lw_at lw_m3 48 rfl) rfl
theorem q671 : (Jvm.Cond.selects "[LArcRecorder$Feature;" ({ cls := "[LArcRecorder$Feature;", name := "clone", desc := "()Ljava/lang/Object;" } : Jvm.MethodName) ({ cls := "java/lang/Object", name := "clone", desc := "()Ljava/lang/Object;" } : Jvm.MethodName)) ∈ lw_all := lw_g (lw_at lw_m3 49 rfl) rfl
theorem q672 : (Jvm.Cond.castable "[LArcRecorder$Feature;" "java/lang/Cloneable") ∈ lw_tbl := lw_at lw_m3 50 rfl
theorem q3532 : (Jvm.Cond.castable "[LArcRecorder$Feature;" "java/lang/Object") ∈ lw_tbl := lw_at lw_m15 30 rfl
theorem q3525 : (Jvm.Cond.sameMethod "[Ljava/lang/Object;" "java/lang/Object" "getClass" "()Ljava/lang/Class;") ∈ lw_all := lw_g (lw_at lw_m15 23 rfl) rfl
theorem q3526 : (Jvm.Cond.selects "[Ljava/lang/Object;" ({ cls := "java/lang/Object", name := "getClass", desc := "()Ljava/lang/Class;" } : Jvm.MethodName) ({ cls := "java/lang/Object", name := "getClass", desc := "()Ljava/lang/Class;" } : Jvm.MethodName)) ∈ lw_all := lw_g (lw_at lw_m15 24 rfl) rfl
theorem q3528 : (Jvm.Cond.castable "[Ljava/lang/Object;" "java/lang/Object") ∈ lw_tbl := lw_at lw_m15 26 rfl
theorem q3533 : (Jvm.Cond.castable "[Z" "java/lang/Object") ∈ lw_tbl := lw_at lw_m15 31 rfl
theorem q163 : (Jvm.Cond.initialized "java/lang/Number") ∈ lw_all := lw_g (lw_at lw_m1 21 rfl) rfl
theorem q160 : (Jvm.Cond.initialized "java/lang/System") ∈ lw_all := lw_g (lw_at lw_m1 18 rfl) rfl
theorem q356 : (Jvm.Cond.static ({ cls := "java/lang/System", name := "arraycopy", desc := "(Ljava/lang/Object;ILjava/lang/Object;II)V" } : Jvm.MethodName)) ∈ lw_all := lw_g (lw_at lw_m1 214 rfl) rfl
theorem q357 : (Jvm.Cond.native ({ cls := "java/lang/System", name := "arraycopy", desc := "(Ljava/lang/Object;ILjava/lang/Object;II)V" } : Jvm.MethodName)) ∈ lw_all := lw_g (lw_at lw_m1 215 rfl) rfl
theorem q191 : (Jvm.Cond.initialized "java/util/AbstractList$ListItr") ∈ lw_all := lw_g (lw_at lw_m1 49 rfl) rfl
theorem q801 : (Jvm.Cond.selects "java/util/AbstractList$ListItr" ({ cls := "java/lang/Object", name := "getClass", desc := "()Ljava/lang/Class;" } : Jvm.MethodName) ({ cls := "java/lang/Object", name := "getClass", desc := "()Ljava/lang/Class;" } : Jvm.MethodName)) ∈ lw_all := lw_g (lw_at lw_m3 179 rfl) rfl
theorem q1765 : (Jvm.Cond.castable "java/util/AbstractList$ListItr" "java/util/Iterator") ∈ lw_tbl := lw_at lw_m7 183 rfl
theorem q1766 : (Jvm.Cond.selects "java/util/AbstractList$ListItr" ({ cls := "java/util/Iterator", name := "hasNext", desc := "()Z" } : Jvm.MethodName) ({ cls := "java/util/AbstractList$Itr", name := "hasNext", desc := "()Z" } : Jvm.MethodName)) ∈ lw_all := lw_g (lw_at lw_m7 184 rfl) rfl
theorem q1767 : (Jvm.Cond.unhidden "java/util/AbstractList$ListItr" "hasNext" "()Z") ∈ lw_tbl := lw_at lw_m7 185 rfl
theorem q1800 : (Jvm.Cond.selects "java/util/AbstractList$ListItr" ({ cls := "java/util/Iterator", name := "next", desc := "()Ljava/lang/Object;" } : Jvm.MethodName) ({ cls := "java/util/AbstractList$Itr", name := "next", desc := "()Ljava/lang/Object;" } : Jvm.MethodName)) ∈ lw_all := lw_g (lw_at lw_m7 218 rfl) rfl
theorem q1801 : (Jvm.Cond.unhidden "java/util/AbstractList$ListItr" "next" "()Ljava/lang/Object;") ∈ lw_tbl := lw_at lw_m7 219 rfl
theorem q1808 : (Jvm.Cond.selects "java/util/AbstractList$ListItr" ({ cls := "java/util/AbstractList$Itr", name := "checkForComodification", desc := "()V" } : Jvm.MethodName) ({ cls := "java/util/AbstractList$Itr", name := "checkForComodification", desc := "()V" } : Jvm.MethodName)) ∈ lw_all := lw_g (lw_at lw_m7 226 rfl) rfl
theorem q3512 : (Jvm.Cond.castable "java/util/AbstractList$ListItr" "java/lang/Object") ∈ lw_tbl := lw_at lw_m15 10 rfl
theorem q3538 : (Jvm.Cond.fieldLink "java/util/AbstractList$ListItr" (1 : Nat) "java/util/AbstractList$ListItr" "this$0" "Ljava/util/AbstractList;") ∈ lw_all := lw_g (lw_at lw_m15 36 rfl) rfl
theorem q3543 : (Jvm.Cond.fieldLink "java/util/AbstractList$ListItr" (13 : Nat) "java/util/AbstractList$ListItr" "cursor" "I") ∈ lw_all := lw_g (lw_at lw_m15 41 rfl) rfl
theorem q3544 : (Jvm.Cond.sameField "java/util/AbstractList$ListItr" "java/util/AbstractList$Itr" "cursor" "I") ∈ lw_all := lw_g (lw_at lw_m15 42 rfl) rfl
theorem q1763 : (Jvm.Cond.interfaceMethod "java/util/Iterator" "java/util/Iterator" "hasNext" "()Z") ∈ lw_tbl := lw_at lw_m7 181 rfl
theorem q1764 : (Jvm.Cond.declares ({ cls := "java/util/Iterator", name := "hasNext", desc := "()Z" } : Jvm.MethodName)) ∈ lw_tbl := lw_at lw_m7 182 rfl
theorem q1798 : (Jvm.Cond.interfaceMethod "java/util/Iterator" "java/util/Iterator" "next" "()Ljava/lang/Object;") ∈ lw_tbl := lw_at lw_m7 216 rfl
theorem q1799 : (Jvm.Cond.declares ({ cls := "java/util/Iterator", name := "next", desc := "()Ljava/lang/Object;" } : Jvm.MethodName)) ∈ lw_tbl := lw_at lw_m7 217 rfl
theorem q1096 : (Jvm.Cond.interfaceMethod "jdk/internal/access/JavaLangAccess" "jdk/internal/access/JavaLangAccess" "getUTF16Char" "([BI)C") ∈ lw_tbl := lw_at lw_m4 234 rfl
theorem q1097 : (Jvm.Cond.declares ({ cls := "jdk/internal/access/JavaLangAccess", name := "getUTF16Char", desc := "([BI)C" } : Jvm.MethodName)) ∈ lw_tbl := lw_at lw_m4 235 rfl
theorem q229 : (Jvm.Cond.arrayOver (Jvm.ClassFile.FieldType.object "java/lang/Object")) ∈ lw_tbl := lw_at lw_m1 87 rfl
theorem q309 : (Jvm.Cond.arrayClass Jvm.ClassFile.FieldType.float) ∈ lw_all := lw_g (lw_at lw_m1 167 rfl) rfl
theorem q310 : (Jvm.Cond.arrayClass Jvm.ClassFile.FieldType.byte) ∈ lw_all := lw_g (lw_at lw_m1 168 rfl) rfl
theorem q617 : (Jvm.Cond.arrayClass Jvm.ClassFile.FieldType.int) ∈ lw_all := lw_g (lw_at lw_m2 235 rfl) rfl
theorem q673 : (Jvm.Cond.arrayOver (Jvm.ClassFile.FieldType.object "ArcRecorder$Feature")) ∈ lw_tbl := lw_at lw_m3 51 rfl
theorem q744 : (Jvm.Cond.arrayClass Jvm.ClassFile.FieldType.boolean) ∈ lw_all := lw_g (lw_at lw_m3 122 rfl) rfl
theorem q3452 : (Jvm.Cond.arrayClass Jvm.ClassFile.FieldType.long) ∈ lw_all := lw_g (lw_at lw_m14 190 rfl) rfl
theorem q3453 : (Jvm.Cond.arrayClass Jvm.ClassFile.FieldType.double) ∈ lw_all := lw_g (lw_at lw_m14 191 rfl) rfl
theorem q3536 : (Jvm.Cond.arrayClass Jvm.ClassFile.FieldType.char) ∈ lw_all := lw_g (lw_at lw_m15 34 rfl) rfl
theorem q3537 : (Jvm.Cond.arrayClass Jvm.ClassFile.FieldType.short) ∈ lw_all := lw_g (lw_at lw_m15 35 rfl) rfl

/-! KX: the classes of objects, one list -/
def kx_cl : List vw_C := [(RX1, TX1, 7), (RX2, TX2, 14), (RX3, TX3, 8), (RX5, TX5, 12), (RX6, TX6, 26), (RX7, TX7, 10), (RX8, TX8, 8), (RX10, TX10, 3), (RX11, TX11, 4), (RX12, TX12, 4), (RX13, TX13, 5), (RX14, TX14, 3), (RX15, TX15, 3), (RX16, TX16, 2), (RX17, TX17, 3), (RX20, TX20, 6), (RJ2, TJ2, 3), (RJ3, TJ3, 5), (RJ6, TJ6, 6), (RJ8, TJ8, 4), (RJ9, TJ9, 4), (RJ18, TJ18, 4), (RJ19, TJ19, 3), (RJ21, TJ21, 6), (RJ23, TJ23, 3), (RJ24, TJ24, 6), (RJ25, TJ25, 6), (RJ26, TJ26, 6), (RJ30, TJ30, 5), (RJ31, TJ31, 4), (RJ32, TJ32, 6)]
def kx_ci (ci : Nat) (C : String) (T : u_T) (N : Nat) (ty : Nat → FieldType) : Prop := kx_cl[ci]? = some (C, T, N) ∧ (∀ w ∈ u_ws C T N, w ∈ lw_all) ∧ (∀ k, k < N → parseFieldDescriptor (T k).2.2.1 = some (ty k)) ∧ ∀ a, a < N → ∀ b, b < N → a ≠ b → (T a).2.1 ≠ (T b).2.1
theorem kc_X1 : kx_ci 0 RX1 TX1 7 tyX1 := ⟨rfl, in_X1, tyX1_ok, nmX1⟩
theorem kc_X2 : kx_ci 1 RX2 TX2 14 tyX2 := ⟨rfl, in_X2, tyX2_ok, nmX2⟩
theorem kc_X3 : kx_ci 2 RX3 TX3 8 tyX3 := ⟨rfl, in_X3, tyX3_ok, nmX3⟩
theorem kc_X5 : kx_ci 3 RX5 TX5 12 tyX5 := ⟨rfl, in_X5, tyX5_ok, nmX5⟩
theorem kc_X6 : kx_ci 4 RX6 TX6 26 tyX6 := ⟨rfl, in_X6, tyX6_ok, nmX6⟩
theorem kc_X7 : kx_ci 5 RX7 TX7 10 tyX7 := ⟨rfl, in_X7, tyX7_ok, nmX7⟩
theorem kc_X8 : kx_ci 6 RX8 TX8 8 tyX8 := ⟨rfl, in_X8, tyX8_ok, nmX8⟩
theorem kc_X10 : kx_ci 7 RX10 TX10 3 tyX10 := ⟨rfl, in_X10, tyX10_ok, nmX10⟩
theorem kc_X11 : kx_ci 8 RX11 TX11 4 tyX11 := ⟨rfl, in_X11, tyX11_ok, nmX11⟩
theorem kc_X12 : kx_ci 9 RX12 TX12 4 tyX12 := ⟨rfl, in_X12, tyX12_ok, nmX12⟩
theorem kc_X13 : kx_ci 10 RX13 TX13 5 tyX13 := ⟨rfl, in_X13, tyX13_ok, nmX13⟩
theorem kc_X14 : kx_ci 11 RX14 TX14 3 tyX14 := ⟨rfl, in_X14, tyX14_ok, nmX14⟩
theorem kc_X15 : kx_ci 12 RX15 TX15 3 tyX15 := ⟨rfl, in_X15, tyX15_ok, nmX15⟩
theorem kc_X16 : kx_ci 13 RX16 TX16 2 tyX16 := ⟨rfl, in_X16, tyX16_ok, nmX16⟩
theorem kc_X17 : kx_ci 14 RX17 TX17 3 tyX17 := ⟨rfl, in_X17, tyX17_ok, nmX17⟩
theorem kc_X20 : kx_ci 15 RX20 TX20 6 tyX20 := ⟨rfl, in_X20, tyX20_ok, nmX20⟩
theorem kc_J2 : kx_ci 16 RJ2 TJ2 3 tyJ2 := ⟨rfl, in_J2, tyJ2_ok, nmJ2⟩
theorem kc_J3 : kx_ci 17 RJ3 TJ3 5 tyJ3 := ⟨rfl, in_J3, tyJ3_ok, nmJ3⟩
theorem kc_J6 : kx_ci 18 RJ6 TJ6 6 tyJ6 := ⟨rfl, in_J6, tyJ6_ok, nmJ6⟩
theorem kc_J8 : kx_ci 19 RJ8 TJ8 4 tyJ8 := ⟨rfl, in_J8, tyJ8_ok, nmJ8⟩
theorem kc_J9 : kx_ci 20 RJ9 TJ9 4 tyJ9 := ⟨rfl, in_J9, tyJ9_ok, nmJ9⟩
theorem kc_J18 : kx_ci 21 RJ18 TJ18 4 tyJ18 := ⟨rfl, in_J18, tyJ18_ok, nmJ18⟩
theorem kc_J19 : kx_ci 22 RJ19 TJ19 3 tyJ19 := ⟨rfl, in_J19, tyJ19_ok, nmJ19⟩
theorem kc_J21 : kx_ci 23 RJ21 TJ21 6 tyJ21 := ⟨rfl, in_J21, tyJ21_ok, nmJ21⟩
theorem kc_J23 : kx_ci 24 RJ23 TJ23 3 tyJ23 := ⟨rfl, in_J23, tyJ23_ok, nmJ23⟩
theorem kc_J24 : kx_ci 25 RJ24 TJ24 6 tyJ24 := ⟨rfl, in_J24, tyJ24_ok, nmJ24⟩
theorem kc_J25 : kx_ci 26 RJ25 TJ25 6 tyJ25 := ⟨rfl, in_J25, tyJ25_ok, nmJ25⟩
theorem kc_J26 : kx_ci 27 RJ26 TJ26 6 tyJ26 := ⟨rfl, in_J26, tyJ26_ok, nmJ26⟩
theorem kc_J30 : kx_ci 28 RJ30 TJ30 5 tyJ30 := ⟨rfl, in_J30, tyJ30_ok, nmJ30⟩
theorem kc_J31 : kx_ci 29 RJ31 TJ31 4 tyJ31 := ⟨rfl, in_J31, tyJ31_ok, nmJ31⟩
theorem kc_J32 : kx_ci 30 RJ32 TJ32 6 tyJ32 := ⟨rfl, in_J32, tyJ32_ok, nmJ32⟩
