set_option maxRecDepth 100000
/-! methods of a class that no premise calls initialised: the words of 'MetFree' without 'classRipe' -/
def kc_app (x : MethodName) (S : Spec) (pl : Platform) (s : State) (m : MethodId) (args : Array Value) (below : List Frame) : Prop :=
  s.status = .running ∧ s.curStatus? = some .runnable ∧ s.alone = true ∧ s.methodNamed? x = some m ∧ s.hears m below = true ∧ s.hasRoom pl S.room = true ∧ S.pre.before args s = true
def kc_Met (l : Launch) (x : MethodName) (ws : List Cond) (rm : Room) (Pc : Array Value → State → Prop) (Qc : Array Value → State → Outcome → State → Prop) (XC : String → Addr → State → State → Prop) (mc ms : Nat) (free : Addr → Prop) : Prop :=
  ∀ (p : Program) e, l.admits e → FairCas e.choices → FairClock e.choices → ∀ s m args below,
    s.frames = .invoking m args :: below → kc_app x (headSpec ws rm) e.platform s m args below → Pc args s →
    ∃ n o, (∀ k, k < n → Within (stepsAlone p.tables e k s) below) ∧ (stepsAlone p.tables e n s).status = .running ∧ Ended (stepsAlone p.tables e n s) below o ∧ vx_Q Qc XC mc ms free args s o (stepsAlone p.tables e n s)
theorem kc_call {l : Launch} {x : MethodName} {ws : List Cond} {rm : Room} {Pc : Array Value → State → Prop} {Qc : Array Value → State → Outcome → State → Prop} {XC : String → Addr → State → State → Prop} {mc ms : Nat} {free : Addr → Prop} {e : Env}
    (hM : kc_Met l x ws rm Pc Qc XC mc ms free) (p : Program) (ha : l.admits e) (hc : FairCas e.choices) (hk : FairClock e.choices)
    {U : State} {g : JFrame} {c : Code} {m : MethodId} {args : Array Value} {acts : List Action} {mid below : List Frame} (h : At U g.method c below)
    (hfr : (U.setTop g).frames = mid ++ below) (happ : kc_app x (headSpec ws rm) e.platform (U.calling g m args) m args (U.setTop g).frames) (hP : Pc args (U.calling g m args)) :
    ∃ o s₂, Steps p.tables e below (doInvoke e (U.setTop g) acts m args).1 s₂ ∧ s₂.status = .running ∧ Ended s₂ (U.setTop g).frames o ∧ vx_Q Qc XC mc ms free args (U.calling g m args) o s₂ := by
  have hf0 := State.frames_setTop' g h.top
  obtain ⟨t, ht, -⟩ := State.frames_cons hf0
  have hlt : (U.setTop g).cur < (U.setTop g).threads.size := (Array.getElem?_eq_some_iff.mp ht).1
  have hf' : (U.calling g m args).frames = .invoking m args :: (U.setTop g).frames := State.frames_setFrames _ hlt
  obtain ⟨hrun, hable, halone, -⟩ := id happ
  have hgo : (U.calling g m args).goesOn := ⟨hrun, hable, halone⟩
  obtain ⟨n, o, hw, hr, he, hp⟩ := hM p e ha hc hk (U.calling g m args) m args (U.setTop g).frames hf' happ hP
  have hstep : (stepThread p.tables e (U.calling g m args)).1 = (doInvoke e (U.setTop g) acts m args).1 := by
    rw [stepThread_invoking hf', doInvoke_state e (U.setTop g) acts]
    show (doInvoke e ((U.calling g m args).setFrames (U.setTop g).frames) _ m args).1 = _
    rw [State.calling, State.pushFrame, State.setFrames_setFrames, State.setFrames_self ht]
  cases n with
  | zero => exact absurd ⟨[.invoking m args], hf', by simp, by simp⟩ he.not_within
  | succ k =>
    rw [stepsAlone_succ _ hgo, hstep] at hr he hp
    refine ⟨o, _, ⟨k, rfl, fun j hj => ?_⟩, hr, he, hp⟩
    have := hw (j + 1) (by omega)
    rw [stepsAlone_succ _ hgo, hstep, hfr] at this
    exact this.weaken
section Payer
variable {l : Launch} {R : Room} {p : Program} {e : Env} {below : List Frame} {s : State} {sargs : Array Value} {y : MethodName} {len W9 : Nat}
theorem kc_back {ws : List Cond} {rm : Room} {Pc : Array Value → State → Prop} {Qc : Array Value → State → Outcome → State → Prop} {XC : String → Addr → State → State → Prop} {mc ms : Nat} {free : Addr → Prop} {bytes : ByteArray} {maxL : Nat} {ret : Option FieldType}
    (hM : kc_Met l y ws rm Pc Qc XC mc ms free) (hblind : FrameBlind Pc) (hrc : rm.cells = mc) (hrs : rm.slots = ms)
    (hframes : rm.frames + 1 ≤ R.frames) (hlocals : W9 + (maxL + 11) + rm.locals ≤ R.locals)
    (hws : ∀ w ∈ ws, ∀ a' U, s.WarmedH U.vm → w.before a' U = true) (hcode : Cond.code y bytes maxL ret ∈ ws) :
    vx_Back l R p e below s sargs y len W9 (PreOf R mc ms Pc) (PostOf Qc mc ms free) (vx_Post XC mc ms free) := by
  intro m meth c A g ig mk a X hg hsize hdg hW hn hp
  have h1 : (headSpec ws rm).pre.before a A.U = true := atoms_intro fun w hw => hws w hw _ _ X.warmed
  have h2 : (Cond.code y bytes maxL ret).before a A.U = true := hws _ hcode _ _ X.warmed
  have h4 : A.cells + (headSpec ws rm).room.cells ≤ R.cells := by rw [show (headSpec ws rm).room.cells = mc from hrc]; exact hp.1
  have h5 : A.slots + (headSpec ws rm).room.slots ≤ R.slots := by rw [show (headSpec ws rm).room.slots = ms from hrs]; exact hp.2.1
  have hPc : Pc a (A.U.calling g mk a) := hblind _ _ _ _ hp.2.2
  obtain ⟨U, Ls, c0, s0⟩ := A
  dsimp only [Pt.U, Pt.locs, Pt.cells, Pt.slots] at h1 h2 h4 h5 X hn hPc ⊢
  obtain ⟨methY, cY, hmY, hcY, -, hlY, -, -, -, -⟩ := Cond.code_spec hn h2
  obtain ⟨kY, hkY, -⟩ := className_of_methodNamed hn
  have h : At U g.method c below := by rw [hg]; exact X.here
  have hlocals9 : W9 + (maxL + 11) + (headSpec ws rm).room.locals ≤ R.locals := hlocals
  have hcodeG : (U.calling g mk a).code? g.method = some c := by
    have := h.code
    rw [State.code?_eq] at this ⊢
    simpa [State.calling, State.pushFrame, State.setFrames] using this
  have happ : kc_app y (headSpec ws rm) e.platform (U.calling g mk a) mk a ((U.setTop g).frames) := by
    refine ⟨h.running, by simpa [State.calling] using h.runnable, by simpa [State.calling] using h.alone, hn, ?_, X.room_calling (g := g) (R' := (headSpec ws rm).room) hsize hmY hcY hframes (by rw [hlY]; omega) h4 h5, ?_⟩
    · rw [State.frames_setTop' g h.top]
      simp [State.hears, hcodeG, hdg, Except.toOption]
    · rw [State.calling_eq h.top, Cond.before_setFrames]; exact h1
  obtain ⟨mid, hmid⟩ := h.above
  have hfr : (U.setTop g).frames = (.java g :: mid) ++ below := by rw [State.frames_setTop' g h.top, hmid]; rfl
  obtain ⟨o, s₂, hsteps, -, hend, hq⟩ := kc_call hM p X.admits X.cas X.clock (acts := []) h hfr happ hPc
  have hq' : vx_Q Qc XC mc ms free a (U.calling g mk a) o s₂ := hq
  rw [State.frames_setTop' g h.top] at hend
  obtain ⟨g₀, hg0⟩ := Option.isSome_iff_exists.mp h.top
  obtain ⟨r, hr⟩ := State.topJava?_eq_some.mp hg0
  have hr' : (({ U with heap := s₂.heap, slotsUsed := s₂.slotsUsed } : State).setVm s₂.vm).frames = .java g₀ :: r := hr
  rcases hq' with ⟨hqc, L, hfe, hL⟩ | ⟨q, rfl, E, ce, L, hx, hce, hcv, hcl, hW₂, hsm, hL⟩
  · obtain ⟨⟨v, rfl⟩, hW₂, e2, q2, q3, q4, q5, q6⟩ := id hfe
    have e3 : s₂ = ({ (U.calling g mk a).setFrames s₂.frames with heap := s₂.heap, slotsUsed := s₂.slotsUsed } : State).setVm s₂.vm := by
      have : s₂ = ({ s₂ with vm := (U.calling g mk a).vm } : State).setVm s₂.vm := rfl
      rw [e2] at this
      exact this
    obtain ⟨c₂, i₂, len₂, hc₂, hd₂, hf₂⟩ := hend
    have hW' : U.WarmedH s₂.vm := hW₂
    have hcc : c₂ = c := by
      have h1 : s₂.code? g.method = U.code? g.method := by
        rw [State.code?_eq, State.code?_eq, hW'.alike.method?]
      exact Option.some.inj (hc₂.symm.trans (h1.trans h.code))
    subst hcc
    have hlen : len₂ = len := by rw [hdg] at hd₂; cases hd₂; rfl
    subst hlen
    have hs₂ : s₂ = (({ U with heap := s₂.heap, slotsUsed := s₂.slotsUsed } : State).setVm s₂.vm).setTop { g with pc := g.pc + len₂, stack := v.toList ++ g.stack } := by
      refine e3.trans ?_
      rw [hf₂, State.calling_eq h.top, State.setFrames_setFrames, State.setTop_of_frames _ hr', hr]
      rfl
    have hsame : U.sameButNew ({ U with heap := s₂.heap, slotsUsed := s₂.slotsUsed } : State) L mc ms := by
      refine ⟨?_, q2, q3, q4, q5, q6⟩
      obtain ⟨t, ht, -⟩ := State.frames_cons hr
      show ({ U with heap := s₂.heap, slotsUsed := s₂.slotsUsed } : State) = { U.setFrames U.frames with heap := s₂.heap, slotsUsed := s₂.slotsUsed }
      rw [State.setFrames_self ht]
    subst hg
    refine Or.inl ⟨v, ⟨(({ U with heap := s₂.heap, slotsUsed := s₂.slotsUsed } : State).setVm s₂.vm), Ls ++ L, c0 + mc, s0 + ms⟩,
      ⟨X.admits, X.cas, X.clock, X.frames, X.room, X.hears, X.method, X.code, (X.here.setHeapUsed s₂.heap s₂.slotsUsed).setVm hW'.alike, X.tail, State.WarmedH.trans X.warmed hW', X.limits, X.bytes, X.same.trans (hsame.setVm s.vm)⟩,
      ⟨g, mk, s₂, L, rfl, rfl, hqc, rfl, hL, rfl, rfl⟩, ?_⟩
    show Steps p.tables e below _ ((({ U with heap := s₂.heap, slotsUsed := s₂.slotsUsed } : State).setVm s₂.vm).setTop { g with pc := g.pc + len₂, stack := v.toList ++ g.stack })
    rw [← hs₂]
    exact hsteps
  · obtain ⟨e2, q2, q3, q4, q5, q6⟩ := id hsm
    have e3 : s₂ = ({ (U.calling g mk a).setFrames s₂.frames with heap := s₂.heap, slotsUsed := s₂.slotsUsed } : State).setVm s₂.vm := by
      have : s₂ = ({ s₂ with vm := (U.calling g mk a).vm } : State).setVm s₂.vm := rfl
      rw [e2] at this
      exact this
    have hf₂ : s₂.frames = .throwing q :: .java g :: U.frames.tail := hend
    have hW' : U.WarmedH s₂.vm := hW₂
    have hs₂ : s₂ = ((({ U with heap := s₂.heap, slotsUsed := s₂.slotsUsed } : State).setVm s₂.vm).setTop g).pushFrame (.throwing q) := by
      refine e3.trans ?_
      rw [hf₂, State.calling_eq h.top, State.setFrames_setFrames, State.pushFrame, State.frames_setTop _ hr', State.setTop_of_frames _ hr', State.setFrames_setFrames, hr]
      rfl
    have hsame : U.sameButNew ({ U with heap := s₂.heap, slotsUsed := s₂.slotsUsed } : State) L mc ms := by
      refine ⟨?_, q2, q3, q4, q5, q6⟩
      obtain ⟨t, ht, -⟩ := State.frames_cons hr
      show ({ U with heap := s₂.heap, slotsUsed := s₂.slotsUsed } : State) = { U.setFrames U.frames with heap := s₂.heap, slotsUsed := s₂.slotsUsed }
      rw [State.setFrames_self ht]
    subst hg
    refine Or.inr ⟨q, ⟨(({ U with heap := s₂.heap, slotsUsed := s₂.slotsUsed } : State).setVm s₂.vm), Ls ++ L, c0 + mc, s0 + ms⟩,
      ⟨X.admits, X.cas, X.clock, X.frames, X.room, X.hears, X.method, X.code, (X.here.setHeapUsed s₂.heap s₂.slotsUsed).setVm hW'.alike, X.tail, State.WarmedH.trans X.warmed hW', X.limits, X.bytes, X.same.trans (hsame.setVm s.vm)⟩,
      ⟨g, mk, s₂, L, E, ce, rfl, rfl, hx, hce, hcv, hcl, rfl, hL, rfl, rfl⟩, ?_⟩
    show Steps p.tables e below _ (((({ U with heap := s₂.heap, slotsUsed := s₂.slotsUsed } : State).setVm s₂.vm).setTop g).pushFrame (.throwing q))
    rw [← hs₂]
    exact hsteps
end Payer
abbrev kc_CU (R : Room) (s : State) (args : Array Value) (own C owner : String) (index : Nat) (x y : MethodName) (bytes : ByteArray) (maxL : Nat) (ret : Option FieldType) (ws : List Cond) (rm : Room) (mc ms n : Nat) : Prop :=
  (rm.cells = mc ∧ rm.slots = ms ∧ rm.frames + 1 ≤ R.frames ∧ 8 + (maxL + 11) + rm.locals ≤ R.locals ∧ (∀ w ∈ ws, ∀ (a' : Array Value) (U : State), s.WarmedH U.vm → w.before a' U = true) ∧ Cond.code y bytes maxL ret ∈ ws) ∧
  ((Cond.code y bytes maxL ret).before args s = true) ∧
  (owner ≠ "java/lang/invoke/MethodHandle" ∧ owner ≠ "java/lang/invoke/VarHandle") ∧
  (∀ sig, parseMethodDescriptor x.desc = some sig → n = sig.parameters.length) ∧
  ((Cond.methodLink own index x).before args s = true) ∧
  ((Cond.sameMethod x.cls owner x.name x.desc).before args s = true) ∧
  (va_Decl s ⟨owner, x.name, x.desc⟩) ∧
  ((Cond.selects C x y).before args s = true) ∧
  ((Cond.instanceMethod y).before args s = true)
section KCU
variable {p : Program} {l : Launch} {e : Env} {R : Room} {s : State} {m : MethodId} {args : Array Value} {below : List Frame} {meth : Method} {c : Code} {H : Heap} {locs : List Loc} {cells slots : Nat}
theorem kc_runU {x y : MethodName} {bytes cc : ByteArray} {maxL nL mc ms n index : Nat} {ret : Option FieldType} {ws : List Cond} {rm : Room} {Pc : Array Value → State → Prop} {Qc : Array Value → State → Outcome → State → Prop} {XC : String → Addr → State → State → Prop} {free : Addr → Prop} {Ts : List Cond} {own C owner : String} {b : Addr} {As rest : List Value} {g : JFrame}
    (S : CallFix p m c cc nL s args Ts own) (hM : kc_Met l y ws rm Pc Qc XC mc ms free) (cw : kc_CU R s args own C owner index x y bytes maxL ret ws rm mc ms n) (hp : PreV s H C b Pc As)
    (hg : g.method = m) (hn : As.length = n) (hsize : g.locals.size = nL) (hstack : g.stack = As.reverse ++ .ref b :: rest) (hW : 2 * g.monitorRoom + (rest.map fun v => v.category).sum ≤ 8) (hdg : decode cc g.pc = .ok (.invokevirtual index, 3)) (hf : cells + mc ≤ R.cells ∧ slots + ms ≤ R.slots) :
    vx_Run p l e R s m args below meth c H locs cells slots mc ms g rest (Qc (Value.ref b :: As).toArray) XC free := by
  obtain ⟨hrc, hrs, hfr, hlo, hws, hcw⟩ := cw.1
  have hK : vx_Back l R p e below s args y 3 8 (PreOf R mc ms Pc) (PostOf Qc mc ms free) (vx_Post XC mc ms free) := kc_back (bytes := bytes) (maxL := maxL) (ret := ret) hM hp.1 hrc hrs hfr hlo hws hcw
  obtain ⟨hx, hb, hml, ho, -⟩ := S
  obtain ⟨-, ⟨cellB, hcB, hoB, hclB⟩, hPc⟩ := hp
  intro T hT X
  rcases vx_callVU X hx (C := C) (owner := owner) (bytes := bytes) (maxL := maxL) (ret := ret) ho cw.2.2.2.2.1 cw.2.2.2.2.2.1 cw.2.2.2.2.2.2.1 cw.2.2.1 cw.2.2.2.2.2.2.2.1 cw.2.2.2.2.2.2.2.2 cw.2.1 hK (by rw [hT]; exact hcB) hoB hclB hg (hsize.trans hml.symm) (argsL := As) (rest := rest) (fun sig h => hn.trans (cw.2.2.2.1 sig h)) hstack hW (by rw [hb]; exact hdg)
    (fun vm₁ hW₁ => ⟨hf.1, hf.2, hPc (T.setVm vm₁) hT hW₁⟩) with ⟨v, vm₁, ⟨U', l2, c2, s2⟩, hW₁, X', ⟨g', mk, t, L, e1, e2, hq, h1, hL, h2, h3⟩, st⟩ | ⟨q, vm₁, ⟨U', l2, c2, s2⟩, hW₁, X', ⟨g', mk, t, L, E, ce, e1, e2, hq, hce, hcv, hcl, h1, hL, h2, h3⟩, st⟩
  · dsimp only [Pt.U, Pt.locs, Pt.cells, Pt.slots] at X' e1 e2 h1 h2 h3 st
    subst h1; subst h2; subst h3
    exact Or.inl ⟨v, (T.setVm vm₁).calling g' mk (Value.ref b :: As).toArray, t, U', L, hT, X', hL, e1, e2, hq, st⟩
  · dsimp only [Pt.U, Pt.locs, Pt.cells, Pt.slots] at X' e1 e2 h1 h2 h3 st hcl
    subst h1; subst h2; subst h3
    exact Or.inr ⟨q, (T.setVm vm₁).calling g' mk (Value.ref b :: As).toArray, t, U', L, E, ce, hT, X', hL, e1, e2, hq, hce, hcv, vx_cls hW₁ hcl, st⟩
end KCU
theorem kc_ofW {l : Launch} {y : MethodName} {ws ws' : List Cond} {rm : Room} {Pc : Array Value → State → Prop} {Qc : Array Value → State → Outcome → State → Prop} {XC : String → Addr → State → State → Prop} {mc ms : Nat} {free : Addr → Prop} {cc : ByteArray} {maxL : Nat} {ret : Option FieldType}
    (hy : plainName y.cls = true) (hw : ws = Cond.code y cc maxL ret :: ws')
    (body : ∀ (p : Program) (e : Env) (s : State) (m : MethodId) (args : Array Value) (below : List Frame) (meth : Method) (c : Code), p.tables.exec = Jvm.exec → c.code = cc → meth.sig.returnType = ret → meth.locks = false → s.methodNamed? y = some m → s.vm.method? m = some meth → c.maxLocals = maxL → (∀ x ∈ c.exceptionTable.toList, False) → Pc args s →
      W p l e (headSpec ws rm).room s m args below meth c s.heap [] 0 0 (vx_MQ below Qc XC args s mc ms free) (entryFrame m args maxL)) : kc_Met l y ws rm Pc Qc XC mc ms free := by
  intro p e ha hc hk s m args below hf happ hP
  obtain ⟨hrun, hable, halone, hname, hhears, hroom, hpre⟩ := happ
  obtain ⟨meth, c, hmeth, hcode, hbytes, hlocals, hret, hlocks, htab, -⟩ := Cond.code_spec hname (atoms_spec (ws := ws) hpre _ (by rw [hw]; exact List.mem_cons_self))
  have hcur := State.cur_lt_of_frames hf
  have hf1 : (s.setFrames (.java (entryFrame m args maxL) :: below)).frames = .java (entryFrame m args maxL) :: below :=
    State.frames_setFrames _ hcur
  have ht1 := State.topJava?_of_frames hf1
  have hplain : (s.setFrames (.java (entryFrame m args maxL) :: below)).plainMethod m := State.plainMethod.of_named (s := s) (plainFor_of_name hy) hname hmeth
  have hAt : At (s.setFrames (.java (entryFrame m args maxL) :: below)) m c below :=
    ⟨by rw [ht1]; rfl, ⟨[], by rw [hf1]; rfl⟩, hrun, by simpa using hable, by simpa using halone,
      by rw [State.code?_eq]; simp [State.setFrames, hmeth, hcode], hplain⟩
  have hstep : (stepThread p.tables e s).1 = (s.setFrames (.java (entryFrame m args maxL) :: below)).setTop (entryFrame m args maxL) := by
    have hfull : e.platform.stackFull (s.setFrames below).me (s.setFrames below).frames c.maxLocals = false := by
      obtain ⟨-, h1, -, h2⟩ := State.hasRoom_stack hroom
      rw [hf, List.length_cons] at h1
      rw [State.localsInUse_invoking hf hmeth hcode] at h2
      have hw := stackUse_le_stackWeight below
      rw [State.frames_setFrames _ hcur]
      exact Platform.stackFull_eq_false (by rw [State.stackLimits_setFrames]; omega) (by rw [State.stackLimits_setFrames]; omega)
    rw [stepThread_invoking hf, (doInvoke_java (s := s.setFrames below) (e := e) (meth := meth) (code := c) hmeth hcode hlocks hfull).1, State.setTop_self ht1]
    simp only [State.pushFrame, State.frames_setFrames _ hcur, State.setFrames_setFrames, hlocals, entryFrame]
  have X : Stand p l e (headSpec ws rm).room s m args below meth c (s.setFrames (.java (entryFrame m args maxL) :: below)) [] 0 0 := by
    obtain ⟨t, ht, -⟩ := State.frames_cons hf
    refine ⟨ha, hc, hk, hf, hroom, hhears, hmeth, hcode, hAt, by rw [hf1]; rfl, State.WarmedH.refl s, by rw [State.stackLimits_setFrames], by rw [State.stackBytes_setFrames], ?_⟩
    exact (State.sameButNew.refl s ht).setFrames (.java (entryFrame m args maxL) :: below) hcur
  have hx : ∀ x ∈ c.exceptionTable.toList, False := by
    intro x hx
    rw [Array.isEmpty_iff.mp htab] at hx
    cases hx
  obtain ⟨t, a1, o, b1, b2, b3⟩ := body p e s m args below meth c (by cases p <;> rfl) hbytes hret hlocks hname hmeth hlocals hx hP (s.setFrames (.java (entryFrame m args maxL) :: below)) rfl X
  obtain ⟨n, hn, hw'⟩ := Steps.head (tb := p.tables) (e := e) ⟨hrun, hable, halone⟩ ⟨[.invoking m args], hf, by simp, by simp⟩ (hstep ▸ a1)
  exact ⟨n, o, hw', hn ▸ b1, hn ▸ b2, hn ▸ b3⟩
/-- a contract, likewise -/
def kx_cc (G : KG) (y : MethodName) (ws : List Cond) (d mc ms : Nat) (As : List Value) (σ : KHp) (Q : KQ) (X : KX) : Prop :=
  kc_Met G.1 y ws ({ frames := d, cells := mc, slots := ms, locals := 64 * d } : Room) (va_Pc As (fun U => kx_u G U ∧ kx_h G σ U.heap)) (kx_Qc G Q) (kx_XC G X) mc ms (fun q => kx_z G ≤ q)
section KCC
variable {G : KG} {F : KF} {B : KB} {bc bs pc : Nat} {σ : KHp} {ls : Nat → Option Value} {rest st : List Value}
theorem kx_mkC {y : MethodName} {cc : ByteArray} {nL : Nat} {ret : Option FieldType} {d mc ms : Nat} {As : List Value} {Q : KQ} {X : KX} (hy : plainName y.cls = true) (hn : (lg_sl As).length ≤ nL)
    (body : kx G (y.cls, cc, nL, ret, decide (y.name = "<init>"), []) (d, mc, ms, Q, X) mc ms σ 0 (kx_a As) []) : kx_cc G y (ws_ y cc nL ret) d mc ms As σ Q X := by
  refine kc_ofW (cc := cc) (maxL := nL) (ret := ret) hy rfl ?_
  intro p e s m args below meth c hex hby hre hlk hnm hmt hml htab hv
  obtain ⟨rfl, hu, hH⟩ := hv
  rw [lg_entry_eq]
  have hl := lv_entry As (n := nL) hn
  refine body p e _ s m As.toArray below meth c s.heap [] 0 0 _ ⟨Nat.le_refl _, Nat.le_refl _, rfl, rfl⟩ ⟨hex, hby, hml, hre, hlk, findClass_of_methodNamed hnm, fun h => ?_, ?_, hu, hH.1⟩ hH (fun q h => nomatch h) ⟨hl.1, hl.2.1, fun i v hi => ?_⟩ (Nat.le_of_eq (Nat.zero_add _)) (Nat.le_of_eq (Nat.zero_add _))
  · exact (name_of_methodNamed hnm hmt).1.trans (of_decide_eq_true h)
  · cases hc : c.exceptionTable.toList with
    | nil => rfl
    | cons x l => exact (htab x (by rw [hc]; exact List.mem_cons_self)).elim
  · refine hl.2.2 (i, v) ?_
    unfold kx_a at hi
    generalize lv_args 0 As = l at hi
    induction l with
    | nil => simp at hi
    | cons q l ih =>
      obtain ⟨j, w⟩ := q
      rw [List.lookup_cons] at hi
      by_cases h : i = j
      · subst h
        simp at hi
        subst hi
        exact List.mem_cons_self
      · have h9 : (i == j) = false := by simpa using h
        rw [h9] at hi
        exact List.mem_cons_of_mem _ (ih hi)
theorem kx_mk3C {y : MethodName} {cc : ByteArray} {nL : Nat} {ret : Option FieldType} {ini : Bool} {d mc ms : Nat} {As : List Value} {Q0 : KQ} {X0 : KX} (hy : plainName y.cls = true) (hn : (lg_sl As).length ≤ nL) (hi : ini = true → y.name = "<init>")
    (body : ∀ (Q : KQ) (X : KX), (∀ v σ', Q0 v σ' → Q v σ') → (∀ E q σ', X0 E q σ' → X E q σ') → kx G (y.cls, cc, nL, ret, ini, []) (d, mc, ms, Q, X) mc ms σ 0 (kx_a As) []) : kx_cc G y (ws_ y cc nL ret) d mc ms As σ Q0 X0 := by
  refine kx_mkC hy hn fun p e R s m args below meth c H locs cells slots lsA hR hF => ?_
  obtain ⟨a1, a2, a3, a4, a5, a6, a7, a8⟩ := hF
  exact body Q0 X0 (fun _ _ h => h) (fun _ _ _ h => h) p e R s m args below meth c H locs cells slots lsA hR ⟨a1, a2, a3, a4, a5, a6, fun h => a7 (decide_eq_true (hi h)), a8⟩
/-- the words of such a call: no 'initialized' -/
def kx_lUC (own : String) (idx : Nat) (C owner : String) (x y : MethodName) (b : ByteArray) (L : Nat) (r : Option FieldType) (n : Nat) : Prop := (owner ≠ "java/lang/invoke/MethodHandle" ∧ owner ≠ "java/lang/invoke/VarHandle" ∧ (parseMethodDescriptor x.desc).map (fun d => d.parameters.length) = some n) ∧ Cond.methodLink own idx x ∈ lw_all ∧ Cond.sameMethod x.cls owner x.name x.desc ∈ lw_all ∧ Cond.selects C x y ∈ lw_all ∧ Cond.instanceMethod y ∈ lw_all ∧ Cond.code y b L r ∈ lw_all ∧ Cond.declares ⟨owner, x.name, x.desc⟩ ∈ lw_tbl
end KCC
section KCD
variable {G : KG} {F : KF} {B : KB} {bc bs pc : Nat} {σ : KHp} {ls : Nat → Option Value} {rest st : List Value}
variable {y x : MethodName} {b : ByteArray} {L n d mc ms idx a : Nat} {r : Option FieldType} {As : List Value} {Q : KQ} {X : KX} {C owner : String}
theorem kx_callUC (hdg : decode F.2.1 pc = .ok (.invokevirtual idx, 3)) (lk : kx_lUC F.1 idx C owner x y b L r n) (hC : kx_cc G y (ws_ y b L r) d mc ms (.ref a :: As) σ Q X) (hn : As.length = n) (hrc : kx_rc σ a C) (hst : st = As.reverse ++ .ref a :: rest)
    (hw : (rest.map fun v => v.category).sum ≤ 8) (hL9 : L ≤ 45) (hd : d + 1 ≤ B.1) (hmc : mc ≤ bc) (hms : ms ≤ bs)
    (k9 : ∀ E q σ', X E q σ' → kx_t G F B (bc - mc) (bs - ms) σ' pc ls E q) (kk : ∀ v σ', Q v σ' → kx G F B (bc - mc) (bs - ms) σ' (pc + 3) ls (v.toList ++ rest)) : kx G F B bc bs σ pc ls st := by
  intro p e R s m args below meth c H locs cells slots lsA hR hF hH hS hL hc hs
  have hu := hF.2.2.2.2.2.2.2.2.1
  obtain ⟨⟨g1, g2, g3⟩, h1, h2, h3, h4, h6, h7⟩ := lk
  have hr := kx_room hR hL9 hd
  have hG : GoodIn lw_all (ws_ y b L r) := lw_meth h6
  have hcw : Cond.code y b L r ∈ ws_ y b L r := List.mem_cons_self
  have cw : kc_CU R s args F.1 C owner idx x y b L r (ws_ y b L r) ({ frames := d, cells := mc, slots := ms, locals := 64 * d } : Room) mc ms n := by
    refine ⟨⟨rfl, rfl, hr.1, hr.2, pay_in (args := args) (kx_ws hu) hG, hcw⟩, kx_ws hu _ (hG _ hcw).1, ⟨g1, g2⟩, fun sig h => ?_, kx_w hu h1, kx_w hu h2, ?_, kx_w hu h3, kx_w hu h4⟩
    · rw [h] at g3; exact (Option.some.inj g3).symm
    · exact va_Decl.abs (kx_nD hu h7)
  exact kx_run (kc_runU (S := ⟨hF.1, hF.2.1, hF.2.2.1, hF.2.2.2.2.2.1, kx_ws hu⟩) hC cw ⟨kx_blind, kx_recv hu hH hrc, kx_pre hu hH⟩ rfl hn hL.1 hst (by simpa using hw) hdg (kx_fit hR hc hs hmc hms)) hR hF hS hL hc hs hmc hms k9 kk
end KCD
