/-! L1t: methods that have code and are run by an entry instead -/
theorem zo_some {tb : Tables} {e : Env} {s : State} {f : JFrame} {k : Class} {x : Method} {row : NativeRow} (hpc : f.pc = 0) (hk : s.vm.classes[f.method.cls]? = some k)
    (hin : k.name ∈ overriddenIn) (hboot : k.loader = none) (hx : k.methods[f.method.idx]? = some x) (hrow : NativeRow.find? tb.natives k.name x.name x.desc = some row) :
    overridden tb e s f = some row := by
  unfold overridden
  simp [hpc, hk, hboot, hx, hrow]
  intro h
  exact absurd hin h
/-- the values that the entry is given -/
def zo_given (as : Array Value) (maxL n : Nat) : Array Value := ((argsToLocals as maxL).toList.filterMap fun | .val v => some v | _ => none).toArray.extract 0 n
theorem zo_step (p : Program) {e : Env} {below : List Frame} {s target : State} {g : JFrame} {row : NativeRow} {as : Array Value} {r : List Frame} {g₀ : JFrame}
    (hr : s.frames = .java g₀ :: r) (habove : ∃ mid, s.frames.tail = mid ++ below) (hrunning : s.status = .running) (hrunnable : s.curStatus? = some .runnable) (haloneS : s.alone = true)
    {m : MethodId} {meth : Method} {k : Class} {cm : Code} (acts : List Action)
    (hk : s.vm.classes[m.cls]? = some k) (hx : k.methods[m.idx]? = some meth) (hboot : k.loader = none)
    (hin : k.name ∈ overriddenIn) (hrow : NativeRow.find? p.tables.natives k.name meth.name meth.desc = some row) {np : Nat} (hnp : meth.sig.parameters.length = np)
    (hgiv : ∀ j, zo_given as cm.maxLocals (np + j) = as)
    (hc : meth.code = some cm) (hl : meth.locks = false)
    (hroom : (s.calling g m as).hasRoom e.platform {} = true)
    (hrest : Steps p.tables e below (afterNative e { method := m, args := as } (.java g :: r) ((row.sem as).run e (s.setFrames (.native { method := m, args := as } :: .java g :: r)))).1 target) :
    Steps p.tables e below (doInvoke e (s.setTop g) acts m as).1 target := by
  have htopS : s.topJava?.isSome := by
    rw [Option.isSome_iff_exists]
    exact ⟨g₀, State.topJava?_eq_some.mpr ⟨r, hr⟩⟩
  obtain ⟨mid, hmid⟩ := habove
  have hcur : s.cur < s.threads.size := State.cur_lt_of_frames hr
  have hm : s.vm.method? m = some meth := by simp [Vm.method?, hk, hx]
  have htop : s.setTop g = s.setFrames (.java g :: r) := State.setTop_of_frames _ hr
  have htail : s.frames.tail = r := by rw [hr]; rfl
  have hfull : e.platform.stackFull (s.setTop g).me (s.setTop g).frames cm.maxLocals = false := by
    have hfc := State.frames_calling htopS g m as
    obtain ⟨-, r2, -, r4⟩ := State.hasRoom_stack hroom
    rw [State.localsInUse_invoking hfc (meth := meth) (c := cm) hm hc] at r4
    rw [hfc, htail] at r2
    rw [htail] at r4
    have hw := stackUse_le_stackWeight (.java g :: r)
    rw [State.calling_eq htopS, State.stackLimits_setFrames] at r2 r4
    rw [htop, State.frames_setFrames _ hcur]
    refine Platform.stackFull_eq_false (by rw [State.stackLimits_setFrames]; simp only [List.length_cons] at r2 ⊢; have : ({} : Room).frames = 0 := rfl; omega) (by rw [State.stackLimits_setFrames]; have : ({} : Room).locals = 0 := rfl; omega)
  rw [(doInvoke_java (s := s.setTop g) (e := e) (acts := acts) (args := as) (meth := meth) (code := cm) hm hc hl hfull).1]
  have hU : (s.setTop g).pushFrame (.java { method := m, pc := 0, locals := argsToLocals as cm.maxLocals, stack := [], locked := none }) = s.setFrames (.java (entryFrame m as cm.maxLocals) :: .java g :: r) := by
    rw [State.pushFrame, State.frames_setTop _ hr, htop, State.setFrames_setFrames]
    rfl
  rw [hU]
  have hf1 : (s.setFrames (.java (entryFrame m as cm.maxLocals) :: .java g :: r)).frames = .java (entryFrame m as cm.maxLocals) :: .java g :: r := State.frames_setFrames _ hcur
  have hov : overridden p.tables e (s.setFrames (.java (entryFrame m as cm.maxLocals) :: .java g :: r)) (entryFrame m as cm.maxLocals) = some row :=
    zo_some (k := k) (x := meth) rfl hk hin hboot hx hrow
  have hac : argCount (s.setFrames (.java (entryFrame m as cm.maxLocals) :: .java g :: r)) m = np + (if meth.isStatic then 0 else 1) := by
    have hb2 : ((s.setFrames (.java (entryFrame m as cm.maxLocals) :: .java g :: r)).vm.classes[m.cls]?.bind fun y => y.methods[m.idx]?) = some meth := by
      show (s.vm.classes[m.cls]?.bind fun y => y.methods[m.idx]?) = some meth
      simp [hk, hx]
    unfold argCount
    rw [hb2]
    simp only [hnp]
  have hstep2 : (stepThread p.tables e (s.setFrames (.java (entryFrame m as cm.maxLocals) :: .java g :: r))) = afterNative e { method := m, args := as } (.java g :: r) ((row.sem as).run e (s.setFrames (.native { method := m, args := as } :: .java g :: r))) := by
    unfold stepThread
    simp only [hf1, hov]
    have e1 : (entryFrame m as cm.maxLocals).method = m := rfl
    have e2 : (entryFrame m as cm.maxLocals).locals = argsToLocals as cm.maxLocals := rfl
    have e3 : (entryFrame m as cm.maxLocals).locked = none := rfl
    simp only [e1, e2, e3, hac, State.setFrames_setFrames]
    exact congrArg (fun z => afterNative e { method := m, args := z } (.java g :: r) ((row.sem z).run e (s.setFrames (.native { method := m, args := z } :: .java g :: r)))) (hgiv (if meth.isStatic then 0 else 1))
  refine Steps.head ⟨hrunning, by simpa using hrunnable, by simpa using haloneS⟩ ⟨.java (entryFrame m as cm.maxLocals) :: .java g :: mid, by rw [hf1]; rw [hr] at hmid; simp at hmid; simp [hmid], by simp, by simp⟩ ?_
  rw [hstep2]
  exact hrest
theorem zm_over {G : ZG} {y : MethodName} {row : NativeRow} {code : ByteArray} {maxL np : Nat} {ret : Option FieldType} {d : Nat} {as : List Value} {v : Value} {σ : ZS} {Q : Option Value → ZS → Prop} {X : String → Nat → ZS → Prop}
    (hrow : ∀ p : Program, NativeRow.find? p.tables.natives y.cls y.name y.desc = some row) (hin : y.cls ∈ overriddenIn) (hnp : (parseMethodDescriptor y.desc).map (fun q => q.parameters.length) = some np)
    (hgiv : ∀ j, zo_given as.toArray maxL (np + j) = as.toArray) (q1 : Cond.code y code maxL ret ∈ lw_all) (hL : maxL ≤ 25)
    (hsem : ∀ e S, ∃ acts, (row.sem as.toArray).run e S = .ok (some v) S acts) (h : Q (some v) σ) : ZM G y d 0 0 as σ Q X := by
  intro l R p e below s sargs len W9 h1 h2 h3 h4 m meth c A g ig mk a Y hg hsize hdg hW hnamed hp
  obtain ⟨hc, hs, ha, hσ, hw⟩ := hp
  subst ha
  have hcodeU : (Cond.code y code maxL ret).before as.toArray A.U = true := lw_warm (ws := [_]) h2 (fun w hw => by rw [List.mem_singleton.mp hw]; exact q1) _ List.mem_cons_self _ _ Y.warmed
  obtain ⟨methM, cM, hmethM, hcodeM, -, hlocalsM, -, hlocksM, -, hsigM⟩ := Cond.code_spec hnamed hcodeU
  obtain ⟨kP, hkP, hkname⟩ := className_of_methodNamed hnamed
  obtain ⟨hmnM, hmdM⟩ := name_of_methodNamed hnamed hmethM
  have hxP : kP.methods[mk.idx]? = some methM := by simpa [Vm.method?, hkP] using hmethM
  have hbootP : kP.loader = none := Vm.bootOf_findClass (findClass_of_methodNamed hnamed) hkP
  refine Or.inl ⟨some v, ⟨A.U, A.locs, A.cells, A.slots⟩, Y, ⟨g, mk, A.U, [], rfl, rfl, ⟨some v, σ, rfl, h, hσ, Nat.le_refl _, fun _ _ _ => rfl⟩, (List.append_nil _).symm, fun _ q => (List.not_mem_nil q).elim, rfl, rfl⟩, ?_⟩
  obtain ⟨g₀, hg0⟩ := Option.isSome_iff_exists.mp Y.here.top
  obtain ⟨r, hr⟩ := State.topJava?_eq_some.mp hg0
  have hcur : A.U.cur < A.U.threads.size := State.cur_lt_of_frames hr
  obtain ⟨acts₂, hr2⟩ := hsem e (A.U.setFrames (.native { method := mk, args := as.toArray } :: .java g :: r))
  have hcodeG : A.U.code? g.method = some c := by rw [hg]; exact Y.here.code
  have hcode : ∀ F : List Frame, (A.U.setFrames F).code? g.method = some c := by
    intro F
    have := hcodeG
    rw [State.code?_eq] at this ⊢
    simpa [State.setFrames] using this
  have hfs : handOver (A.U.setFrames (.native { method := mk, args := as.toArray } :: .java g :: r)) (some v) (.java g :: r)
      = some (.java { g with pc := g.pc + len, stack := v :: g.stack } :: r) := by
    simp [handOver, hcode, hdg, Except.toOption]
  unfold zlo at h4
  refine zo_step p hr Y.here.above Y.here.running Y.here.runnable Y.here.alone [] hkP hxP hbootP (by rw [hkname]; exact hin) (row := row) (by rw [hkname, hmnM, hmdM]; exact hrow p) (np := np) ?_ (by rw [hlocalsM]; exact hgiv) hcodeM hlocksM
    (Y.room_calling hsize hmethM hcodeM (R' := {}) (by show 0 + 1 ≤ R.frames; omega) (by rw [hlocalsM]; show _ + (maxL + 11) + 0 ≤ R.locals; omega) (by show A.cells + 0 ≤ R.cells; omega) (by show A.slots + 0 ≤ R.slots; omega)) ?_
  · rw [hsigM] at hnp
    simpa using hnp
  · rw [hr2]
    show Steps p.tables e below (doReturn e (A.U.setFrames (.native { method := mk, args := as.toArray } :: .java g :: r)) acts₂ (some v)).1 _
    rw [doReturn_native (f := { method := mk, args := as.toArray }) (below := .java g :: r) (State.frames_setFrames _ hcur) rfl hfs, State.setFrames_setFrames, ← State.setTop_of_frames _ hr]
    exact Steps.refl _
/-- what a method of a plain class does, for calls that an entry makes -/
def ZN (G : ZG) (y : MethodName) (d : Nat) (as : List Value) (σ : ZS) (Q : Option Value → ZS → Prop) (X : String → Nat → ZS → Prop) : Prop :=
  ∃ (code : ByteArray) (maxL : Nat) (ret : Option FieldType), Cond.code y code maxL ret ∈ lw_all ∧ Cond.initialized y.cls ∈ lw_all ∧ maxL ≤ 25 ∧
    ∀ (l : Launch), l.stackTraces = false → zx_Met l y (ws_ y code maxL ret) { frames := zfr d, cells := 0, slots := 0, locals := zlo d } (va_Pc as (fun U => zREL G σ U.heap ∧ zWD G U U.heap)) (zQ G Q) (zXC G X) 0 0 (zfree G)
theorem zn_of {G : ZG} {y : MethodName} {own : String} {code : ByteArray} {maxL : Nat} {ret : Option FieldType} {ini : Bool} {d : Nat} {as : List Value} {σ : ZS} {Q : Option Value → ZS → Prop} {X : String → Nat → ZS → Prop} {lo : List (Nat × Value)} (hy : plainName y.cls = true) (hown : y.cls = own) (hini : ini = true → y.name = "<init>") (q1 : Cond.code y code maxL ret ∈ lw_all) (q2 : Cond.initialized y.cls ∈ lw_all) (hL : maxL ≤ 25) (hlen : (lg_sl as).length ≤ maxL) (hlo : lv_args 0 as = lo)
    (h : AW G (own, code, maxL, ret, [], ini, d) Q X 0 0 0 lo [] σ) : ZN G y d as σ Q X := by
  refine ⟨code, maxL, ret, q1, q2, hL, fun l h1 => ?_⟩
  refine zx_ofW (cc := code) (maxL := maxL) (ret := ret) hy rfl ?_
  intro p e s m args below meth c s₁ B hml hvt hv
  obtain ⟨rfl, hσ, hW⟩ := hv
  have hts := atoms_spec (ws := ws_ y code maxL ret) B.pre
  rw [lg_entry_eq]
  have hl := lv_entry as (n := maxL) hlen
  rw [hlo] at hl
  refine h p l e _ s m _ below meth c s.heap [] 0 0 0 0 _ ⟨⟨B.exec, B.bytes, hml, ?_, fun w hw => hts w (List.mem_cons_of_mem _ hw)⟩, ⟨B.notSynchronized, B.returns, ?_, ?_, h1⟩, ⟨Nat.le_refl _, Nat.le_refl _, Nat.le_refl _, Nat.le_refl _⟩, hW, va_S.rf⟩ hσ hl (by omega) (by omega)
  · show s.vm.findClass own = some m.cls
    rw [← hown]
    exact findClass_of_methodNamed B.named
  · show c.exceptionTable.toList = tableOf []
    cases hq : c.exceptionTable.toList with
    | nil => rfl
    | cons x xs => exact (hvt x (by rw [hq]; exact List.mem_cons_self)).elim
  · intro hi
    rw [← hini hi]
    exact (name_of_methodNamed B.named B.method).1
/-- a method whose entry calls another class's method of the same arguments, and hands on what it answers -/
theorem zm_strict {G : ZG} {y y2 : MethodName} {row : NativeRow} {code : ByteArray} {maxL np : Nat} {ret : Option FieldType} {d d2 : Nat} {as : List Value} {σ : ZS} {Q : Option Value → ZS → Prop} {X : String → Nat → ZS → Prop}
    (hrow : ∀ p : Program, NativeRow.find? p.tables.natives y.cls y.name y.desc = some row) (hin : y.cls ∈ overriddenIn) (hnp : (parseMethodDescriptor y.desc).map (fun q => q.parameters.length) = some np)
    (huw : upcallWords y.cls y.name = 0)
    (hgiv : ∀ j, zo_given as.toArray maxL (np + j) = as.toArray) (q1 : Cond.code y code maxL ret ∈ lw_all) (hL : maxL ≤ 25) (hdd : d2 + 18 ≤ d)
    (hcall : ∀ (e : Env) (S : State) (m2 : MethodId) (k : Class), S.methodNamed? y2 = some m2 → S.vm.classes[m2.cls]? = some k → k.init = .initialized → ∃ acts, (row.sem as.toArray).run e S = .ctl (.call m2 as.toArray 1 #[]) S acts)
    (hres : ∀ (e : Env) (S : State) (r : UInt64), vf_n64 r → ∃ acts, (row.resume 1 #[] (.returned (some (.double r)))).run e S = .ok (some (.double r)) S acts)
    (h : ZN G y2 d2 as σ (fun v σ' => ∃ r, v = some (.double r) ∧ vf_n64 r ∧ Q v σ') (fun _ _ _ => False)) : ZM G y d 0 0 as σ Q X := by
  intro l R p e below s sargs len W9 h1 h2 h3 h4 m meth c A g ig mk a Y hg hsize hdg hW hnamed hp
  obtain ⟨hc, hs, ha, hσ, hw⟩ := hp
  subst ha
  have hcodeU : (Cond.code y code maxL ret).before as.toArray A.U = true := lw_warm (ws := [_]) h2 (fun w hw => by rw [List.mem_singleton.mp hw]; exact q1) _ List.mem_cons_self _ _ Y.warmed
  obtain ⟨methM, cM, hmethM, hcodeM, -, hlocalsM, -, hlocksM, -, hsigM⟩ := Cond.code_spec hnamed hcodeU
  obtain ⟨kP, hkP, hkname⟩ := className_of_methodNamed hnamed
  obtain ⟨hmnM, hmdM⟩ := name_of_methodNamed hnamed hmethM
  have hxP : kP.methods[mk.idx]? = some methM := by simpa [Vm.method?, hkP] using hmethM
  have hbootP : kP.loader = none := Vm.bootOf_findClass (findClass_of_methodNamed hnamed) hkP
  obtain ⟨code2, maxL2, ret2, r1, r2, hL2, hM⟩ := h
  replace hM := hM l h1
  obtain ⟨g₀, hg0⟩ := Option.isSome_iff_exists.mp Y.here.top
  obtain ⟨r, hr⟩ := State.topJava?_eq_some.mp hg0
  have hcur : A.U.cur < A.U.threads.size := State.cur_lt_of_frames hr
  have hws2 : ∀ w ∈ ws_ y2 code2 maxL2 ret2, w ∈ lw_all := fun w hw => by
    rcases List.mem_cons.mp hw with e | e
    · rw [e]; exact r1
    · exact e
  have b1 : (Cond.code y2 code2 maxL2 ret2).before as.toArray A.U = true := lw_warm (ws := [_]) h2 (fun w hw => by rw [List.mem_singleton.mp hw]; exact r1) _ List.mem_cons_self _ _ Y.warmed
  have b2 : (Cond.initialized y2.cls).before as.toArray A.U = true := lw_warm (ws := [_]) h2 (fun w hw => by rw [List.mem_singleton.mp hw]; exact r2) _ List.mem_cons_self _ _ Y.warmed
  obtain ⟨m2, hn2⟩ : ∃ m2, A.U.methodNamed? y2 = some m2 := by
    cases hq : A.U.methodNamed? y2 with
    | some m2 => exact ⟨m2, rfl⟩
    | none =>
      exfalso
      simp [Cond.before, Cond.holds, Cond.value, hq] at b1
  obtain ⟨meth2, cM2, hmeth2, hcode2, -, hlocals2, -, hlocks2, -, hsig2⟩ := Cond.code_spec hn2 b1
  obtain ⟨k2, hk2, -⟩ := className_of_methodNamed hn2
  have hinit2 : k2.init = .initialized := Cond.initialized_spec (findClass_of_methodNamed hn2) hk2 b2
  obtain ⟨acts₂, hr2⟩ := hcall e (A.U.setFrames (.native { method := mk, args := as.toArray } :: .java g :: r)) m2 k2 hn2 hk2 hinit2
  have hcodeG : A.U.code? g.method = some c := by rw [hg]; exact Y.here.code
  unfold zlo at h4
  obtain ⟨mid, hmid⟩ := id Y.here.above
  have hmid2 : r = mid ++ below := by rw [hr] at hmid; exact hmid
  -- the frame of the entry that waits
  obtain ⟨nf, hnf⟩ : ∃ nf : NFrame, nf = { method := mk, args := as.toArray, stage := 1, saved := #[], awaiting := true, answer := none, words := 0 } := ⟨_, rfl⟩
  have hfr1 : (A.U.setFrames (.native nf :: .java g :: r)).frames = .native nf :: .java g :: r := State.frames_setFrames _ hcur
  -- room
  have hroom0 := Y.room_calling (args' := as.toArray) hsize hmethM hcodeM (R' := { frames := zfr d2 + 9, cells := 0, slots := 0, locals := 1024 + maxL2 + zlo d2 }) (by show zfr d2 + 9 + 1 ≤ R.frames; unfold zfr at h3 ⊢; omega) (by rw [hlocalsM]; unfold zlo; show _ + (maxL + 11) + (1024 + maxL2 + (10400 + 60 * d2)) ≤ R.locals; omega) (by show A.cells + 0 ≤ R.cells; omega) (by show A.slots + 0 ≤ R.slots; omega)
  have happ : (headSpec (ws_ y2 code2 maxL2 ret2) { frames := zfr d2, cells := 0, slots := 0, locals := zlo d2 }).appliesLoose y2 e.platform ((A.U.setFrames (.native nf :: .java g :: r)).pushFrame (.invoking m2 as.toArray)) = true := by
    have hff : ((A.U.setFrames (.native nf :: .java g :: r)).pushFrame (.invoking m2 as.toArray)).frames = .invoking m2 as.toArray :: .native nf :: .java g :: r := by
      rw [State.pushFrame, hfr1, State.setFrames_setFrames]
      exact State.frames_setFrames _ hcur
    have hpe : (A.U.setFrames (.native nf :: .java g :: r)).pushFrame (.invoking m2 as.toArray) = A.U.setFrames (.invoking m2 as.toArray :: .native nf :: .java g :: r) := by
      rw [State.pushFrame, hfr1, State.setFrames_setFrames]
    refine (Spec.appliesLoose_iff hff).mpr ⟨Y.here.running, by rw [hpe]; simpa using Y.here.runnable, by rw [hpe]; simpa using Y.here.alone, hn2, rfl, State.classRipe_of (k := k2) hk2 hinit2, ?_, ?_⟩
    · have hfc := State.frames_calling Y.here.top g mk as.toArray
      obtain ⟨q1, q2, q3, q4⟩ := State.hasRoom_stack hroom0
      have q5 := State.hasRoom_real hroom0
      have q6 := hroom0
      simp only [State.hasRoom, Bool.and_eq_true, decide_eq_true_eq] at q6
      have htail : A.U.frames.tail = r := by rw [hr]; rfl
      rw [htail] at hfc
      rw [State.localsInUse_invoking hfc hmethM hcodeM] at q3 q4 q5
      rw [hfc] at q1 q2
      have hLU : ((A.U.setFrames (.native nf :: .java g :: r)).pushFrame (.invoking m2 as.toArray)).localsInUse = stackWeight (.java g :: r) + 1024 + 1024 + (maxL2 + 11) := by
        rw [State.localsInUse_invoking hff (meth := meth2) (c := cM2) hmeth2 hcode2, stackWeight_other _ _ (fun f h => by cases h) (by rw [hnf]; rfl), hlocals2]
        rfl
      rw [State.calling_eq Y.here.top, State.stackLimits_setFrames] at q2 q4
      simp only [List.length_cons] at q1 q2
      have v0 : vmFrameWords = 1024 := rfl
      rw [v0] at q3 q4 q5
      simp only [State.hasRoom, Bool.and_eq_true, decide_eq_true_eq, hff, hLU, List.length_cons]
      rw [hpe, State.stackLimits_setFrames, State.stackBytes_setFrames]
      have q5' : stackWeight (.java g :: r) + 1024 + (cM.maxLocals + 11) + (1024 + maxL2 + zlo d2) + stackMargin ≤ realStackBytes / 8 := q5
      have q1' : r.length + 1 + 1 + (zfr d2 + 9) ≤ e.platform.maxFrames := q1
      have q2' : r.length + 1 + 1 + (zfr d2 + 9) ≤ (e.platform.stackLimits A.U.me).1 := q2
      have q3' : stackWeight (.java g :: r) + 1024 + (cM.maxLocals + 11) + (1024 + maxL2 + zlo d2) ≤ e.platform.maxStackSlots := q3
      have q4' : stackWeight (.java g :: r) + 1024 + (cM.maxLocals + 11) + (1024 + maxL2 + zlo d2) ≤ (e.platform.stackLimits A.U.me).2 := q4
      have q7 := q6.1.1.1.2.2.2.2.2
      rw [State.calling_eq Y.here.top, State.stackBytes_setFrames] at q7
      have q8 := q6.1.1.2
      have q9 := q6.1.2
      rw [State.calling_eq Y.here.top] at q8 q9
      have q10 := q6.2
      rw [State.calling_eq Y.here.top] at q10
      refine ⟨⟨⟨⟨?_, ?_, ?_, ?_, ?_, q7⟩, ?_⟩, ?_⟩, q10⟩
      · show _ + zlo d2 + stackMargin ≤ _; omega
      · show _ + zfr d2 ≤ _; omega
      · show _ + zfr d2 ≤ _; omega
      · show _ + zlo d2 ≤ _; omega
      · show _ + zlo d2 ≤ _; omega
      · show A.U.heap.size + 0 ≤ e.platform.maxCells; exact q8
      · show A.U.slotsUsed + 0 ≤ e.platform.maxSlots; exact q9
    · rw [hpe, Cond.before_setFrames]
      exact atoms_intro fun w hw => lw_warm h2 hws2 w hw _ _ Y.warmed
  obtain ⟨o, s₂, hsteps, hrun2, hend, hq⟩ := Steps.callFree hM p Y.admits Y.cas Y.clock (acts := acts₂) (mid := .native nf :: .java g :: mid) (below := below) (by rw [hfr1, hmid2]; rfl) happ (by
    refine ⟨rfl, ?_, ?_⟩
    · exact hσ
    · exact hw.to (State.WarmedH.refl A.U) hw.1 (fun _ _ _ => rfl)) trivial
  rw [hfr1] at hend
  have hq' : zx_Q (zQ G _) (zXC G _) 0 0 (zfree G) as.toArray ((A.U.setFrames (.native nf :: .java g :: r)).pushFrame (.invoking m2 as.toArray)) o s₂ := hq
  rcases hq' with ⟨hqc, L, hfe, hL⟩ | ⟨q, rfl, E, ce, L, hx, -⟩
  rotate_left
  · obtain ⟨σ9, h9, -⟩ := hx
    exact h9.elim
  obtain ⟨⟨v, rfl⟩, hW₂, e2, u2, u3, u4, u5, u6⟩ := id hfe
  obtain ⟨v', σ', hv', ⟨r', hv'', hr', hQ⟩, hσ', hF⟩ := hqc
  cases hv'
  subst hv''
  have hpe : (A.U.setFrames (.native nf :: .java g :: r)).pushFrame (.invoking m2 as.toArray) = A.U.setFrames (.invoking m2 as.toArray :: .native nf :: .java g :: r) := by
    rw [State.pushFrame, hfr1, State.setFrames_setFrames]
  have e3 : s₂ = ({ A.U.setFrames s₂.frames with heap := s₂.heap, slotsUsed := s₂.slotsUsed } : State).setVm s₂.vm := by
    have h8 : s₂ = ({ s₂ with vm := ((A.U.setFrames (.native nf :: .java g :: r)).pushFrame (.invoking m2 as.toArray)).vm } : State).setVm s₂.vm := rfl
    rw [e2, hpe, State.setFrames_setFrames] at h8
    exact h8
  have hnf2 : s₂.frames = .native { nf with awaiting := false, answer := some (.returned (some (.double r'))) } :: .java g :: r := hend
  have hsame : A.U.sameButNew ({ A.U with heap := s₂.heap, slotsUsed := s₂.slotsUsed } : State) L 0 0 := by
    refine ⟨?_, u2, u3, u4, u5, u6⟩
    obtain ⟨t, ht, -⟩ := State.frames_cons hr
    show ({ A.U with heap := s₂.heap, slotsUsed := s₂.slotsUsed } : State) = { A.U.setFrames A.U.frames with heap := s₂.heap, slotsUsed := s₂.slotsUsed }
    rw [State.setFrames_self ht]
  have hW' : A.U.WarmedH s₂.vm := hW₂
  refine Or.inl ⟨some (.double r'), ⟨(({ A.U with heap := s₂.heap, slotsUsed := s₂.slotsUsed } : State).setVm s₂.vm), A.locs ++ L, A.cells + 0, A.slots + 0⟩,
    ⟨Y.admits, Y.cas, Y.clock, Y.frames, Y.room, Y.hears, Y.method, Y.code, (Y.here.setHeapUsed s₂.heap s₂.slotsUsed).setVm hW'.alike, Y.tail, State.WarmedH.trans Y.warmed hW', Y.limits, Y.bytes, Y.same.trans (hsame.setVm s.vm)⟩,
    ⟨g, mk, s₂, L, rfl, rfl, ⟨some (.double r'), σ', rfl, hQ, hσ', hF⟩, rfl, hL, rfl, rfl⟩, ?_⟩
  refine zo_step p hr Y.here.above Y.here.running Y.here.runnable Y.here.alone [] hkP hxP hbootP (by rw [hkname]; exact hin) (row := row) (by rw [hkname, hmnM, hmdM]; exact hrow p) (np := np) ?_ (by rw [hlocalsM]; exact hgiv) hcodeM hlocksM
    (Y.room_calling hsize hmethM hcodeM (R' := {}) (by show 0 + 1 ≤ R.frames; omega) (by rw [hlocalsM]; show _ + (maxL + 11) + 0 ≤ R.locals; omega) (by show A.cells + 0 ≤ R.cells; omega) (by show A.slots + 0 ≤ R.slots; omega)) ?_
  · rw [hsigM] at hnp
    simpa using hnp
  · rw [hr2]
    have hup : ((((A.U.setFrames (.native { method := mk, args := as.toArray } :: .java g :: r)).vm.classes[mk.cls]?).bind fun k => (k.methods[mk.idx]?).map fun n => upcallWords k.name n.name).getD 0) = 0 := by
      show (((A.U.vm.classes[mk.cls]?).bind fun k => (k.methods[mk.idx]?).map fun n => upcallWords k.name n.name).getD 0) = 0
      simp [hkP, hxP, hkname, hmnM, huw]
    have hst : (afterNative e { method := mk, args := as.toArray } (.java g :: r) (.ctl (.call m2 as.toArray 1 #[]) (A.U.setFrames (.native { method := mk, args := as.toArray } :: .java g :: r)) acts₂ : Res (Option Value))).1 = (doInvoke e (A.U.setFrames (.native nf :: .java g :: r)) acts₂ m2 as.toArray).1 := by
      unfold afterNative
      simp only [hup, State.setFrames_setFrames, hnf]
    rw [hst]
    refine hsteps.trans ?_
    obtain ⟨acts₃, hr3⟩ := hres e s₂ r' hr'
    obtain ⟨nf2, hnf2'⟩ : ∃ nf2 : NFrame, nf2 = { nf with awaiting := false, answer := some (.returned (some (.double r'))) } := ⟨_, rfl⟩
    rw [← hnf2'] at hnf2
    obtain ⟨T, hT⟩ : ∃ T : State, T = ({ A.U with heap := s₂.heap, slotsUsed := s₂.slotsUsed } : State).setVm s₂.vm := ⟨_, rfl⟩
    have hAt := (Y.here.setHeapUsed s₂.heap s₂.slotsUsed).setVm hW'.alike
    rw [← hT] at hAt
    have hTf : T.frames = .java g₀ :: r := by rw [hT]; exact hr
    have hTcur : T.cur < T.threads.size := State.cur_lt_of_frames hTf
    have e4 : s₂ = T.setFrames (.native nf2 :: .java g :: r) := by
      have h8 := e3
      rw [hnf2] at h8
      rw [h8, hT]
      rfl
    have hTW : A.U.WarmedH T.vm := by rw [hT]; exact hW'
    have hTcode : ∀ F : List Frame, (T.setFrames F).code? g.method = some c := by
      intro F
      have h8 : T.code? g.method = A.U.code? g.method := by rw [State.code?_eq, State.code?_eq, hTW.alike.method?]
      have h7 := h8.trans hcodeG
      rw [State.code?_eq] at h7 ⊢
      simpa [State.setFrames] using h7
    obtain ⟨kP3, hkP3, hkn3⟩ := hTW.alike.2.2 _ _ hkP
    have hstep : (stepThread p.tables e s₂).1 = T.setTop { g with pc := g.pc + len, stack := .double r' :: g.stack } := by
      have hfs : handOver (T.setFrames (.native nf2 :: .java g :: r)) (some (.double r')) (.java g :: r) = some (.java { g with pc := g.pc + len, stack := .double r' :: g.stack } :: r) := by
        simp [handOver, hTcode, hdg, Except.toOption]
      have g1 : kP3.name = y.cls := by rw [hkn3]; exact hkname
      have g2 : kP3.loader = none := by rw [hkn3]; exact hbootP
      have g3 : kP3.methods[mk.idx]? = some methM := by rw [hkn3]; exact hxP
      have g4 : s₂.vm.classes[mk.cls]? = some kP3 := by rw [e4]; exact hkP3
      have g5 : nf2.method = mk := by rw [hnf2', hnf]
      have g6 : nf2.answer = some (.returned (some (.double r'))) := by rw [hnf2']
      have g7 : nf2.stage = 1 := by rw [hnf2', hnf]
      have g8 : nf2.saved = #[] := by rw [hnf2', hnf]
      have g9 : nf2.locked = none := by rw [hnf2', hnf]
      have g10 : (stepThread p.tables e s₂) = afterNative e nf2 (.java g :: r) ((row.resume 1 #[] (.returned (some (.double r')))).run e s₂) := by
        unfold stepThread
        have hrow' := hrow p
        simp only [hnf2, g5, g4, g3, g1, g2, g6, g7, g8, hmnM, hmdM, Option.bind_eq_bind, Option.bind_some, Option.pure_def, Option.isNone_none, if_true, hrow']
      rw [g10, hr3]
      show (doReturn e s₂ acts₃ (some (.double r'))).1 = _
      rw [doReturn_native (f := nf2) (below := .java g :: r) hnf2 g9 (by rw [e4]; exact hfs), e4, State.setFrames_setFrames, ← State.setTop_of_frames _ hTf]
    refine Steps.head ⟨hrun2, ?_, ?_⟩ ⟨.native nf2 :: .java g :: mid, by rw [hnf2, hmid2]; rfl, by simp, by simp⟩ ?_
    · rw [e4]
      simpa using hAt.runnable
    · rw [e4]
      simpa using hAt.alone
    · rw [hstep, hT]
      exact Steps.refl _
