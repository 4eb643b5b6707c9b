/-! L1p: System.arraycopy: the rows -/
/-- n elements of x from sp on put into y from dp on -/
def zac (σ : ZS) (x sp y dp n : Nat) : ZS := (sk σ, sn σ, sz σ, ur (sI σ) y (va_cpy (sI σ x) (sI σ y) sp dp n), ur (sL σ) y (va_cpy (sL σ x) (sL σ y) sp dp n), ur (sF σ) y (va_cpy (sF σ x) (sF σ y) sp dp n), ur (sD σ) y (va_cpy (sD σ x) (sD σ y) sp dp n), ur (sR σ) y (va_cpy (sR σ x) (sR σ y) sp dp n))
theorem zv_zac_ne (t : Nat) {σ : ZS} {x sp y dp n c j : Nat} (h : c ≠ y) : zv t (zac σ x sp y dp n) c j = zv t σ c j := by
  unfold zv; split <;> simp [zac, sI, sL, sF, sD, sR, ur, h]
theorem zv_zac_self (t : Nat) {σ : ZS} {x sp y dp n j : Nat} : zv t (zac σ x sp y dp n) y j = va_cpy (zv t σ x) (zv t σ y) sp dp n j := by
  unfold zv va_cpy
  by_cases h : dp ≤ j ∧ j < dp + n
  · split <;> simp [zac, sI, sL, sF, sD, sR, ur, va_cpy, h]
  · split <;> simp [zac, sI, sL, sF, sD, sR, ur, va_cpy, h]
theorem zREL.ac {G : ZG} {σ : ZS} {H H' : Heap} {x sp y dp n : Nat} (h : zREL G σ H) (hy : 10 ≤ sk σ y) (e1 : H'[y]? = some (arrV (G.2.1 (sk σ y)) (sn σ y) (fun j => va_cpy (zv (ztg (zeT (sk σ y))) σ x) (zv (ztg (zeT (sk σ y))) σ y) sp dp n j))) (e2 : H'.size = H.size) (e3 : ∀ q, q ≠ y → H'[q]? = H[q]?) : zREL G (zac σ x sp y dp n) H' := by
  refine ⟨h.1, by rw [e2]; exact h.2.1, fun b hb => ?_⟩
  have hb' : sk σ b ≠ 0 := hb
  obtain ⟨q1, q2, q3, q4⟩ := h.2.2 b hb'
  refine ⟨q1, q2, fun c' r' hc' hr' => ?_, fun hk' => ?_⟩
  · have hc2 : sk σ b = c' + 1 := hc'
    have hba : b ≠ y := by
      intro hba; subst hba
      have : c' < 8 := (List.getElem?_eq_some_iff.mp hr').1
      omega
    refine ((q3 _ _ hc2 hr').kept (e3 b hba)).to (fun j _ => ?_)
    rw [zv_zac_ne _ hba]
  · have hk2 : 10 ≤ sk σ b := hk'
    show H'[b]? = some (arrV (G.2.1 (sk σ b)) (sn σ b) (fun j => zv (ztg (zeT (sk σ b))) (zac σ x sp y dp n) b j))
    by_cases hba : b = y
    · subst hba
      rw [e1]
      congr 1
      exact arrV_ext fun j _ => (zv_zac_self _).symm
    · rw [e3 b hba, q4 hk2]
      congr 1
      exact arrV_ext fun j _ => by rw [zv_zac_ne _ hba]
section ZR9
variable {p : Program} {l : Launch} {e : Env} {R : Room} {s : State} {m : MethodId} {args : Array Value} {below : List Frame} {meth : Method} {c : Code} {T : State} {locs locs2 : List Loc} {cells slots : Nat}
/-- arraycopy throws -/
theorem zr_acx (X : Stand p l e R s m args below meth c T locs cells slots) (hexec : p.tables.exec = Jvm.exec) {own : String} {index : Nat} (hown : s.vm.findClass own = some m.cls)
    (hlink : (Cond.methodLink own index arraycopyName).before args s = true) (hnat : (Cond.native arraycopyName).before args s = true) (hstat : (Cond.static arraycopyName).before args s = true) (hinit : (Cond.initialized "java/lang/System").before args s = true)
    {src dst : Value} {srcPos destPos n : Int32} (hsr : src.isRef = true) (hdr : dst.isRef = true) {g : JFrame} (hg : g.method = m) (hsize : g.locals.size = c.maxLocals) {rest : List Value} (hstack : g.stack = .int n :: .int destPos :: dst :: .int srcPos :: src :: rest) (hdg : decode c.code g.pc = .ok (.invokestatic index, 3))
    (hframes : 1 ≤ R.frames) (hlocals : 2 * g.monitorRoom + (rest.map fun v => v.category).sum + (nativeFrameWords "java/lang/System" "arraycopy" 5 + 11) ≤ R.locals)
    {cls : String} {msg : Option String} {TT : State → State} (hTf : ∀ (U : State) (fs : List Frame), TT (U.setFrames fs) = (TT U).setFrames fs) (hTfr : ∀ U : State, (TT U).frames = U.frames) (hTS : ∀ vm', Stand p l e R s m args below meth c (T.setVm vm') locs cells slots → Stand p l e R s m args below meth c (TT (T.setVm vm')) locs2 cells slots)
    (hwp : ∀ vm', s.vm.Alike vm' → ∀ (fs : List Frame) (E : CtlPost), (∀ acts', E (.throwNew cls msg) acts' (TT ((T.setVm vm').setFrames fs))) → wp (Native.java_lang_System.arraycopy.sem #[src, .int srcPos, dst, .int destPos, .int n]) (fun _ _ _ _ => False) E e false [] ((T.setVm vm').setFrames fs))
    {P : State → Addr → Prop} {cells2 slots2 : Nat}
    (hvm : ∀ (vm' : Vm) (nf : NFrame), nf.words = 0 → Stand p l e R s m args below meth c (TT (T.setVm vm')) locs2 cells slots → ∃ (S : State) (q : Addr), Steps p.tables e below ((TT (T.setVm vm')).setFrames (.throwNew cls msg none :: .native nf :: .java { g with stack := rest } :: below)) (S.setFrames (.throwing q :: .native nf :: .java { g with stack := rest } :: below)) ∧ Stand p l e R s m args below meth c S locs2 cells2 slots2 ∧ P S q) :
    ∃ (S : State) (q : Addr), Stand p l e R s m args below meth c S locs2 cells2 slots2 ∧ P S q ∧ ∀ target, Steps p.tables e below ((S.setTop { g with stack := rest }).pushFrame (.throwing q)) target → Steps p.tables e below (T.setTop g) target := by
  obtain ⟨r, kS, methS, hnS, hmS, hkS, N⟩ := NativeOf.of_static hnat hstat (ps := [.object "java/lang/Object", .int, .object "java/lang/Object", .int, .int]) (ret := none) (by decide +kernel)
  have hinitS : kS.init = .initialized := Cond.initialized_spec (findClass_of_methodNamed hnS) hkS hinit
  obtain ⟨vm', X', step⟩ := X.invokestatic hexec hown hlink hnS hmS N.static hkS hinitS (by decide) hg (argsL := [src, .int srcPos, dst, .int destPos, .int n]) (rest := rest) (by rw [N.sig]; rfl) hstack hdg
  have hA' : s.vm.Alike vm' := X'.warmed.alike
  obtain ⟨kS', N'⟩ := N.alike hA'
  have XT := hTS vm' X'
  subst hg
  have hseen : seenByNative methS #[src, .int srcPos, dst, .int destPos, .int n] = #[src, .int srcPos, dst, .int destPos, .int n] := by
    cases src <;> first | cases hsr | skip
    all_goals cases dst <;> first | cases hdr | skip
    all_goals simp [seenByNative, N.static, N.sig, narrow]
  have hwords : operandWords (#[src, .int srcPos, dst, .int destPos, .int n] : Array Value).toList = 5 := by
    cases src <;> first | cases hsr | skip
    all_goals cases dst <;> first | cases hdr | skip
    all_goals rfl
  obtain ⟨S, q, st, XS, hP⟩ := hvm vm' { method := r, args := #[src, .int srcPos, dst, .int destPos, .int n], locked := none } rfl XT
  refine ⟨S, q, XS, hP, fun target hrest => step target fun acts => ?_⟩
  obtain ⟨g₀, hfr⟩ := X'.frames_eq
  obtain ⟨g₁, hfrB⟩ := XS.frames_eq
  have hU : ((T.setVm vm').setTop { g with stack := rest }).pushFrame (.native { method := r, args := seenByNative methS #[src, .int srcPos, dst, .int destPos, .int n], locked := none }) = (T.setVm vm').setFrames (.native { method := r, args := seenByNative methS #[src, .int srcPos, dst, .int destPos, .int n], locked := none } :: .java { g with stack := rest } :: below) := by
    rw [State.pushFrame, State.frames_setTop _ hfr, State.setTop_of_frames _ hfr, State.setFrames_setFrames]
  have hcurT : (TT (T.setVm vm')).cur < (TT (T.setVm vm')).threads.size := State.cur_lt_of_frames ((hTfr _).trans hfr)
  refine Steps.nativeThrowsNote (g := { g with stack := rest }) (row := arraycopyRow) (cls := cls) (msg := msg) (T := TT) X'.here acts N'.cls N'.meth N'.boot N'.native N'.noCode N'.noLock
    (by rw [N'.className, N'.name, N'.desc]; exact arraycopy_row p)
    (by rw [N'.className, N'.name]; rw [hwords]; exact X'.notFull (g := { g with stack := rest }) hsize (vars := nativeFrameWords "java/lang/System" "arraycopy" 5) hframes hlocals) ?_ ?_
  · intro E hE
    rw [hU] at hE ⊢
    rw [hseen] at hE ⊢
    rw [arraycopyRow_sem]
    exact hwp vm' hA' _ E hE
  · rw [hU, hseen, hTf, State.pushFrame, State.frames_setFrames _ hcurT, State.setFrames_setFrames]
    refine st.trans ?_
    refine Steps.throwingLeavesNative ⟨XS.here.running, XS.here.runnable, XS.here.alone⟩ (State.cur_lt_of_frames hfrB) ⟨[.java { g with stack := rest }], rfl⟩ rfl rfl ?_
    have hV : (S.setTop { g with stack := rest }).pushFrame (.throwing q) = S.setFrames (.throwing q :: .java { g with stack := rest } :: below) := by
      rw [State.pushFrame, State.frames_setTop _ hfrB, State.setTop_of_frames _ hfrB, State.setFrames_setFrames]
    rw [← hV]
    exact hrest
end ZR9
section ZR9B
variable {G : ZG} {C : AWC} {σ : ZS} {p : Program} {l : Launch} {e : Env} {R : Room} {s : State} {m : MethodId} {args : Array Value} {below : List Frame} {meth : Method} {c : Code} {H : Heap} {locs : List Loc} {cells slots mc ms : Nat} {pc : Nat} {ls : Array Slot} {rest : List Value} {lo : List (Nat × Value)} {T : State}
theorem z_nvm (hX : zCT G C mc ms p l R s m args meth c H locs) {E text : String} (hE : E ∈ zEs) (hl : lv_has ls C.2.2.1 lo) (hr : rest.length ≤ 80) (hc : cells + 3 ≤ mc) (hs : slots + 910 ≤ ms) (htext : (text == notModelled) = false) (hnb : (stringBytes (stringToUtf16 text)).size ≤ 900) (hT : T.heap = H) (X : Stand p l e R s m args below meth c T locs cells slots) {nf : NFrame} (hnf : nf.words = 0) :
    ∃ (S : State) (q : Addr), Steps p.tables e below (T.setFrames (.throwNew E (some text) none :: .native nf :: .java (F0 m pc ls rest) :: below)) (S.setFrames (.throwing q :: .native nf :: .java (F0 m pc ls rest) :: below)) ∧ Stand p l e R s m args below meth c S locs (cells + 3) (slots + 910) ∧ ((∃ ce : Cell, S.heap[q]? = some ce ∧ ce.vm = .none ∧ s.vm.findClass E = some ce.cls) ∧ H.size ≤ S.heap.size ∧ (∀ q : Nat, q < H.size → S.heap[q]? = H[q]?) ∧ zCT G C mc ms p l R s m args meth c S.heap locs) := by
  have hr9 := cat_sum rest
  have hfr := hX.2.2.1.2.2.1
  have hlo := hX.2.2.1.2.2.2
  have hmc := hX.2.2.1.1
  have hms := hX.2.2.1.2.1
  unfold zfr at hfr
  unfold zlo at hlo
  have h0 := List.all_eq_true.mp zxw_msg E hE
  simp only [Bool.and_eq_true, decide_eq_true_eq, Bool.not_eq_true'] at h0
  obtain ⟨⟨⟨⟨⟨⟨⟨b1, b2⟩, b3⟩, b4⟩, b5⟩, b6⟩, b7⟩, b8⟩ := h0
  have hU := hX.2.2.2.1.2.2.2.2.2.1.1
  have hN := hX.2.2.2.1.2.2.2.2.2.1.2
  have hS := hX.2.2.2.2
  have hat := zhat hX b1 b2
  have hgood := List.all_eq_true.mp b3
  have htr : e.platform.stackTraces = false := (show e.platform.stackTraces = l.stackTraces by rw [X.admits.platform]).trans hX.2.1.2.2.2.2
  have Y := vx_rebase X (R' := { frames := R.frames, locals := R.locals, cells := 3, slots := 910 }) (Nat.le_refl _) (Nat.le_refl _) (by show cells + 3 ≤ R.cells; omega) (by show slots + 910 ≤ R.slots; omega)
  have hhp : ((T.setVm s.vm).setFrames (.invoking m args :: below)).heap = H := hT
  have hW0 : s.WarmedH ((T.setVm s.vm).setFrames (.invoking m args :: below)).vm := State.WarmedH.refl s
  have hat' : ∀ w ∈ vx_atM E (zch E), w.before args ((T.setVm s.vm).setFrames (.invoking m args :: below)) = true := fun w hw => vx_ot_at hW0 rfl (hgood w hw) (hat w hw)
  have hU' : vx_Zq Bundle.tN "UNASSIGNED_STACK" Bundle.steD (fun q => G.2.2.1 ≤ q) ((T.setVm s.vm).setFrames (.invoking m args :: below)) ((T.setVm s.vm).setFrames (.invoking m args :: below)).heap := by rw [hhp]; exact vx_Zq.moved hW0.alike (hU.kept hS.2.1)
  have hN' : vx_Zq Bundle.tN "SUPPRESSED_SENTINEL" Bundle.listD (fun q => G.2.2.1 ≤ q) ((T.setVm s.vm).setFrames (.invoking m args :: below)) ((T.setVm s.vm).setFrames (.invoking m args :: below)).heap := by rw [hhp]; exact vx_Zq.moved hW0.alike (hN.kept hS.2.1)
  obtain ⟨S, q, ce, st, Z, hce, hcl', hv⟩ := zr_nvmAt Y hX.1.1 htr (cls := E) (names := zch E) (text := text) b4 (List.all_eq_true.mp b5) b6 b7 (vx_own hat' (vx_isRefq hU'.1) (vx_isRefq hN'.1) hU'.2.word hN'.2.word) (fun x hx => nomatch hx) htext
    (by rw [Launch.admits_arrayLengthLimit X.admits]; omega) (by rw [Launch.admits_maxHeapBytes X.admits]; simp only [componentBytes]; omega)
    (g := F0 m pc ls rest) rfl (hl.1.trans hX.1.2.2.1.symm) hnf (by show (zch E).length + 5 < R.frames; omega) (by show 2 * 0 + (rest.map fun v => v.category).sum + 10240 ≤ R.locals; omega) (by omega) (by show 0 + 3 ≤ 3; omega) (by show 0 + (_ + 4 + 6) ≤ 910; omega) hX.2.1.1
  obtain ⟨f1, f2⟩ := vx_frame Z.same
  have f1' : H.size ≤ S.heap.size := by rw [← hT]; exact f1
  have f2' : ∀ q : Nat, q < H.size → S.heap[q]? = H[q]? := fun q hq => by
    rw [← hT]
    exact f2 q (by rw [← hT] at hq; exact hq) (fun z hz => nomatch hz)
  have X5 := vx_back9 X Y Z
  have X6 : Stand p l e R s m args below meth c S locs (cells + 3) (slots + 910) := { X5 with same := X5.same.mono (by omega) (by omega) }
  exact ⟨S, q, st, X6, ⟨ce, hce, hv, hcl'⟩, f1', f2', z_grow hX ⟨Nat.le_trans hS.1 f1', fun q h1 h2 => (f2' q (Nat.lt_of_lt_of_le h1 hS.1)).trans (hS.2.1 q h1 h2), hS.2.2⟩⟩
theorem z_nnpe (hX : zCT G C mc ms p l R s m args meth c H locs) (hl : lv_has ls C.2.2.1 lo) (hr : rest.length ≤ 80) (hc : cells + 1 ≤ mc) (hs : slots + 8 ≤ ms) (hT : T.heap = H) (X : Stand p l e R s m args below meth c T locs cells slots) {nf : NFrame} (hnf : nf.words = 0) :
    ∃ (S : State) (q : Addr), Steps p.tables e below (T.setFrames (.throwNew eNPE none none :: .native nf :: .java (F0 m pc ls rest) :: below)) (S.setFrames (.throwing q :: .native nf :: .java (F0 m pc ls rest) :: below)) ∧ Stand p l e R s m args below meth c S locs (cells + 1) (slots + 8) ∧ ((∃ ce : Cell, S.heap[q]? = some ce ∧ ce.vm = .none ∧ s.vm.findClass eNPE = some ce.cls) ∧ H.size ≤ S.heap.size ∧ (∀ q : Nat, q < H.size → S.heap[q]? = H[q]?) ∧ zCT G C mc ms p l R s m args meth c S.heap locs) := by
  have hr9 := cat_sum rest
  have hfr := hX.2.2.1.2.2.1
  have hlo := hX.2.2.1.2.2.2
  have hmc := hX.2.2.1.1
  have hms := hX.2.2.1.2.1
  unfold zfr at hfr
  unfold zlo at hlo
  have hU := hX.2.2.2.1.2.2.2.2.2.1.1
  have hN := hX.2.2.2.1.2.2.2.2.2.1.2
  have hS := hX.2.2.2.2
  have hat := zhat hX zxw_npe.1 zxw_npe.2.1
  have hgood := List.all_eq_true.mp zxw_npe.2.2
  have htr : e.platform.stackTraces = false := (show e.platform.stackTraces = l.stackTraces by rw [X.admits.platform]).trans hX.2.1.2.2.2.2
  have Y := vx_rebase X (R' := { frames := R.frames, locals := R.locals, cells := 1, slots := 8 }) (Nat.le_refl _) (Nat.le_refl _) (by show cells + 1 ≤ R.cells; omega) (by show slots + 8 ≤ R.slots; omega)
  have hhp : ((T.setVm s.vm).setFrames (.invoking m args :: below)).heap = H := hT
  have hW0 : s.WarmedH ((T.setVm s.vm).setFrames (.invoking m args :: below)).vm := State.WarmedH.refl s
  have hat' : ∀ w ∈ vx_atN 8, w.before args ((T.setVm s.vm).setFrames (.invoking m args :: below)) = true := fun w hw => vx_ot_at hW0 rfl (hgood w hw) (hat w hw)
  have hU' : vx_Zq Bundle.tN "UNASSIGNED_STACK" Bundle.steD (fun q => G.2.2.1 ≤ q) ((T.setVm s.vm).setFrames (.invoking m args :: below)) ((T.setVm s.vm).setFrames (.invoking m args :: below)).heap := by rw [hhp]; exact vx_Zq.moved hW0.alike (hU.kept hS.2.1)
  have hN' : vx_Zq Bundle.tN "SUPPRESSED_SENTINEL" Bundle.listD (fun q => G.2.2.1 ≤ q) ((T.setVm s.vm).setFrames (.invoking m args :: below)) ((T.setVm s.vm).setFrames (.invoking m args :: below)).heap := by rw [hhp]; exact vx_Zq.moved hW0.alike (hN.kept hS.2.1)
  obtain ⟨S, q, ce, st, Z, hce, hcl', hv⟩ := zr_nnpeAt Y hX.1.1 htr (n := 8) (vx_own hat' (vx_isRefq hU'.1) (vx_isRefq hN'.1) hU'.2.word hN'.2.word) (fun x hx => nomatch hx)
    (g := F0 m pc ls rest) rfl (hl.1.trans hX.1.2.2.1.symm) hnf (by show 8 < R.frames; omega) (by show 2 * 0 + (rest.map fun v => v.category).sum + 10240 ≤ R.locals; omega) (by show 0 + 1 ≤ 1; omega) (by show 0 + 8 ≤ 8; omega) hX.2.1.1
  obtain ⟨f1, f2⟩ := vx_frame Z.same
  have f1' : H.size ≤ S.heap.size := by rw [← hT]; exact f1
  have f2' : ∀ q : Nat, q < H.size → S.heap[q]? = H[q]? := fun q hq => by
    rw [← hT]
    exact f2 q (by rw [← hT] at hq; exact hq) (fun z hz => nomatch hz)
  have X5 := vx_back9 X Y Z
  have X6 : Stand p l e R s m args below meth c S locs (cells + 1) (slots + 8) := { X5 with same := X5.same.mono (by omega) (by omega) }
  exact ⟨S, q, st, X6, ⟨ce, hce, hv, hcl'⟩, f1', f2', z_grow hX ⟨Nat.le_trans hS.1 f1', fun q h1 h2 => (f2' q (Nat.lt_of_lt_of_le h1 hS.1)).trans (hS.2.1 q h1 h2), hS.2.2⟩⟩
end ZR9B
def zrM (w : Bool) (a c : String) : String := if w = true then toString "arraycopy: element type mismatch: can not cast one of the elements of " ++ toString a ++ toString "[] to the type of the destination array, " ++ toString c else toString "arraycopy: type mismatch: can not copy " ++ toString a ++ toString "[] into " ++ toString c ++ toString "[]"
theorem zrM_eq {vm : Vm} {dC sC : ClassId} {kS kD : Class} {a c : String} (ha : kS.shown = a) (hc : kD.shown = c) : copyRefused vm sC dC kS kD = Native.java_lang_System.arraycopy.knownWithin 1999 (zrM (vm.assignable dC sC) a c) := by
  unfold copyRefused zrM
  rw [ha, hc]
def zrG (t : String) : Bool := cutAt 1999 t == t && !(t == notModelled) && decide (t.toList.length ≤ 225)
def zacL : List (Nat × Nat) := [(20, 21), (20, 22), (20, 23), (21, 22), (21, 23), (22, 21), (22, 23), (23, 20), (23, 21), (23, 22)]
theorem zrG_20_21_true : zrG (zrM true (dotted (znm (zec 20))) (dotted (znm (zec 21)))) = true := by decide +kernel
theorem zrG_20_21_false : zrG (zrM false (dotted (znm (zec 20))) (dotted (znm (zec 21)))) = true := by decide +kernel
theorem zrG_20_22_true : zrG (zrM true (dotted (znm (zec 20))) (dotted (znm (zec 22)))) = true := by decide +kernel
theorem zrG_20_22_false : zrG (zrM false (dotted (znm (zec 20))) (dotted (znm (zec 22)))) = true := by decide +kernel
theorem zrG_20_23_true : zrG (zrM true (dotted (znm (zec 20))) (dotted (znm (zec 23)))) = true := by decide +kernel
theorem zrG_20_23_false : zrG (zrM false (dotted (znm (zec 20))) (dotted (znm (zec 23)))) = true := by decide +kernel
theorem zrG_21_22_true : zrG (zrM true (dotted (znm (zec 21))) (dotted (znm (zec 22)))) = true := by decide +kernel
theorem zrG_21_22_false : zrG (zrM false (dotted (znm (zec 21))) (dotted (znm (zec 22)))) = true := by decide +kernel
theorem zrG_21_23_true : zrG (zrM true (dotted (znm (zec 21))) (dotted (znm (zec 23)))) = true := by decide +kernel
theorem zrG_21_23_false : zrG (zrM false (dotted (znm (zec 21))) (dotted (znm (zec 23)))) = true := by decide +kernel
theorem zrG_22_21_true : zrG (zrM true (dotted (znm (zec 22))) (dotted (znm (zec 21)))) = true := by decide +kernel
theorem zrG_22_21_false : zrG (zrM false (dotted (znm (zec 22))) (dotted (znm (zec 21)))) = true := by decide +kernel
theorem zrG_22_23_true : zrG (zrM true (dotted (znm (zec 22))) (dotted (znm (zec 23)))) = true := by decide +kernel
theorem zrG_22_23_false : zrG (zrM false (dotted (znm (zec 22))) (dotted (znm (zec 23)))) = true := by decide +kernel
theorem zrG_23_20_true : zrG (zrM true (dotted (znm (zec 23))) (dotted (znm (zec 20)))) = true := by decide +kernel
theorem zrG_23_20_false : zrG (zrM false (dotted (znm (zec 23))) (dotted (znm (zec 20)))) = true := by decide +kernel
theorem zrG_23_21_true : zrG (zrM true (dotted (znm (zec 23))) (dotted (znm (zec 21)))) = true := by decide +kernel
theorem zrG_23_21_false : zrG (zrM false (dotted (znm (zec 23))) (dotted (znm (zec 21)))) = true := by decide +kernel
theorem zrG_23_22_true : zrG (zrM true (dotted (znm (zec 23))) (dotted (znm (zec 22)))) = true := by decide +kernel
theorem zrG_23_22_false : zrG (zrM false (dotted (znm (zec 23))) (dotted (znm (zec 22)))) = true := by decide +kernel
theorem zrG_all {a b : Nat} (h : (a, b) ∈ zacL) (w : Bool) : zrG (zrM w (dotted (znm (zec a))) (dotted (znm (zec b)))) = true := by
  simp only [zacL, List.mem_cons, List.not_mem_nil, or_false, Prod.mk.injEq] at h
  rcases h with ⟨rfl, rfl⟩ | ⟨rfl, rfl⟩ | ⟨rfl, rfl⟩ | ⟨rfl, rfl⟩ | ⟨rfl, rfl⟩ | ⟨rfl, rfl⟩ | ⟨rfl, rfl⟩ | ⟨rfl, rfl⟩ | ⟨rfl, rfl⟩ | ⟨rfl, rfl⟩
  · cases w; exact zrG_20_21_false; exact zrG_20_21_true
  · cases w; exact zrG_20_22_false; exact zrG_20_22_true
  · cases w; exact zrG_20_23_false; exact zrG_20_23_true
  · cases w; exact zrG_21_22_false; exact zrG_21_22_true
  · cases w; exact zrG_21_23_false; exact zrG_21_23_true
  · cases w; exact zrG_22_21_false; exact zrG_22_21_true
  · cases w; exact zrG_22_23_false; exact zrG_22_23_true
  · cases w; exact zrG_23_20_false; exact zrG_23_20_true
  · cases w; exact zrG_23_21_false; exact zrG_23_21_true
  · cases w; exact zrG_23_22_false; exact zrG_23_22_true
theorem zrG_use {t : String} (h : zrG t = true) : Native.java_lang_System.arraycopy.knownWithin 1999 t = t ∧ (t == notModelled) = false ∧ (stringBytes (stringToUtf16 t)).size ≤ 900 := by
  unfold zrG at h
  simp only [Bool.and_eq_true, Bool.not_eq_true', decide_eq_true_eq] at h
  refine ⟨?_, h.1.2, zt_len h.2⟩
  unfold Native.java_lang_System.arraycopy.knownWithin
  rw [if_pos h.1.1]
def zmix (a b : Nat) : Prop := a = b ∨ (18 ≤ a ∧ 18 ≤ b)
theorem zmix_ty : ∀ a, a < 24 → ∀ b, b < 24 → 10 ≤ a → 10 ≤ b → ((refKind (zeT a) != refKind (zeT b)) || (!refKind (zeT a) && zeT a != zeT b)) = !(decide (a = b) || (decide (18 ≤ a) && decide (18 ≤ b))) := by decide +kernel
theorem zmix_yes {a b : Nat} (h : zmix a b) (h1 : 10 ≤ a ∧ a < 24) (h2 : 10 ≤ b ∧ b < 24) : ((refKind (zeT a) != refKind (zeT b)) || (!refKind (zeT a) && zeT a != zeT b)) = false := by
  rw [zmix_ty a h1.2 b h2.2 h1.1 h2.1]
  rcases h with h | ⟨h, h'⟩
  · simp [h]
  · simp [h, h']
theorem zmix_no {a b : Nat} (h : ¬ zmix a b) (h1 : 10 ≤ a ∧ a < 24) (h2 : 10 ≤ b ∧ b < 24) : ((refKind (zeT a) != refKind (zeT b)) || (!refKind (zeT a) && zeT a != zeT b)) = true := by
  rw [zmix_ty a h1.2 b h2.2 h1.1 h2.1]
  have h3 : ¬ a = b := fun e => h (Or.inl e)
  have h4 : ¬ (18 ≤ a ∧ 18 ≤ b) := fun e => h (Or.inr e)
  simp only [h3, decide_false, Bool.false_or, Bool.not_eq_true', Bool.and_eq_false_iff, decide_eq_false_iff_not]
  omega
def zin (sp dp n : Int32) (na nb : Nat) : Prop := ¬ sp < 0 ∧ ¬ dp < 0 ∧ ¬ n < 0 ∧ sp.toNatClampNeg + n.toNatClampNeg ≤ na ∧ dp.toNatClampNeg + n.toNatClampNeg ≤ nb
theorem znn {z : Int32} (hz : ¬ z < 0) : z.toInt = (z.toNatClampNeg : Int) := by
  have hz0 : (0 : Int) ≤ z.toInt := by
    have := Int32.not_lt.mp hz
    simpa using Int32.le_iff_toInt_le.mp this
  show z.toInt = ((z.toInt.toNat : Nat) : Int)
  omega
theorem zin_no {sp dp n : Int32} {na nb : Nat} (tS tD : FieldType) (h : ¬ zin sp dp n na nb) : ∃ what, copyFault tS tD na nb sp dp n = some what := by
  cases hcf : copyFault tS tD na nb sp dp n with
  | some w => exact ⟨w, rfl⟩
  | none =>
    exfalso
    unfold copyFault at hcf
    split at hcf
    · cases hcf
    · rename_i h1
      split at hcf
      · cases hcf
      · rename_i h2
        split at hcf
        · cases hcf
        · rename_i h3
          split at hcf
          · cases hcf
          · rename_i h4
            split at hcf
            · cases hcf
            · rename_i h5
              rw [znn h1, znn h3] at h4
              rw [znn h2, znn h3] at h5
              exact h ⟨h1, h2, h3, by omega, by omega⟩
theorem zleast (P : Nat → Prop) : ∀ n, ¬ (∀ i, i < n → P i) → ∃ j, j < n ∧ (∀ i, i < j → P i) ∧ ¬ P j := by
  intro n
  induction n with
  | zero => exact fun h => absurd (fun i hi => absurd hi (Nat.not_lt_zero i)) h
  | succ n ih =>
    intro h
    by_cases h1 : ∀ i, i < n → P i
    · by_cases h2 : P n
      · exact absurd (fun i hi => by rcases Nat.lt_succ_iff_lt_or_eq.mp hi with h3 | h3; exact h1 i h3; rw [h3]; exact h2) h
      · exact ⟨n, Nat.lt_succ_self n, h1, h2⟩
    · obtain ⟨j, j1, j2, j3⟩ := ih h1
      exact ⟨j, Nat.lt_succ_of_lt j1, j2, j3⟩
def zgo (σ : ZS) (b : Nat) (r : Option Nat) : Prop := ∀ z, r = some z → zsub (sk σ z) (zec (sk σ b)) = true
/-- arraycopy of n elements -/
def acx (σ : ZS) (kc ks : Nat) (x : Option Nat) (sp : Int32) (y : Option Nat) (dp n : Int32) (K : ZS → Prop) (N B S : ZS → Nat → Nat → Nat → Prop) : Prop :=
  (x = none ∨ y = none → xN σ kc ks N) ∧ ∀ a b, x = some a → y = some b → (10 ≤ sk σ a ∧ sk σ a < 24) ∧ (10 ≤ sk σ b ∧ sk σ b < 24) ∧ (sn σ a < 2147483648 ∧ sn σ b < 2147483648) ∧
    (¬ zmix (sk σ a) (sk σ b) → xT σ kc ks S) ∧ (zmix (sk σ a) (sk σ b) → ¬ zin sp dp n (sn σ a) (sn σ b) → xT σ kc ks B) ∧
    (zmix (sk σ a) (sk σ b) → zin sp dp n (sn σ a) (sn σ b) → sk σ a < 18 → (∀ i, i < n.toNatClampNeg → fits (zeT (sk σ b)) (zv (ztg (zeT (sk σ b))) σ a (sp.toNatClampNeg + i)) = true) ∧ K (zac σ a sp.toNatClampNeg b dp.toNatClampNeg n.toNatClampNeg)) ∧
    (zmix (sk σ a) (sk σ b) → zin sp dp n (sn σ a) (sn σ b) → 18 ≤ sk σ a → (∀ i, i < n.toNatClampNeg → ∀ z, sR σ a (sp.toNatClampNeg + i) = some z → (sk σ z, zec (sk σ b)) ∈ zckL) ∧
      ((∀ i, i < n.toNatClampNeg → zgo σ b (sR σ a (sp.toNatClampNeg + i))) → K (zac σ a sp.toNatClampNeg b dp.toNatClampNeg n.toNatClampNeg)) ∧
      (∀ j, j < n.toNatClampNeg → (∀ i, i < j → zgo σ b (sR σ a (sp.toNatClampNeg + i))) → ¬ zgo σ b (sR σ a (sp.toNatClampNeg + j)) → (sk σ a, sk σ b) ∈ zacL ∧ xT (zac σ a sp.toNatClampNeg b dp.toNatClampNeg j) kc ks S))
section ZR9C
variable {G : ZG} {C : AWC} {Q : Option Value → ZS → Prop} {X : String → Nat → ZS → Prop} {kc ks pc : Nat} {lo : List (Nat × Value)} {st : List Value} {σ : ZS}
theorem z_tagp {k : Nat} (h1 : 10 ≤ k) (h2 : k < 18) : ∀ (σ : ZS) (a j : Nat), (zv (ztg (zeT k)) σ a j).isRef = false := by
  have h9 : k = 10 ∨ k = 11 ∨ k = 12 ∨ k = 13 ∨ k = 14 ∨ k = 15 ∨ k = 16 ∨ k = 17 := by omega
  rcases h9 with rfl | rfl | rfl | rfl | rfl | rfl | rfl | rfl <;> exact fun _ _ _ => rfl
theorem z_tagr {k : Nat} (h1 : 18 ≤ k) (h2 : k < 24) : ztg (zeT k) = 4 ∧ ∀ r : Option Nat, fits (zeT k) (va_rf r) = true := by
  have h9 : k = 18 ∨ k = 19 ∨ k = 20 ∨ k = 21 ∨ k = 22 ∨ k = 23 := by omega
  rcases h9 with rfl | rfl | rfl | rfl | rfl | rfl <;> exact ⟨rfl, fun r => by cases r <;> rfl⟩
theorem aw_acp {x y : Option Nat} {sp dp n : Int32} {ix : Nat} {K : ZS → Prop} {N B S : ZS → Nat → Nat → Nat → Prop} (d : decode C.2.1 pc = .ok (.invokestatic ix, 3)) (q1 : Cond.methodLink C.1 ix arraycopyName ∈ lw_all) (q2 : Cond.native arraycopyName ∈ lw_all) (q3 : Cond.static arraycopyName ∈ lw_all) (q4 : Cond.initialized "java/lang/System" ∈ lw_all) (hr : st.length ≤ 80) (h : acx σ kc ks x sp y dp n K N B S) (kk : ∀ σ, K σ → AW G C Q X kc ks (pc + 3) lo st σ) (kn : ∀ σ q kc ks, N σ q kc ks → AX G C Q X kc ks pc lo σ eNPE q) (kb : ∀ σ q kc ks, B σ q kc ks → AX G C Q X kc ks pc lo σ eAIO q) (kx : ∀ σ q kc ks, S σ q kc ks → AX G C Q X kc ks pc lo σ eASE q) : AW G C Q X kc ks pc lo (.int n :: .int dp :: va_rf y :: .int sp :: va_rf x :: st) σ := by
  intro p l e R s m args below meth c H locs cells slots mc ms ls hX hσ hl hc hs
  have hr9 := cat_sum st
  have hfr := hX.2.2.1.2.2.1
  have hlo := hX.2.2.1.2.2.2
  have hmc := hX.2.2.1.1
  have hms := hX.2.2.1.2.1
  unfold zfr at hfr
  unfold zlo at hlo
  have hw5 : nativeFrameWords "java/lang/System" "arraycopy" 5 = 7 := by decide
  have w1 := hX.1.2.2.2.2 _ q1
  have w2 := hX.1.2.2.2.2 _ q2
  have w3 := hX.1.2.2.2.2 _ q3
  have w4 := hX.1.2.2.2.2 _ q4
  by_cases hxy : x = none ∨ y = none
  · obtain ⟨⟨b1, b2⟩, b3⟩ := h.1 hxy
    intro T hT Y
    obtain ⟨S', q, XS, ⟨⟨ce, c1, c2, c3⟩, c4, c5, hX1⟩, stp⟩ := zr_acx Y hX.1.1 hX.1.2.2.2.1 w1 w2 w3 w4 (src := va_rf x) (dst := va_rf y) (srcPos := sp) (destPos := dp) (n := n) (by cases x <;> rfl) (by cases y <;> rfl) (g := F0 m pc ls (.int n :: .int dp :: va_rf y :: .int sp :: va_rf x :: st)) rfl (hl.1.trans hX.1.2.2.1.symm) (rest := st) rfl (by rw [hX.1.2.1]; exact d) (by omega) (by show 2 * 0 + _ + (_ + 11) ≤ _; rw [hw5]; omega) (cls := eNPE) (msg := none) (TT := fun u => u) (fun _ _ => rfl) (fun _ => rfl) (locs2 := locs) (fun vm' h => h)
      (fun vm' hA fs E hE => by
        cases x with
        | none => exact Jvm.W.arraycopy_null1 sp dp n (va_rf y) (hE _)
        | some a =>
          cases y with
          | none => exact Jvm.W.arraycopy_null2 a sp dp n (hE _)
          | some b => rcases hxy with h | h <;> cases h)
      (fun vm' nf hnf XT => z_nnpe hX hl hr (by omega) (by omega) (show (T.setVm vm').heap = H from hT) XT hnf)
    obtain ⟨t, a1, b1⟩ := kn _ _ _ _ (b3 S'.heap.size q (Nat.le_trans hσ.2.1 c4)) _ _ _ _ _ _ _ _ _ _ _ _ _ _ _ _ _ _ ce hX1 (hσ.grow c4 c5) hl (by omega) (by omega) c1 c2 c3 S' rfl XS
    exact ⟨t, stp t a1, b1⟩
  obtain ⟨a, rfl⟩ : ∃ a, x = some a := by cases x with | none => exact absurd (Or.inl rfl) hxy | some a => exact ⟨a, rfl⟩
  obtain ⟨b, rfl⟩ : ∃ b, y = some b := by cases y with | none => exact absurd (Or.inr rfl) hxy | some b => exact ⟨b, rfl⟩
  obtain ⟨ha, hb, ⟨hna, hnb⟩, hS, hB, hP, hF⟩ := h.2 a b rfl rfl
  obtain ⟨u1, u2, u3⟩ := z_arr hX hσ (a := a) ha.1 ha.2
  obtain ⟨v1, v2, v3⟩ := z_arr hX hσ (a := b) hb.1 hb.2
  obtain ⟨-, -, kA, kca, compa, ka1, ka2, ka3, -⟩ := hX.2.2.2.1.2.2.1 (sk σ a) ha.1 ha.2
  obtain ⟨-, -, kB, kcb, compb, kb1, kb2, kb3, -⟩ := hX.2.2.2.1.2.2.1 (sk σ b) hb.1 hb.2
  obtain ⟨fa, hfa⟩ : ∃ f, f = zv (ztg (zeT (sk σ a))) σ a := ⟨_, rfl⟩
  obtain ⟨fb, hfb⟩ : ∃ f, f = zv (ztg (zeT (sk σ b))) σ b := ⟨_, rfl⟩
  have u1' : H[a]? = some (arrV (G.2.1 (sk σ a)) (sn σ a) (fun j => fa j)) := by rw [hfa]; exact u1
  have v1' : H[b]? = some (arrV (G.2.1 (sk σ b)) (sn σ b) (fun j => fb j)) := by rw [hfb]; exact v1
  by_cases hm : zmix (sk σ a) (sk σ b)
  · have hty := zmix_yes hm ha hb
    by_cases hz : zin sp dp n (sn σ a) (sn σ b)
    · have hcp : ∀ j, sp.toNatClampNeg + j ≤ sn σ a → (arrV (G.2.1 (sk σ b)) (sn σ b) (fun j => fb j)).storeRun dp.toNatClampNeg ((arrV (G.2.1 (sk σ a)) (sn σ a) (fun j => fa j)).stretch sp.toNatClampNeg j) = arrV (G.2.1 (sk σ b)) (sn σ b) (fun q => va_cpy fa fb sp.toNatClampNeg dp.toNatClampNeg j q) := fun j hj => va_copied (fun z => z) _ _ fa fb hj
      have htag : ztg (zeT (sk σ a)) = ztg (zeT (sk σ b)) := by
        rcases hm with hm | ⟨hm1, hm2⟩
        · rw [hm]
        · rw [(z_tagr hm1 ha.2).1, (z_tagr hm2 hb.2).1]
      have hread : ∀ i, i < n.toNatClampNeg → (arrV (G.2.1 (sk σ a)) (sn σ a) (fun j => fa j)).slots.getD (sp.toNatClampNeg + i) .null = fa (sp.toNatClampNeg + i) := fun i hi => by
        have := hz.2.2.2.1
        rw [Array.getD_eq_getD_getElem?, arrV_read _ _ (by omega)]
        rfl
      have hl4 : ¬ sp.toInt + n.toInt > ((arrV (G.2.1 (sk σ a)) (sn σ a) (fun j => fa j)).slots.size : Int) := by
        have := hz.2.2.2.1
        rw [znn hz.1, znn hz.2.2.1, arrV_size]; omega
      have hl5 : ¬ dp.toInt + n.toInt > ((arrV (G.2.1 (sk σ b)) (sn σ b) (fun j => fb j)).slots.size : Int) := by
        have := hz.2.2.2.2
        rw [znn hz.2.1, znn hz.2.2.1, arrV_size]; omega
      have hrel : ∀ (H' : Heap) (j : Nat), sp.toNatClampNeg + j ≤ sn σ a → H' = H.setIfInBounds b (arrV (G.2.1 (sk σ b)) (sn σ b) (fun q => va_cpy fa fb sp.toNatClampNeg dp.toNatClampNeg j q)) → zREL G (zac σ a sp.toNatClampNeg b dp.toNatClampNeg j) H' ∧ H'.size = H.size ∧ (∀ q, q ≠ b → H'[q]? = H[q]?) := by
        intro H' j hj hH'
        have hlb : b < H.size := (Array.getElem?_eq_some_iff.mp v1').1
        have e2 : H'.size = H.size := by rw [hH']; simp
        have e3 : ∀ q, q ≠ b → H'[q]? = H[q]? := fun q hq => by rw [hH']; simp [Array.getElem?_setIfInBounds, Ne.symm hq]
        refine ⟨hσ.ac hb.1 ?_ e2 e3, e2, e3⟩
        rw [hH']
        have e4 : fa = zv (ztg (zeT (sk σ b))) σ a := by rw [hfa, htag]
        rw [← e4, ← hfb]
        simp [Array.getElem?_setIfInBounds, hlb]
      have hgood : (∀ vm', s.vm.Alike vm' → ∀ T : State, T.heap = H → ∀ i, i < n.toNatClampNeg → fits (zeT (sk σ b)) (fa (sp.toNatClampNeg + i)) = true ∧ (T.setVm vm').takes compb (fa (sp.toNatClampNeg + i))) → K (zac σ a sp.toNatClampNeg b dp.toNatClampNeg n.toNatClampNeg) → W p l e R s m args below meth c H locs cells slots (zx_MQ below (zQ G Q) (zXC G X) args s mc ms (zfree G)) (F0 m pc ls (.int n :: .int dp :: .ref b :: .int sp :: .ref a :: st)) := by
        intro hval hK T hT Y
        obtain ⟨vm', X', step⟩ := Y.arraycopy hX.1.1 hX.1.2.2.2.1 w1 w2 w3 w4 (src := a) (dst := b) (srcPos := sp) (destPos := dp) (n := n) (by rw [hT]; exact u1') (by rw [hT]; exact v1') (fun _ h => by cases h) (fun _ h => by cases h) (fun h => by cases h) (fun h => by cases h) ka1 kb1 ka2 kb2 hty hz.1 hz.2.1 hz.2.2.1 hl4 hl5
          (fun vm₁ hal i hi => by rw [hread i hi]; exact hval vm₁ hal T hT i hi) (g := F0 m pc ls (.int n :: .int dp :: .ref b :: .int sp :: .ref a :: st)) rfl (hl.1.trans hX.1.2.2.1.symm) (rest := st) rfl (by rw [hX.1.2.1]; exact d) (by omega) (by show 2 * 0 + _ + (_ + 11) ≤ _; rw [hw5]; omega)
        have e1 : copied (arrV (G.2.1 (sk σ a)) (sn σ a) (fun j => fa j)) (arrV (G.2.1 (sk σ b)) (sn σ b) (fun j => fb j)) sp dp n = arrV (G.2.1 (sk σ b)) (sn σ b) (fun q => va_cpy fa fb sp.toNatClampNeg dp.toNatClampNeg n.toNatClampNeg q) := hcp _ hz.2.2.2.1
        rw [e1] at X' step
        obtain ⟨r1, r2, r3⟩ := hrel ((T.setVm vm').setCell b (arrV (G.2.1 (sk σ b)) (sn σ b) (fun q => va_cpy fa fb sp.toNatClampNeg dp.toNatClampNeg n.toNatClampNeg q))).heap _ hz.2.2.2.1 (by rw [← hT]; rfl)
        have hSS := hX.2.2.2.2
        obtain ⟨t, a1, b1⟩ := kk _ hK _ _ _ _ _ _ _ _ _ _ _ _ _ _ _ _ _ (z_grow hX ⟨by rw [r2]; exact hSS.1, fun q g1 g2 => by
            rw [r3 q (fun e => g2 (by rw [e]; exact v3))]
            exact hSS.2.1 q g1 g2, fun q hq => by
            rcases List.mem_append.mp hq with h | h
            · exact hSS.2.2 q h
            · obtain ⟨z, -, hz⟩ := List.mem_map.mp h
              rw [← hz]
              exact v3⟩) r1 hl hc hs _ rfl X'
        exact ⟨t, step t a1, b1⟩
      by_cases hp : sk σ a < 18
      · obtain ⟨p1, p2⟩ := hP hm hz hp
        have hkk : sk σ a = sk σ b := by
          rcases hm with hm | hm
          · exact hm
          · omega
        refine hgood (fun vm' hA T hT i hi => ?_) p2
        have e4 : fa = zv (ztg (zeT (sk σ b))) σ a := by rw [hfa, htag]
        refine ⟨by rw [e4]; exact p1 i hi, ?_⟩
        have h9 := z_tagp ha.1 hp σ a (sp.toNatClampNeg + i)
        rw [← hfa] at h9
        cases hv : fa (sp.toNatClampNeg + i) with
        | ref z => rw [hv] at h9; cases h9
        | _ => exact trivial
      · have hp18 : 18 ≤ sk σ a := by omega
        have hb18 : 18 ≤ sk σ b := by
          rcases hm with hm | hm
          · omega
          · exact hm.2
        obtain ⟨f1, f2, f3⟩ := hF hm hz hp18
        have hfr4 : ∀ j, fa j = va_rf (sR σ a j) := fun j => by rw [hfa, (z_tagr hp18 ha.2).1]; rfl
        obtain ⟨kB2, kcb2, compb2, t1, t2, t3, t4⟩ := z_elc hX hb18 hb.2
        cases kb1.symm.trans t1
        have hcc : compb = compb2 := by
          have e3 := kb2.symm.trans t2
          injection e3
        subst hcc
        cases kb3.symm.trans t3
        obtain ⟨kA2, kca2, compa2, s1, s2, s3, s4⟩ := z_elc hX hp18 ha.2
        cases ka1.symm.trans s1
        have hcc : compa = compa2 := by
          have e3 := ka2.symm.trans s2
          injection e3
        subst hcc
        cases ka3.symm.trans s3
        have htake : ∀ i, i < n.toNatClampNeg → zgo σ b (sR σ a (sp.toNatClampNeg + i)) → ∀ vm', s.vm.Alike vm' → ∀ T : State, T.heap = H → fits (zeT (sk σ b)) (fa (sp.toNatClampNeg + i)) = true ∧ (T.setVm vm').takes compb (fa (sp.toNatClampNeg + i)) := by
          intro i hi hg vm' hal T hT
          rw [hfr4]
          refine ⟨(z_tagr hb18 hb.2).2 _, ?_⟩
          cases hy : sR σ a (sp.toNatClampNeg + i) with
          | none => exact trivial
          | some y =>
            have g1 := f1 i hi y hy
            obtain ⟨cv, c1, c2, c3⟩ := z_cls hX hσ rfl (zck_rng g1)
            obtain ⟨ct, e1, e2⟩ := z_asg2 hX g1 c3
            cases e1.symm.trans t4
            obtain ⟨kC, hkC, -⟩ := Vm.findClass_spec c3
            obtain ⟨kC', hkC', -⟩ := hal.2.2 _ _ hkC
            obtain ⟨kE', hkE', -⟩ := hal.2.2 _ _ kb3
            refine ⟨cv, (show T.heap[y]? = some cv by rw [hT]; exact c1), (fun q h => by rw [c2] at h; cases h), ⟨kC', hkC'⟩, ⟨kE', hkE'⟩, ?_⟩
            show vm'.assignable _ _ = true
            rw [hal.assignable, e2]
            exact hg y hy
        by_cases hall : ∀ i, i < n.toNatClampNeg → zgo σ b (sR σ a (sp.toNatClampNeg + i))
        · exact hgood (fun vm' hA T hT i hi => htake i hi (hall i hi) vm' hA T hT) (f2 hall)
        · obtain ⟨j, j1, j2, j3⟩ := zleast (fun i => zgo σ b (sR σ a (sp.toNatClampNeg + i))) _ hall
          obtain ⟨hL, ⟨⟨b1, b2⟩, b3⟩⟩ := f3 j j1 j2 j3
          have hj9 : sp.toNatClampNeg + j ≤ sn σ a := by have := hz.2.2.2.1; omega
          obtain ⟨bad, hbad, hnog⟩ : ∃ bad, sR σ a (sp.toNatClampNeg + j) = some bad ∧ zsub (sk σ bad) (zec (sk σ b)) = false := by
            cases hy : sR σ a (sp.toNatClampNeg + j) with
            | none => exact absurd (fun z hz => by rw [hy] at hz; cases hz) j3
            | some bad =>
              refine ⟨bad, rfl, ?_⟩
              cases hq : zsub (sk σ bad) (zec (sk σ b)) with
              | false => rfl
              | true => exact absurd (fun z hz => by rw [hy] at hz; cases hz; exact hq) j3
          have g1 := f1 j j1 bad hbad
          obtain ⟨cv, c1, c2, c3⟩ := z_cls hX hσ rfl (zck_rng g1)
          obtain ⟨ct, e1, e2⟩ := z_asg2 hX g1 c3
          cases e1.symm.trans t4
          obtain ⟨kv, hkv, -⟩ := Vm.findClass_spec c3
          obtain ⟨ka9, hka9, na1, na2, -⟩ := zr_found s4
          cases ka3.symm.trans hka9
          obtain ⟨kb9, hkb9, nb1, nb2, -⟩ := zr_found t4
          cases kb3.symm.trans hkb9
          have hshA : kca.shown = dotted (znm (zec (sk σ a))) := by unfold Class.shown; rw [na2]; show dotted kca.name = _; rw [na1]
          have hshB : kcb.shown = dotted (znm (zec (sk σ b))) := by unfold Class.shown; rw [nb2]; show dotted kcb.name = _; rw [nb1]
          obtain ⟨txt, htxt⟩ : ∃ txt, txt = zrM (s.vm.assignable compb compa) (dotted (znm (zec (sk σ a)))) (dotted (znm (zec (sk σ b)))) := ⟨_, rfl⟩
          obtain ⟨m1, m2, m3⟩ := zrG_use (zrG_all hL (s.vm.assignable compb compa))
          rw [← htxt] at m1 m2 m3
          intro T hT Y
          obtain ⟨TT, hTT⟩ : ∃ TT : State → State, TT = fun u => u.setCell b ((arrV (G.2.1 (sk σ b)) (sn σ b) (fun j => fb j)).storeRun dp.toNatClampNeg ((arrV (G.2.1 (sk σ a)) (sn σ a) (fun j => fa j)).stretch sp.toNatClampNeg j)) := ⟨_, rfl⟩
          have hTTh : ∀ vm', (TT (T.setVm vm')).heap = H.setIfInBounds b (arrV (G.2.1 (sk σ b)) (sn σ b) (fun q => va_cpy fa fb sp.toNatClampNeg dp.toNatClampNeg j q)) := fun vm' => by rw [hTT, ← hcp j hj9, ← hT]; rfl
          obtain ⟨r1, r2, r3⟩ := hrel _ j hj9 rfl
          have hSS := hX.2.2.2.2
          have hX2 : zCT G C mc ms p l R s m args meth c (H.setIfInBounds b (arrV (G.2.1 (sk σ b)) (sn σ b) (fun q => va_cpy fa fb sp.toNatClampNeg dp.toNatClampNeg j q))) (locs ++ ((arrV (G.2.1 (sk σ a)) (sn σ a) (fun j => fa j)).stretch sp.toNatClampNeg j).zipIdx.map fun q => ⟨b, dp.toNatClampNeg + q.2⟩) := z_grow hX ⟨by rw [r2]; exact hSS.1, fun q g1 g2 => by
            rw [r3 q (fun e => g2 (by rw [e]; exact v3))]
            exact hSS.2.1 q g1 g2, fun q hq => by
            rcases List.mem_append.mp hq with h | h
            · exact hSS.2.2 q h
            · obtain ⟨z, -, hz⟩ := List.mem_map.mp h
              rw [← hz]
              exact v3⟩
          obtain ⟨S', q, XS, ⟨⟨ce, d1, d2, d3⟩, d4, d5, hX1⟩, stp⟩ := zr_acx Y hX.1.1 hX.1.2.2.2.1 w1 w2 w3 w4 (src := .ref a) (dst := .ref b) (srcPos := sp) (destPos := dp) (n := n) rfl rfl (g := F0 m pc ls (.int n :: .int dp :: .ref b :: .int sp :: .ref a :: st)) rfl (hl.1.trans hX.1.2.2.1.symm) (rest := st) rfl (by rw [hX.1.2.1]; exact d) (by omega) (by show 2 * 0 + _ + (_ + 11) ≤ _; rw [hw5]; omega) (cls := eASE) (msg := some txt) (TT := TT) (fun _ _ => by rw [hTT]; rfl) (fun _ => by rw [hTT]; rfl)
            (locs2 := locs ++ ((arrV (G.2.1 (sk σ a)) (sn σ a) (fun j => fa j)).stretch sp.toNatClampNeg j).zipIdx.map fun q => ⟨b, dp.toNatClampNeg + q.2⟩) (fun vm' h => by rw [hTT]; exact h.storedRun (show (T.setVm vm').heap[b]? = _ by show T.heap[b]? = _; rw [hT]; exact v1') _ _)
            (fun vm' hA fs E hE => by
              obtain ⟨kA', hkA', heA⟩ := hA.2.2 _ _ ka1
              obtain ⟨kB', hkB', heB⟩ := hA.2.2 _ _ kb1
              obtain ⟨kca', hkca', heca⟩ := hA.2.2 _ _ ka3
              obtain ⟨kcb', hkcb', hecb⟩ := hA.2.2 _ _ kb3
              obtain ⟨kv', hkv', -⟩ := hA.2.2 _ _ hkv
              have hmsg : copyRefused vm' compa compb kca' kcb' = txt := by
                rw [zrM_eq (a := dotted (znm (zec (sk σ a)))) (c := dotted (znm (zec (sk σ b)))) (by rw [heca]; exact hshA) (by rw [hecb]; exact hshB), hA.assignable, ← htxt, m1]
              refine Jvm.W.arraycopy_refused (s := (T.setVm vm').setFrames fs) (j := j) (bad := bad) (cb := cv) (show T.heap[a]? = _ by rw [hT]; exact u1') (show T.heap[b]? = _ by rw [hT]; exact v1') (fun _ h => by cases h) (fun _ h => by cases h) (fun h => by cases h) (fun h => by cases h) hkA' hkB' (by rw [heA]; exact ka2) (by rw [heB]; exact kb2) hty hz.1 hz.2.1 hz.2.2.1 hl4 hl5
                (fun i hi => by have h8 := List.mem_range.mp hi; have := hz.2.2.2.1; rw [arrV_size]; omega) j1 (fun i hi => ?_) (by rw [hread j j1, hfr4, hbad]; rfl) (show T.heap[bad]? = _ by rw [hT]; exact c1) (fun q h => by rw [c2] at h; cases h) ⟨kv', hkv'⟩ hkca' hkcb' (by show vm'.assignable _ _ = false; rw [hA.assignable, e2]; exact hnog) (fun acts' => ?_)
              · have hi2 : i < n.toNatClampNeg := by omega
                have h8 := hz.2.2.2.2
                obtain ⟨o1, o2⟩ := htake i hi2 (j2 i hi) vm' hA T hT
                refine ⟨by rw [arrV_size]; omega, ?_, by rw [hread i hi2]; exact o2⟩
                rw [hread i hi2]
                have hq : vm'.classes[(arrV (G.2.1 (sk σ b)) (sn σ b) (fun j => fb j)).cls]? = some kB' := hkB'
                have hkb' : kB'.kind = .array compb (zeT (sk σ b)) := by rw [heB]; exact kb2
                have hvm : (arrV (G.2.1 (sk σ b)) (sn σ b) (fun j => fb j)).vm = .none := rfl
                simpa [State.fitsSlot, State.slotType?, hq, hkb', hvm] using o1
              · have h7 := hE acts'
                rw [hTT] at h7
                show E (.throwNew eASE (some (copyRefused vm' compa compb kca' kcb'))) acts' _
                rw [hmsg]
                exact h7)
            (fun vm' nf hnf XT => z_nvm hX2 (E := eASE) (text := txt) (by decide) hl hr (by omega) (by omega) m2 m3 (hTTh vm') XT hnf)
          obtain ⟨t, a1, b1⟩ := kx _ _ _ _ (b3 S'.heap.size q (Nat.le_trans r1.2.1 d4)) _ _ _ _ _ _ _ _ _ _ _ _ _ _ _ _ _ _ ce hX1 (r1.grow d4 d5) hl (by omega) (by omega) d1 d2 d3 S' rfl XS
          exact ⟨t, stp t a1, b1⟩
    · obtain ⟨⟨b1, b2⟩, b3⟩ := hB hm hz
      obtain ⟨what, hwhat⟩ := zin_no (zeT (sk σ a)) (zeT (sk σ b)) hz
      obtain ⟨m2, m3⟩ := zt_fault hwhat (by omega) (by omega)
      intro T hT Y
      obtain ⟨S', q, XS, ⟨⟨ce, c1, c2, c3⟩, c4, c5, hX1⟩, stp⟩ := zr_acx Y hX.1.1 hX.1.2.2.2.1 w1 w2 w3 w4 (src := .ref a) (dst := .ref b) (srcPos := sp) (destPos := dp) (n := n) rfl rfl (g := F0 m pc ls (.int n :: .int dp :: .ref b :: .int sp :: .ref a :: st)) rfl (hl.1.trans hX.1.2.2.1.symm) (rest := st) rfl (by rw [hX.1.2.1]; exact d) (by omega) (by show 2 * 0 + _ + (_ + 11) ≤ _; rw [hw5]; omega) (cls := eAIO) (msg := some ("arraycopy: " ++ what)) (TT := fun u => u) (fun _ _ => rfl) (fun _ => rfl) (locs2 := locs) (fun vm' h => h)
        (fun vm' hA fs E hE => by
          obtain ⟨kA', hkA', heA⟩ := hA.2.2 _ _ ka1
          obtain ⟨kB', hkB', heB⟩ := hA.2.2 _ _ kb1
          exact Jvm.W.arraycopy_bounds (s := (T.setVm vm').setFrames fs) (show T.heap[a]? = _ by rw [hT]; exact u1') (show T.heap[b]? = _ by rw [hT]; exact v1') (fun _ h => by cases h) (fun _ h => by cases h) hkA' hkB' (by rw [heA]; exact ka2) (by rw [heB]; exact kb2) hty (by rw [arrV_size, arrV_size]; exact hwhat) (hE _))
        (fun vm' nf hnf XT => z_nvm hX (E := eAIO) (by decide) hl hr (by omega) (by omega) m2 m3 (show (T.setVm vm').heap = H from hT) XT hnf)
      obtain ⟨t, a1, b1⟩ := kb _ _ _ _ (b3 S'.heap.size q (Nat.le_trans hσ.2.1 c4)) _ _ _ _ _ _ _ _ _ _ _ _ _ _ _ _ _ _ ce hX1 (hσ.grow c4 c5) hl (by omega) (by omega) c1 c2 c3 S' rfl XS
      exact ⟨t, stp t a1, b1⟩
  · obtain ⟨⟨b1, b2⟩, b3⟩ := hS hm
    have hty := zmix_no hm ha hb
    obtain ⟨m2, m3⟩ := zt_types (zeT (sk σ a)) (zeT (sk σ b))
    intro T hT Y
    obtain ⟨S', q, XS, ⟨⟨ce, c1, c2, c3⟩, c4, c5, hX1⟩, stp⟩ := zr_acx Y hX.1.1 hX.1.2.2.2.1 w1 w2 w3 w4 (src := .ref a) (dst := .ref b) (srcPos := sp) (destPos := dp) (n := n) rfl rfl (g := F0 m pc ls (.int n :: .int dp :: .ref b :: .int sp :: .ref a :: st)) rfl (hl.1.trans hX.1.2.2.1.symm) (rest := st) rfl (by rw [hX.1.2.1]; exact d) (by omega) (by show 2 * 0 + _ + (_ + 11) ≤ _; rw [hw5]; omega) (cls := eASE) (msg := some (toString "arraycopy: type mismatch: can not copy " ++ toString (Native.java_lang_System.arraycopy.kindName (zeT (sk σ a))) ++ toString "[] into " ++ toString (Native.java_lang_System.arraycopy.kindName (zeT (sk σ b))) ++ toString "[]")) (TT := fun u => u) (fun _ _ => rfl) (fun _ => rfl) (locs2 := locs) (fun vm' h => h)
      (fun vm' hA fs E hE => by
        obtain ⟨kA', hkA', heA⟩ := hA.2.2 _ _ ka1
        obtain ⟨kB', hkB', heB⟩ := hA.2.2 _ _ kb1
        exact Jvm.W.arraycopy_types (s := (T.setVm vm').setFrames fs) (show T.heap[a]? = _ by rw [hT]; exact u1') (show T.heap[b]? = _ by rw [hT]; exact v1') (fun _ h => by cases h) (fun _ h => by cases h) hkA' hkB' (by rw [heA]; exact ka2) (by rw [heB]; exact kb2) hty (hE _))
      (fun vm' nf hnf XT => z_nvm hX (E := eASE) (by decide) hl hr (by omega) (by omega) m2 m3 (show (T.setVm vm').heap = H from hT) XT hnf)
    obtain ⟨t, a1, b1⟩ := kx _ _ _ _ (b3 S'.heap.size q (Nat.le_trans hσ.2.1 c4)) _ _ _ _ _ _ _ _ _ _ _ _ _ _ _ _ _ _ ce hX1 (hσ.grow c4 c5) hl (by omega) (by omega) c1 c2 c3 S' rfl XS
    exact ⟨t, stp t a1, b1⟩
end ZR9C
