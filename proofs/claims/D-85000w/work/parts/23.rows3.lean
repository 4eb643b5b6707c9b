/-! L1j: rows that the kit lacks (printed by gen/mkrows3.py) -/
theorem zr_ldcwF {p : Program} {l : Launch} {e : Env} {R : Room} {s : State} {m : MethodId} {args : Array Value} {below : List Frame} {meth : Method} {c : Code} {T : State} {locs : List Loc} {cells slots : Nat} (X : Stand p l e R s m args below meth c T locs cells slots) (hexec : p.tables.exec = Jvm.exec) {own : String} {index : Nat} {b : UInt32} (hown : s.vm.findClass own = some m.cls)
    (hconst : (Cond.constantFloat own index b).before args s = true) {g : JFrame} (hg : g.method = m) (hdg : decode c.code g.pc = .ok (.ldc_w index, 3)) :
    ∀ target, Steps p.tables e below (T.setTop { g with pc := g.pc + 3, stack := .float b :: g.stack }) target → Steps p.tables e below (T.setTop g) target := by
  obtain ⟨k, cf, hk, hcf, hcp⟩ := Cond.constantFloat_spec hown hconst
  obtain ⟨k', hk', he⟩ := X.warmed.alike.2.2 _ _ hk
  intro target hrest
  subst hg
  jvm_step X.here [hexec, hdg, ldc_w.wp_float (s := T) (f := g) X.here.top hk' (by rw [he]; exact hcf) hcp]
  exact hrest
theorem aw_ldcfw {G : ZG} {C : AWC} {Q : Option Value → ZS → Prop} {X : String → Nat → ZS → Prop} {kc ks pc : Nat} {lo : List (Nat × Value)} {st : List Value} {σ : ZS} {ix : Nat} {v : UInt32} (d : decode C.2.1 pc = .ok (.ldc_w ix, 3)) (q : Cond.constantFloat C.1 ix v ∈ lw_all) (k : AW G C Q X kc ks (pc + 3) lo (.float v :: st) σ) : AW G C Q X kc ks pc lo (st) σ := by
  intro p l e R s m args below meth c H locs cells slots mc ms ls hX hσ hl hc hs
  intro T hT Y
  obtain ⟨t, a, b⟩ := (k _ _ _ _ _ _ _ _ _ _ _ _ _ _ _ _ _ hX hσ hl hc hs) T hT Y
  exact ⟨t, zr_ldcwF Y hX.1.1 hX.1.2.2.2.1 (hX.1.2.2.2.2 _ q) (g := F0 m pc ls st) rfl (by rw [hX.1.2.1]; exact d) t a, b⟩
section ZR3D
variable {p : Program} {l : Launch} {e : Env} {R : Room} {s : State} {m : MethodId} {args : Array Value} {below : List Frame} {meth : Method} {c : Code} {locs : List Loc} {cells slots : Nat}
theorem zr_callFD {T : State} (X : Stand p l e R s m args below meth c T locs cells slots) (hexec : p.tables.exec = Jvm.exec) {own C : String} {index count : Nat} {x y : MethodName} {bytes : ByteArray} {maxL : Nat} {ret : Option FieldType}
    (hown : s.vm.findClass own = some m.cls) (hlink : (Cond.methodLink own index x).before args s = true) (hdecl : (Cond.declares x).before args s = true) (hface : (Cond.interfaceMethod x.cls x.cls x.name x.desc).before args s = true)
    (hsel : (Cond.landsInDefault C x y).before args s = true) (hinst : (Cond.instanceMethod y).before args s = true) (hpub : (Cond.publicMethod y).before args s = true)
    (hcast : (Cond.castable C x.cls).before args s = true) (hcode : (Cond.code y bytes maxL ret).before args s = true) (hx : x.cls ≠ "java/lang/invoke/MethodHandle" ∧ x.cls ≠ "java/lang/invoke/VarHandle")
    {W9 : Nat} {Pre : Pt → Array Value → Prop} {Post : Pt → Array Value → Option Value → Pt → Prop} {PostX : Pt → Array Value → Addr → Pt → Prop} (hK : vx_Back l R p e below s args y 5 W9 Pre Post PostX)
    {b : Addr} {cellB : Cell} {kB : Class} (hcell : T.heap[b]? = some cellB) (hobj : cellB.vm.isStatics = false) (hcls : s.vm.findClass C = some cellB.cls) (hkB : s.vm.classes[cellB.cls]? = some kB)
    {g : JFrame} (hg : g.method = m) (hsize : g.locals.size = c.maxLocals) {argsL rest : List Value} (hlen : ∀ sig, parseMethodDescriptor x.desc = some sig → argsL.length = sig.parameters.length)
    (hstack : g.stack = argsL.reverse ++ .ref b :: rest) (hW : 2 * g.monitorRoom + (rest.map fun v => v.category).sum ≤ W9) (hdg : decode c.code g.pc = .ok (.invokeinterface index count, 5))
    (hpre : ∀ vm₁, s.WarmedH vm₁ → Pre ⟨T.setVm vm₁, locs, cells, slots⟩ (Value.ref b :: argsL).toArray) :
    (∃ (v : Option Value) (vm₁ : Vm) (B : Pt), s.WarmedH vm₁ ∧ Stand p l e R s m args below meth c B.U B.locs B.cells B.slots ∧ Post ⟨T.setVm vm₁, locs, cells, slots⟩ (Value.ref b :: argsL).toArray v B ∧
      ∀ target, Steps p.tables e below (B.U.setTop { g with pc := g.pc + 5, stack := v.toList ++ rest }) target → Steps p.tables e below (T.setTop g) target) ∨
    (∃ (q : Addr) (vm₁ : Vm) (B : Pt), s.WarmedH vm₁ ∧ Stand p l e R s m args below meth c B.U B.locs B.cells B.slots ∧ PostX ⟨T.setVm vm₁, locs, cells, slots⟩ (Value.ref b :: argsL).toArray q B ∧
      Steps p.tables e below (T.setTop g) ((B.U.setTop { g with stack := rest }).pushFrame (.throwing q))) := by
  obtain ⟨r0, r, hn, hrm, hstR, hsigR⟩ := Cond.declares_spec hdecl
  obtain ⟨cL, kL, r1, hcL, hkL, hiL, hfoundL, hn1⟩ := Cond.interfaceMethod_spec hface
  cases hn.symm.trans hn1
  have hr0cls : r0.cls = cL := Option.some.inj ((findClass_of_methodNamed hn).symm.trans hcL)
  obtain ⟨hnameR, hdescR⟩ := name_of_methodNamed hn hrm
  obtain ⟨mk, methM, hnamed, hmethM, -, habM⟩ := Cond.instanceMethod_spec hinst
  obtain ⟨c2, r2, m2, rm, q1, q2, q3, q5, q4, -, q6, -⟩ := Cond.landsInDefault_spec hsel
  cases hcls.symm.trans q1
  cases hfoundL.symm.trans q2
  cases hnamed.symm.trans q3
  cases hrm.symm.trans q5
  have hselP : selectMethod e.platform s.vm cellB.cls r0 = .method mk := by rw [Launch.admits_selectMethod X.admits]; exact q4
  have hpubM : hasFlag methM.accessFlags Acc.public_ = true := Cond.publicMethod_spec hnamed hmethM hpub
  have hway : ((cellB.cls :: s.vm.superclasses cellB.cls).any fun k => (declaredIn s.vm r.name r.desc k).any fun (_, z) => z.isPrivate || z.isStatic) = false := by
    exact q6
  obtain ⟨c3, t3, w1, w2, w3⟩ := Cond.castable_spec hcast
  cases hcls.symm.trans w1
  cases hcL.symm.trans w2
  obtain ⟨vm₁, X₁, hstep₁⟩ := X.invokeinterface hexec hown hlink hn hrm hstR (by rw [hr0cls]; exact hkL) hiL hx (a := b) (cell := cellB) (kcell := kB) hcell
    (fun z h => by rw [h] at hobj; cases hobj) hkB (by rw [hr0cls]; exact w3) hselP hmethM hway hpubM habM (g := g) hg (argsL := argsL) (rest := rest) (hlen _ hsigR) hstack hdg
  rcases hK m meth c ⟨T.setVm vm₁, locs, cells, slots⟩ { g with stack := rest } (.invokeinterface index count) mk (Value.ref b :: argsL).toArray X₁ hg hsize hdg hW (X₁.named hnamed) (hpre vm₁ X₁.warmed) with ⟨v, B, X', hpost, hsteps⟩ | ⟨q, B, X', hpost, hsteps⟩
  · exact Or.inl ⟨v, vm₁, B, X₁.warmed, X', hpost, fun target h => hstep₁ _ fun acts => by rw [doInvoke_state]; exact hsteps.trans h⟩
  · exact Or.inr ⟨q, vm₁, B, X₁.warmed, X', hpost, hstep₁ _ fun acts => by rw [doInvoke_state]; exact hsteps⟩
end ZR3D
section ZR3A
variable {p : Program} {l : Launch} {e : Env} {R : Room} {s : State} {m : MethodId} {args : Array Value} {below : List Frame} {meth : Method} {c : Code} {T : State} {locs : List Loc} {cells slots : Nat}
/-- invokevirtual on null, the method found above the class that is named -/
theorem zr_vnull (X : Stand p l e R s m args below meth c T locs cells slots) (hexec : p.tables.exec = Jvm.exec)
    {own owner : String} {index : Nat} {x : MethodName} (hown : s.vm.findClass own = some m.cls) (hlink : (Cond.methodLink own index x).before args s = true)
    (hsame : (Cond.sameMethod x.cls owner x.name x.desc).before args s = true) (howner : owner ≠ "java/lang/invoke/MethodHandle" ∧ owner ≠ "java/lang/invoke/VarHandle")
    {r0 : MethodId} {r : Method} (hn : s.methodNamed? ⟨owner, x.name, x.desc⟩ = some r0) (hrm : s.vm.method? r0 = some r) (hstatic : r.isStatic = false) {g : JFrame} (hg : g.method = m) {argsL rest : List Value} (hl9 : argsL.length = r.sig.parameters.length) (hstack : g.stack = argsL.reverse ++ .null :: rest)
    (hdg : decode c.code g.pc = .ok (.invokevirtual index, 3)) :
    ∃ vm', Stand p l e R s m args below meth c (T.setVm vm') locs cells slots ∧
      ∀ target, Steps p.tables e below (((T.setVm vm').setTop { g with stack := rest }).pushFrame (.throwNew "java/lang/NullPointerException" none none)) target → Steps p.tables e below (T.setTop g) target := by
  have hpl : e.platform.magicAccessors = ({} : Platform).magicAccessors := by rw [X.admits.platform]
  obtain ⟨cn, ck, r1, hcn, hck, hni, hf, hn1⟩ := Cond.sameMethod_found hsame
  cases hn.symm.trans hn1
  obtain ⟨ci, hl, hright⟩ := Cond.methodLink_specUp hown hcn hck hni hf hlink e.platform hpl (by rw [X.admits.platform])
  have hE : s.MethodEntryUp e T.vm m.cls index cn r0 ci := State.methodEntryUp X.warmed hl hright
  obtain ⟨kr, hkr, hnr⟩ := className_of_methodNamed hn
  obtain ⟨dk, cfile, nt, _, _, _, _, _, hd, hcf, hcp, -⟩ := hl.here
  have alike := hE.warmed.alike
  obtain ⟨dk₂, hdk₂, hres⟩ := hE.classReady
  obtain ⟨dk₃, hdk₃, hed⟩ := alike.2.2 _ _ hd
  cases hdk₂.symm.trans hdk₃
  obtain ⟨kr₂, hkr₂, her⟩ := alike.2.2 _ _ hkr
  obtain ⟨ck₂, hck₂, hec⟩ := alike.2.2 _ _ hck
  refine ⟨T.vm.calledUp m.cls ci index cn r0, X.noted hE.warmed, fun target hrest => ?_⟩
  subst hg
  jvm_step X.here [hexec, hdg, invokevirtual.wp_coldUp (e := e) (s := T) (s₀ := s) (f := g) X.here.top X.warmed hE hd hcf (Or.inl hcp) hck hni,
    invokevirtual.wp_namedNull (e := e) (s := T.setVm (T.vm.calledUp g.method.cls ci index cn r0)) (f := g) (r := r0) (c' := cn) (k := kr₂) (k' := ck₂) (rmeth := r) (args := argsL) (rest := rest)
      X.here.top ⟨dk₂, cfile, ci, nt, hdk₂, by rw [hed]; exact hcf, Or.inl hcp, dk₂, hdk₂, hres⟩ hck₂ (by rw [hec]; exact hni) hE.ready hkr₂
      (by show (T.vm.calledUp g.method.cls ci index cn r0).method? r0 = some r; rw [alike.method?]; exact hrm)
      (by rw [her]; show signaturePolymorphic kr r = false; simp [signaturePolymorphic, hnr, howner.1, howner.2]) hstatic hl9 hstack, nullPointer]
  exact hrest
/-! a checkcast that fails -/
theorem zr_found {vm : Vm} {nm : String} {cc : ClassId} (h : vm.findClass nm = some cc) : ∃ k : Class, vm.classes[cc]? = some k ∧ k.name = nm ∧ k.hidden = none ∧ k.loader = none ∧ True := by
  obtain ⟨hlt, hp, _⟩ := Array.findIdx?_eq_some_iff_getElem.mp h
  simp only [Bool.and_eq_true, beq_iff_eq, Option.isNone_iff_eq_none] at hp
  exact ⟨vm.classes[cc], by simp [hlt], hp.1.1.1, hp.1.1.2, hp.2, trivial⟩
theorem zr_bl {s : String} (h : ∀ c ∈ s.toList, c ≠ '/') : beforeLast '/' s = "" := by
  unfold beforeLast
  have h1 : s.toList.reverse.dropWhile (· != '/') = [] := by
    have key : ∀ l : List Char, (∀ c ∈ l, c ≠ '/') → l.dropWhile (· != '/') = [] := by
      intro l
      induction l with
      | nil => intro _; rfl
      | cons a r ih =>
        intro hh
        have ha : (a != '/') = true := bne_iff_ne.mpr (hh a List.mem_cons_self)
        rw [List.dropWhile_cons, if_pos ha]
        exact ih fun c hc => hh c (List.mem_cons_of_mem _ hc)
    exact key _ fun c hc => h c (List.mem_reverse.mp hc)
  rw [h1]
theorem zr_pkg {s : String} (h : s.toList.all (fun c => c != '/') = true) : packageOf s = "" := by
  have h0 : ∀ c ∈ (withoutBrackets s).toList, c ≠ '/' := by
    intro c hc
    unfold withoutBrackets at hc
    rw [String.toList_ofList] at hc
    exact bne_iff_ne.mp (List.all_eq_true.mp h c ((List.dropWhile_sublist _).subset hc))
  unfold packageOf
  show beforeLast '/' (if _ then _ else _) = ""
  split
  · refine zr_bl fun c hc => ?_
    have h2 : c ∈ ((withoutBrackets s).drop 1).copy.toList := hc
    rw [String.toList_copy_drop] at h2
    exact h0 c (List.mem_of_mem_drop h2)
  · exact zr_bl h0
def zhJ : String := "module java.base of loader 'bootstrap'"
def zhU : String := "unnamed module of loader 'bootstrap'"
theorem zr_home {vm : Vm} (h : (vm.modules.all fun m => m.loader.isSome || m.name == "java.base" || !(["", "java/lang"].any fun p => m.packages.contains p)) = true) {k : Class} (hl : k.loader = none) (hp : packageOf k.name = "") : vm.home k = zhJ ∨ vm.home k = zhU := by
  have h1 : vm.home k = (match vm.moduleOf k with | some m => "module " ++ m.name | none => "unnamed module") ++ " of loader " ++ vm.loaderName k.loader := rfl
  rw [h1, hl]
  cases hm : vm.moduleOf k with
  | none => exact Or.inr rfl
  | some md =>
    refine Or.inl ?_
    have hn : md.name = "java.base" := by
      unfold Vm.moduleOf at hm
      split at hm
      · have h2 := List.find?_some hm
        exact eq_of_beq h2
      · have h2 := List.find?_some hm
        have h3 := List.all_eq_true.mp h md (List.mem_of_find?_eq_some hm)
        simp only [Bool.and_eq_true, beq_iff_eq] at h2
        rw [hl, hp] at h2
        simp only [h2.1, List.any_cons, h2.2, Option.isSome_none, Bool.false_or, Bool.true_or, Bool.not_true, Bool.or_false, beq_iff_eq] at h3
        exact h3
    show "module " ++ md.name ++ " of loader " ++ "'bootstrap'" = zhJ
    rw [hn]
    decide +kernel
def zcM (a b h : String) : String := toString "class " ++ toString a ++ toString " cannot be cast to class " ++ toString b ++ toString " (" ++ toString h ++ toString ")"
def zcS (a b h : String) : String := toString a ++ toString " and " ++ toString b ++ toString " are in " ++ toString h
def zcD (a b h k : String) : String := toString a ++ toString " is in " ++ toString h ++ toString "; " ++ toString b ++ toString " is in " ++ toString k
def zcH (a b : String) (w : Nat) : String := match w with
  | 0 => zcS a b zhJ
  | 1 => zcS a b zhU
  | 2 => zcD a b zhJ zhJ
  | 3 => zcD a b zhJ zhU
  | 4 => zcD a b zhU zhJ
  | _ => zcD a b zhU zhU
def zcX (a b : String) (w : Nat) : String := zcM (dotted a) (dotted b) (zcH (dotted a) (dotted b) w)
/-- the casts that may fail -/
def zccL : List (Nat × Nat) := ([10, 11, 12, 13, 14, 15, 16, 17, 23].map fun k => (k, 20)) ++ ([10, 11, 12, 13, 14, 15, 16, 17, 20, 21, 22].map fun k => (k, 23)) ++ [(8, 24), (6, 8), (7, 8)]
theorem zcc_pk : zccL.all (fun q => (znm q.1).toList.all (fun c => c != '/') && (znm q.2).toList.all (fun c => c != '/')) = true := by decide +kernel
theorem zcc_ln : zccL.all (fun q => decide ((znm q.1).toList.length + (znm q.2).toList.length ≤ 42)) = true := by decide +kernel
theorem zl_app (a b : String) : (a ++ b).toList.length = a.toList.length + b.toList.length := by rw [String.toList_append, List.length_append]
theorem zl_dot (a : String) : (dotted a).toList.length = a.toList.length := by
  unfold dotted turned
  rw [String.toList_ofList, List.length_map]
theorem zl_1 : (toString "class ").toList.length = 6 := by decide +kernel
theorem zl_2 : (toString " cannot be cast to class ").toList.length = 25 := by decide +kernel
theorem zl_3 : (toString " (").toList.length = 2 := by decide +kernel
theorem zl_4 : (toString ")").toList.length = 1 := by decide +kernel
theorem zl_5 : (toString " and ").toList.length = 5 := by decide +kernel
theorem zl_6 : (toString " are in ").toList.length = 8 := by decide +kernel
theorem zl_7 : (toString " is in ").toList.length = 7 := by decide +kernel
theorem zl_8 : (toString "; ").toList.length = 2 := by decide +kernel
theorem zl_J : (toString zhJ).toList.length = 38 := by decide +kernel
theorem zl_U : (toString zhU).toList.length = 36 := by decide +kernel
theorem zl_x (a : String) : toString a = a := rfl
theorem zl_H (a b : String) (w : Nat) : (zcH a b w).toList.length ≤ 2 * 38 + 16 + a.toList.length + b.toList.length := by
  have h1 : ∀ h, (toString h).toList.length ≤ 38 → (zcS a b h).toList.length ≤ 2 * 38 + 16 + a.toList.length + b.toList.length := by
    intro h hh
    unfold zcS
    simp only [zl_app, zl_5, zl_6]
    have e1 : (toString a).toList.length = a.toList.length := rfl
    have e2 : (toString b).toList.length = b.toList.length := rfl
    omega
  have h2 : ∀ h k, (toString h).toList.length ≤ 38 → (toString k).toList.length ≤ 38 → (zcD a b h k).toList.length ≤ 2 * 38 + 16 + a.toList.length + b.toList.length := by
    intro h k hh hk
    unfold zcD
    simp only [zl_app, zl_7, zl_8]
    have e1 : (toString a).toList.length = a.toList.length := rfl
    have e2 : (toString b).toList.length = b.toList.length := rfl
    omega
  have hJ := Nat.le_of_eq zl_J
  have hU : (toString zhU).toList.length ≤ 38 := by rw [zl_U]; decide
  unfold zcH
  split
  · exact h1 _ hJ
  · exact h1 _ hU
  · exact h2 _ _ hJ hJ
  · exact h2 _ _ hJ hU
  · exact h2 _ _ hU hJ
  · exact h2 _ _ hU hU
theorem zcc_txt {k t : Nat} (h : (k, t) ∈ zccL) (w : Nat) : (zcX (znm k) (znm t) w == notModelled) = false ∧ (stringBytes (stringToUtf16 (zcX (znm k) (znm t) w))).size ≤ 900 := by
  have h0 := of_decide_eq_true (List.all_eq_true.mp zcc_ln _ h)
  dsimp only at h0
  constructor
  · rw [beq_eq_false_iff_ne]
    intro he
    have h1 := congrArg String.toList he
    have h2 : (zcX (znm k) (znm t) w).toList = "class ".toList ++ (toString (dotted (znm k)) ++ toString " cannot be cast to class " ++ toString (dotted (znm t)) ++ toString " (" ++ toString (zcH (dotted (znm k)) (dotted (znm t)) w) ++ toString ")").toList := by
      unfold zcX zcM
      simp only [zl_x, String.toList_append, List.append_assoc]
    rw [h2] at h1
    have h3 := congrArg List.head? h1
    have e1 : "class ".toList = ['c', 'l', 'a', 's', 's', ' '] := by decide +kernel
    have e2 : notModelled.toList.head? = some (Char.ofNat 0) := by decide +kernel
    rw [e1, e2] at h3
    have h4 : some (Char.ofNat 99) = some (Char.ofNat 0) := h3
    exact absurd h4 (by decide)
  · have b1 := stringBytes_size_le (stringToUtf16 (zcX (znm k) (znm t) w))
    have b2 := utf16_size_le (zcX (znm k) (znm t) w)
    have b3 : (zcX (znm k) (znm t) w).toList.length ≤ 225 := by
      have b4 := zl_H (dotted (znm k)) (dotted (znm t)) w
      rw [zl_dot, zl_dot] at b4
      unfold zcX zcM
      simp only [zl_app, zl_1, zl_2, zl_3, zl_4]
      have e1 : (toString (dotted (znm k))).toList.length = (znm k).toList.length := zl_dot _
      have e2 : (toString (dotted (znm t))).toList.length = (znm t).toList.length := zl_dot _
      have e3 : (toString (zcH (dotted (znm k)) (dotted (znm t)) w)).toList.length = (zcH (dotted (znm k)) (dotted (znm t)) w).toList.length := rfl
      omega
    omega
theorem zr_cast (X : Stand p l e R s m args below meth c T locs cells slots) (hexec : p.tables.exec = Jvm.exec) (hmd : zMD s)
    {own nm na : String} {index : Nat} (hown : s.vm.findClass own = some m.cls) (hlink : (Cond.classLink own index nm).before args s = true)
    {a : Addr} {cell : Cell} {cT : ClassId} (hcell : T.heap[a]? = some cell) (hobj : cell.vm.isStatics = false) (hna : s.vm.findClass na = some cell.cls) (hcT : s.vm.findClass nm = some cT) (hasg : s.vm.assignable cell.cls cT = false) (hpa : packageOf na = "") (hpb : packageOf nm = "")
    {g : JFrame} (hg : g.method = m) {rest : List Value} (hstack : g.stack = .ref a :: rest) (hdg : decode c.code g.pc = .ok (.checkcast index, 3)) :
    ∃ (vm' : Vm) (w : Nat), w < 6 ∧ Stand p l e R s m args below meth c (T.setVm vm') locs cells slots ∧
      ∀ target, Steps p.tables e below (((T.setVm vm').setTop g).pushFrame (.throwNew "java/lang/ClassCastException" (some (zcX na nm w)) none)) target → Steps p.tables e below (T.setTop g) target := by
  have hpl : e.platform.magicAccessors = ({} : Platform).magicAccessors := by rw [X.admits.platform]
  obtain ⟨c', hc', hcl⟩ := Cond.classLink_spec hown hlink e.platform hpl
  cases hcT.symm.trans hc'
  obtain ⟨dk, _, _, kt, hd, _, _, _, _, hkt, _, hopen⟩ := hcl.here
  have hcl₀ := X.warmed.classLinks hcl
  have hW' : s.WarmedH (T.vm.noted m.cls index (.cls cT)) := X.warmed.noted hd hopen (State.rightAt_cls hcl)
  obtain ⟨ks, hks, hks1, hks2, hks3, hks4⟩ := zr_found hna
  obtain ⟨kt9, hkt9, hkt1, hkt2, hkt3, hkt4⟩ := zr_found hcT
  cases hkt.symm.trans hkt9
  obtain ⟨ks', hks', he1⟩ := hW'.alike.2.2 _ _ hks
  obtain ⟨kt', hkt', he2⟩ := hW'.alike.2.2 _ _ hkt
  have hmd' : (((T.vm.noted m.cls index (.cls cT))).modules.all fun m => m.loader.isSome || m.name == "java.base" || !(["", "java/lang"].any fun p => m.packages.contains p)) = true := by
    have e0 := hW'.alike.1
    rw [e0]
    exact hmd
  have s1 : ks'.shown = dotted na := by rw [he1]; show Class.shown ks = _; unfold Class.shown; rw [hks2]; show dotted ks.name = _; rw [hks1]
  have s2 : kt'.shown = dotted nm := by rw [he2]; show Class.shown kt = _; unfold Class.shown; rw [hkt2]; show dotted kt.name = _; rw [hkt1]
  have o1 := zr_home hmd' (k := ks') (by rw [he1]; exact hks3) (by rw [he1]; show packageOf ks.name = _; rw [hks1]; exact hpa)
  have o2 := zr_home hmd' (k := kt') (by rw [he2]; exact hkt3) (by rw [he2]; show packageOf kt.name = _; rw [hkt1]; exact hpb)
  have hm9 : ∀ vm : Vm, checkcast.message vm ks' kt' = zcM (dotted na) (dotted nm) (vm.homes ks' kt') := by
    intro vm
    unfold checkcast.message zcM
    rw [s1, s2]
  have hh9 : ∀ vm : Vm, vm.homes ks' kt' = if vm.sameModule ks' kt' = true then zcS (dotted na) (dotted nm) (vm.home ks') else zcD (dotted na) (dotted nm) (vm.home ks') (vm.home kt') := by
    intro vm
    unfold Vm.homes zcS zcD
    rw [s1, s2]
  have htx : ∃ w, w < 6 ∧ checkcast.message (T.vm.noted m.cls index (.cls cT)) ks' kt' = zcX na nm w := by
    rw [hm9, hh9]
    rcases o1 with o1 | o1
    · rw [o1]
      rcases o2 with o2 | o2
      · rw [o2]
        split
        · exact ⟨0, by decide, rfl⟩
        · exact ⟨2, by decide, rfl⟩
      · rw [o2]
        split
        · exact ⟨0, by decide, rfl⟩
        · exact ⟨3, by decide, rfl⟩
    · rw [o1]
      rcases o2 with o2 | o2
      · rw [o2]
        split
        · exact ⟨1, by decide, rfl⟩
        · exact ⟨4, by decide, rfl⟩
      · rw [o2]
        split
        · exact ⟨1, by decide, rfl⟩
        · exact ⟨5, by decide, rfl⟩
  obtain ⟨w, hw, htx⟩ := htx
  refine ⟨_, w, hw, X.noted hW', fun target hrest => ?_⟩
  subst hg
  jvm_step X.here [hexec, hdg, checkcast.wp_cold (e := e) (s := T) (f := g) X.here.top hstack (resolveClass_links e.toSetting hcl₀) hcl₀.ready,
    checkcast.wp_ready (e := e) (s := T.setVm (T.vm.noted g.method.cls index (.cls cT))) (f := g) X.here.top hcl₀.ready hstack]
  refine ⟨cell, hcell, VmData.noStatics_of hobj, ks', hks', kt', hkt', ?_⟩
  rw [if_neg (by rw [hW'.alike.assignable, hasg]; decide)]
  show Steps _ _ _ _ _
  have h9 : checkcast.message (T.vm.noted g.method.cls index (.cls cT)) ks' kt' = zcX na nm w := htx
  rw [h9]
  exact hrest
end ZR3A
def zccOK (σ : ZS) (t : Nat) (x : Option Nat) : Prop := ∀ a, x = some a → (sk σ a, t) ∈ zccL
section ZR3
variable {G : ZG} {C : AWC} {Q : Option Value → ZS → Prop} {X : String → Nat → ZS → Prop} {kc ks pc : Nat} {lo : List (Nat × Value)} {st : List Value} {σ : ZS}
theorem aw_callF {x y : MethodName} {ix ct : Nat} {bytes : ByteArray} {maxL : Nat} {ret : Option FieldType} {As : List Value} {st0 : List Value} {b : Nat} {kd : Nat} (hkd : (0 < kd ∧ kd < 9) ∨ (10 ≤ kd ∧ kd < 24)) {QQ : Option Value → ZS → Nat → Nat → Prop} {XX : String → Nat → ZS → Nat → Nat → Prop} (d : decode C.2.1 pc = .ok (.invokeinterface ix ct, 5)) (q1 : Cond.methodLink C.1 ix x ∈ lw_all) (q2 : Cond.instanceMethod y ∈ lw_all) (q3 : Cond.selects (znm kd) x y ∈ lw_all ∨ (znm kd = RX8 ∧ x = zLDx ∧ y = zLDx)) (q5 : Cond.code y bytes maxL ret ∈ lw_all) (qf : (znm kd, x, y) ∈ zFws) (hy : x.cls ≠ "java/lang/invoke/MethodHandle" ∧ x.cls ≠ "java/lang/invoke/VarHandle") (hlen : (parseMethodDescriptor x.desc).map (fun d => d.parameters.length) = some As.length) (hst : st0 = As.reverse ++ va_rf (some b) :: st) (hw : st.length ≤ 12) (hb : sk σ b = kd) (h : cal G y C.2.2.2.2.2.2 kc ks (va_rf (some b) :: As) σ QQ XX) (kk : ∀ v σ kc ks, QQ v σ kc ks → AW G C Q X kc ks (pc + 5) lo (v.toList ++ st) σ) (kx : ∀ E q σ kc ks, XX E q σ kc ks → AX G C Q X kc ks pc lo σ E q) : AW G C Q X kc ks pc lo st0 σ := by
  intro p l e R s m args below meth c H locs cells slots mc ms ls hX hσ hl hc hs
  obtain ⟨d1, k1, n1, h1, h2, h3, hM⟩ := h
  obtain ⟨cellB, p1, p2, p3⟩ := z_cls hX hσ hb hkd
  obtain ⟨kB, hkB, -⟩ := Vm.findClass_spec p3
  have hfr := hX.2.2.1.2.2.1
  have hlo := hX.2.2.1.2.2.2
  have hw9 := cat_sum st
  unfold zfr at hfr
  unfold zlo at hlo
  intro T hT Y
  have hK := hM l R p e below s args 5 24 hX.2.1.2.2.2.2 hX.1.2.2.2.2 (by unfold zfr; omega) (by unfold zlo; omega)
  obtain ⟨f1, f2, f3, f4, f5⟩ := hX.2.2.2.1.2.2.2.2.2.2.2.1.2.2.2.2.2.2.1 _ qf
  rcases q3 with q3 | ⟨g1, g2, g3⟩
  · have h9 := vx_callIF Y hX.1.1 hX.1.2.2.2.1 (hX.1.2.2.2.2 _ q1) (va_any rfl f1) (va_any rfl f2) (hX.1.2.2.2.2 _ q3) (hX.1.2.2.2.2 _ q2) (va_any rfl f3) (va_any rfl f4) (va_any rfl f5) (hX.1.2.2.2.2 _ q5) hy hK (by rw [hT]; exact p1) (by rw [p2]; rfl) p3 hkB (g := F0 m pc ls st0) rfl (hl.1.trans hX.1.2.2.1.symm) (argsL := As) (rest := st) (fun sig h => by rw [h] at hlen; exact (Option.some.inj hlen).symm) hst (by show 2 * 0 + _ ≤ 24; omega) (by rw [hX.1.2.1]; exact d) (z_pre hX hσ (by omega) (by omega) hT)
    exact z_behind hX hl (kc := kc - k1) (ks := ks - n1) (by omega) (by omega) hT h9 (fun v σ h => kk v σ _ _ h) (fun E q σ h => kx E q σ _ _ h)
  · have hd9 : (Cond.landsInDefault (znm kd) x y).before args s = true := by
      rw [g1, g2, g3]
      exact hX.2.2.2.1.2.2.2.2.2.2.2.1.2.2.2.2.2.2.2.2
    have h9 := zr_callFD Y hX.1.1 hX.1.2.2.2.1 (hX.1.2.2.2.2 _ q1) (va_any rfl f1) (va_any rfl f2) hd9 (hX.1.2.2.2.2 _ q2) (va_any rfl f3) (va_any rfl f5) (hX.1.2.2.2.2 _ q5) hy hK (by rw [hT]; exact p1) (by rw [p2]; rfl) p3 hkB (g := F0 m pc ls st0) rfl (hl.1.trans hX.1.2.2.1.symm) (argsL := As) (rest := st) (fun sig h => by rw [h] at hlen; exact (Option.some.inj hlen).symm) hst (by show 2 * 0 + _ ≤ 24; omega) (by rw [hX.1.2.1]; exact d) (z_pre hX hσ (by omega) (by omega) hT)
    exact z_behind hX hl (kc := kc - k1) (ks := ks - n1) (by omega) (by omega) hT h9 (fun v σ h => kk v σ _ _ h) (fun E q σ h => kx E q σ _ _ h)
theorem aw_callU {x y : MethodName} {ix : Nat} {bytes : ByteArray} {maxL : Nat} {ret : Option FieldType} {As : List Value} {st0 : List Value} {b : Nat} {kd : Nat} (hkd : (0 < kd ∧ kd < 9) ∨ (10 ≤ kd ∧ kd < 24)) {QQ : Option Value → ZS → Nat → Nat → Prop} {XX : String → Nat → ZS → Nat → Nat → Prop} (d : decode C.2.1 pc = .ok (.invokevirtual ix, 3)) (q1 : Cond.methodLink C.1 ix x ∈ lw_all) (q2 : Cond.instanceMethod y ∈ lw_all) (q3 : Cond.selects (znm kd) x y ∈ lw_all) (q4 : Cond.sameMethod x.cls x.cls x.name x.desc ∈ lw_all) (q5 : Cond.code y bytes maxL ret ∈ lw_all) (qf : Cond.declares x ∈ zDc) (hy : x.cls ≠ "java/lang/invoke/MethodHandle" ∧ x.cls ≠ "java/lang/invoke/VarHandle") (hlen : (parseMethodDescriptor x.desc).map (fun d => d.parameters.length) = some As.length) (hst : st0 = As.reverse ++ va_rf (some b) :: st) (hw : st.length ≤ 12) (hb : sk σ b = kd) (h : cal G y C.2.2.2.2.2.2 kc ks (va_rf (some b) :: As) σ QQ XX) (kk : ∀ v σ kc ks, QQ v σ kc ks → AW G C Q X kc ks (pc + 3) lo (v.toList ++ st) σ) (kx : ∀ E q σ kc ks, XX E q σ kc ks → AX G C Q X kc ks pc lo σ E q) : AW G C Q X kc ks pc lo st0 σ := by
  intro p l e R s m args below meth c H locs cells slots mc ms ls hX hσ hl hc hs
  obtain ⟨d1, k1, n1, h1, h2, h3, hM⟩ := h
  obtain ⟨cellB, p1, p2, p3⟩ := z_cls hX hσ hb hkd
  obtain ⟨kB, hkB, -⟩ := Vm.findClass_spec p3
  have hfr := hX.2.2.1.2.2.1
  have hlo := hX.2.2.1.2.2.2
  have hw9 := cat_sum st
  unfold zfr at hfr
  unfold zlo at hlo
  intro T hT Y
  have hK := hM l R p e below s args 3 24 hX.2.1.2.2.2.2 hX.1.2.2.2.2 (by unfold zfr; omega) (by unfold zlo; omega)
  have hz := hX.2.2.2.1.2.2.2.2.2.2.2.2.1 _ qf
  have h9 := vx_callVU (owner := x.cls) (x := x) Y hX.1.1 hX.1.2.2.2.1 (hX.1.2.2.2.2 _ q1) (hX.1.2.2.2.2 _ q4) (va_Decl.abs hz) hy (hX.1.2.2.2.2 _ q3) (hX.1.2.2.2.2 _ q2) (hX.1.2.2.2.2 _ q5) hK (by rw [hT]; exact p1) (by rw [p2]; rfl) p3 (g := F0 m pc ls st0) rfl (hl.1.trans hX.1.2.2.1.symm) (argsL := As) (rest := st) (fun sig h => by rw [h] at hlen; exact (Option.some.inj hlen).symm) hst (by show 2 * 0 + _ ≤ 24; omega) (by rw [hX.1.2.1]; exact d) (z_pre hX hσ (by omega) (by omega) hT)
  exact z_behind hX hl (kc := kc - k1) (ks := ks - n1) (by omega) (by omega) hT h9 (fun v σ h => kk v σ _ _ h) (fun E q σ h => kx E q σ _ _ h)
theorem aw_callFn {x : MethodName} {ix ct kd : Nat} {y : MethodName} {As : List Value} {st0 : List Value} (d : decode C.2.1 pc = .ok (.invokeinterface ix ct, 5)) (q1 : Cond.methodLink C.1 ix x ∈ lw_all) (qf : (znm kd, x, y) ∈ zFws) (hy : x.cls ≠ "java/lang/invoke/MethodHandle" ∧ x.cls ≠ "java/lang/invoke/VarHandle") (hlen : (parseMethodDescriptor x.desc).map (fun d => d.parameters.length) = some As.length) (hst : st0 = As.reverse ++ va_rf none :: st) (h : ANn G C Q X kc ks pc lo st σ) : AW G C Q X kc ks pc lo st0 σ := by
  intro p l e R s m args below meth c H locs cells slots mc ms ls hX hσ hl hc hs
  intro T hT Y
  obtain ⟨f1, f2, f3, f4, f5⟩ := hX.2.2.2.1.2.2.2.2.2.2.2.1.2.2.2.2.2.2.1 _ qf
  obtain ⟨vm', X1, st1⟩ := Y.interfaceNullUnder hX.1.1 hX.1.2.2.2.1 (hX.1.2.2.2.2 _ q1) (va_any rfl f1) (va_any rfl f2) hy (g := F0 m pc ls st0) rfl (argsL := As) (rest := st) (fun sig h => by rw [h] at hlen; exact (Option.some.inj hlen).symm) hst (by rw [hX.1.2.1]; exact d)
  obtain ⟨t, a, b⟩ := h _ _ _ _ _ _ _ _ _ _ _ _ _ _ _ _ _ hX hσ hl hc hs (T.setVm vm') hT X1
  exact ⟨t, st1 t a, b⟩
theorem aw_callUn {x : MethodName} {ix : Nat} {owner : String} {As : List Value} {st0 : List Value} (d : decode C.2.1 pc = .ok (.invokevirtual ix, 3)) (q1 : Cond.methodLink C.1 ix x ∈ lw_all) (q4 : Cond.sameMethod x.cls owner x.name x.desc ∈ lw_all) (qf : Cond.declares ⟨owner, x.name, x.desc⟩ ∈ zDc) (hy : owner ≠ "java/lang/invoke/MethodHandle" ∧ owner ≠ "java/lang/invoke/VarHandle") (hlen : (parseMethodDescriptor x.desc).map (fun d => d.parameters.length) = some As.length) (hst : st0 = As.reverse ++ va_rf none :: st) (h : ANn G C Q X kc ks pc lo st σ) : AW G C Q X kc ks pc lo st0 σ := by
  intro p l e R s m args below meth c H locs cells slots mc ms ls hX hσ hl hc hs
  intro T hT Y
  have hz := hX.2.2.2.1.2.2.2.2.2.2.2.2.1 _ qf
  obtain ⟨r0, r, hn, hrm, hstatic, hsigR⟩ := va_Decl.abs hz
  obtain ⟨vm', X1, st1⟩ := zr_vnull Y hX.1.1 hX.1.2.2.2.1 (hX.1.2.2.2.2 _ q1) (hX.1.2.2.2.2 _ q4) hy hn hrm hstatic (g := F0 m pc ls st0) rfl (argsL := As) (rest := st) (by rw [hsigR] at hlen; exact (Option.some.inj hlen).symm) hst (by rw [hX.1.2.1]; exact d)
  obtain ⟨t, a, b⟩ := h _ _ _ _ _ _ _ _ _ _ _ _ _ _ _ _ _ hX hσ hl hc hs (T.setVm vm') hT X1
  exact ⟨t, st1 t a, b⟩
theorem aw_ccx {x : Option Nat} {ix t : Nat} {K KC : Prop} (d : decode C.2.1 pc = .ok (.checkcast ix, 3)) (q1 : Cond.classLink C.1 ix (znm t) ∈ lw_all) (h : kst σ t x K (zccOK σ t x ∧ KC)) (kk : K → AW G C Q X kc ks (pc + 3) lo (va_rf x :: st) σ) (kx : KC → ANt G C Q X kc ks pc lo (va_rf x :: st) σ eCCE) : AW G C Q X kc ks pc lo (va_rf x :: st) σ := by
  intro p l e R s m args below meth c H locs cells slots mc ms ls hX hσ hl hc hs
  cases x with
  | none => exact lv_castN hX.1.1 hX.1.2.1 d (kk (h.1 rfl) _ _ _ _ _ _ _ _ _ _ _ _ _ _ _ _ _ hX hσ hl hc hs)
  | some a =>
    obtain ⟨h1, h2, h3⟩ := h.2 a rfl
    obtain ⟨cell, p1, p2, p3⟩ := z_cls hX hσ rfl (zck_rng h1)
    obtain ⟨ct, e1, e2⟩ := z_asg2 hX h1 p3
    intro T hT Y
    cases hz : zsub (sk σ a) t
    · rw [hz] at e2
      obtain ⟨hcc, hKC⟩ := h3 hz
      have h5 := List.all_eq_true.mp zcc_pk _ (hcc a rfl)
      rw [Bool.and_eq_true] at h5
      obtain ⟨vm', w, hw, Y', stp⟩ := zr_cast Y hX.1.1 hX.2.2.2.1.2.2.2.2.2.2.2.1.2.2.2.2.2.2.2.1 hX.1.2.2.2.1 (hX.1.2.2.2.2 _ q1) (by rw [hT]; exact p1) (by rw [p2]; rfl) p3 e1 e2 (zr_pkg h5.1) (zr_pkg h5.2) (g := F0 m pc ls (.ref a :: st)) rfl rfl (by rw [hX.1.2.1]; exact d)
      have g4 := zcc_txt (hcc a rfl) w
      obtain ⟨t9, a1, b1⟩ := kx hKC _ _ _ _ _ _ _ _ _ _ _ _ _ _ _ _ _ _ hX hσ hl hc hs g4.1 g4.2 (T.setVm vm') hT Y'
      exact ⟨t9, stp t9 a1, b1⟩
    · rw [hz] at e2
      obtain ⟨ks9, hks9, -⟩ := Vm.findClass_spec p3
      obtain ⟨vm', Y', stp⟩ := Y.checkcastYes hX.1.1 hX.1.2.2.2.1 (hX.1.2.2.2.2 _ q1) (by rw [hT]; exact p1) (by rw [p2]; rfl) e1 e2 (g := F0 m pc ls (.ref a :: st)) rfl rfl (by rw [hX.1.2.1]; exact d)
      obtain ⟨t9, a1, b1⟩ := kk (h2 hz) _ _ _ _ _ _ _ _ _ _ _ _ _ _ _ _ _ hX hσ hl hc hs (T.setVm vm') hT Y'
      exact ⟨t9, stp t9 a1, b1⟩
end ZR3
