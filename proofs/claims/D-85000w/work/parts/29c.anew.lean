/-! L1r: anewarray of a negative size (printed by gen/mkanew.py) -/
theorem zr_wpAneg {Q : Unit → Pre} {E : CtlPost} {e : Env} {d0 : Bool} {acts : List Action} {s : State} {f : JFrame} {index : Nat} {comp c : ClassId} {n : Int32} {rest : List Value} {kc : Class}
    (hs : s.topJava?.isSome) (hr : s.vm.classReady f.method.cls index comp) (hkc : s.vm.classes[comp]? = some kc)
    (hc : (s.vm.classes.findIdx? fun x => match x.kind with | .array component _ => component == comp | _ => false) = some c) (hstack : f.stack = .int n :: rest) (hn : n < 0) :
    wp (anewarray.sem index) Q E e d0 acts (s.setTop f) ↔ E (.throwNew "java/lang/NegativeArraySizeException" (some (toString n))) acts (s.setTop { f with stack := rest }) := by
  simp only [anewarray.sem, wp_bind', W.resolveClassAt_ready (State.method?_setTop f hs) hr,
    W.arrayClassOf'_ready (s := s.setTop f) (show (s.setTop f).vm.classes[comp]? = some kc from hkc) (show ((s.setTop f).vm.classes.findIdx? _) = some c from hc),
    W.popInt, State.topJava?_setTop' _ hs, Option.some.injEq, exists_eq_left', hstack, List.cons.injEq,
    Value.int.injEq, exists_cons_eq, State.setTop_setTop, W.ite, hn, if_true, W.mark, W.throwNew]
theorem zr_anewNeg {p : Program} {l : Launch} {e : Env} {R : Room} {s : State} {m : MethodId} {args : Array Value} {below : List Frame} {meth : Method} {c : Code} {T : State} {locs : List Loc} {cells slots : Nat} (X : Stand p l e R s m args below meth c T locs cells slots) (hexec : p.tables.exec = Jvm.exec) {own C : String} {index : Nat}
    (hown : s.vm.findClass own = some m.cls) (hclink : (Cond.classLink own index C).before args s = true) {comp cA : ClassId} (hcomp : s.vm.findClass C = some comp) (hidx : (s.vm.classes.findIdx? fun x => match x.kind with | .array component _ => component == comp | _ => false) = some cA)
    {g : JFrame} (hg : g.method = m) (hdg : decode c.code g.pc = .ok (.anewarray index, 3)) {n : Int32} {rest : List Value} (hstack : g.stack = .int n :: rest) (hn : n < 0) :
    ∃ vm₁ : Vm, Stand p l e R s m args below meth c (T.setVm vm₁) locs cells slots ∧ ∀ target, Steps p.tables e below (((T.setVm vm₁).setTop { g with stack := rest }).pushFrame (.throwNew "java/lang/NegativeArraySizeException" (some (toString n)) none)) target → Steps p.tables e below (T.setTop g) target := by
  subst hg
  have hpl : e.platform.magicAccessors = ({} : Platform).magicAccessors := by rw [X.admits.platform]
  obtain ⟨kComp, hkComp, -⟩ := Vm.findClass_spec hcomp
  obtain ⟨cc, hfcc, hcl⟩ := Cond.classLink_spec hown hclink e.platform hpl
  cases hcomp.symm.trans hfcc
  obtain ⟨hg₁, hwarm₁, hready₁⟩ := State.classEntry (e := e) X.warmed hcl
  generalize T.vm.noted g.method.cls index (.cls comp) = vm₁ at hg₁ hwarm₁ hready₁
  have hal : s.vm.Alike vm₁ := hwarm₁.alike
  obtain ⟨kComp₁, hkComp₁, -⟩ := hal.2.2 _ _ hkComp
  have hidx₁ : (vm₁.classes.findIdx? fun x => match x.kind with | .array component _ => component == comp | _ => false) = some cA := by
    rw [hal.findIdx?_eqK _ (fun _ => rfl)]; exact hidx
  refine ⟨vm₁, X.noted hwarm₁, fun target hrest => ?_⟩
  jvm_step X.here [hexec, hdg, anewarray.wp_cold (e := e) (s := T) (f := g) X.here.top hg₁ hready₁,
    zr_wpAneg (e := e) (s := T.setVm vm₁) (f := g) (kc := kComp₁) X.here.top hready₁ hkComp₁ hidx₁ hstack hn]
  exact hrest
section ZR11
variable {G : ZG} {C : AWC} {Q : Option Value → ZS → Prop} {X : String → Nat → ZS → Prop} {kc ks pc : Nat} {lo : List (Nat × Value)} {st : List Value} {σ : ZS}
theorem aw_anewBx {n : Int32} {ix cap : Nat} {K : Nat → ZS → Nat → Nat → Prop} {KZ : Prop} (d : decode C.2.1 pc = .ok (.anewarray ix, 3)) (q1 : Cond.classLink C.1 ix RX9 ∈ lw_all) (h : nA σ kc ks 20 cap n K KZ) (kk : ∀ a σ kc ks, K a σ kc ks → AW G C Q X kc ks (pc + 3) lo (va_rf (some a) :: st) σ) (kz : KZ → ANt G C Q X kc ks pc lo st σ eNAS) : AW G C Q X kc ks pc lo (.int n :: st) σ := by
  by_cases hn : n < 0
  · intro p l e R s m args below meth c H locs cells slots mc ms ls hX hσ hl hc hs T hT Y
    obtain ⟨comp, cA, kA, hcomp, hidx, -, -, -⟩ := Cond.arrayOver_spec (va_AO.use (A := args) hX.2.2.2.1.2.2.2.2.2.2.2.1.2.2.2.2.1)
    obtain ⟨vm₁, Y1, stp⟩ := zr_anewNeg Y hX.1.1 hX.1.2.2.2.1 (hX.1.2.2.2.2 _ q1) hcomp hidx (g := F0 m pc ls (.int n :: st)) rfl (by rw [hX.1.2.1]; exact d) (rest := st) rfl hn
    obtain ⟨t, a1, b1⟩ := awNt (kz (h.1 hn)) hX hσ hl hc hs (negative_text_modelled hn) (Nat.le_trans (negative_text_bytes n) (by decide)) (T.setVm vm₁) hT Y1
    exact ⟨t, stp t a1, b1⟩
  · exact aw_anewB d q1 ⟨fun h => absurd h hn, h.2⟩ kk
theorem aw_anewNx {n : Int32} {ix cap : Nat} {K : Nat → ZS → Nat → Nat → Prop} {KZ : Prop} (d : decode C.2.1 pc = .ok (.anewarray ix, 3)) (q1 : Cond.classLink C.1 ix RX5 ∈ lw_all) (h : nA σ kc ks 21 cap n K KZ) (kk : ∀ a σ kc ks, K a σ kc ks → AW G C Q X kc ks (pc + 3) lo (va_rf (some a) :: st) σ) (kz : KZ → ANt G C Q X kc ks pc lo st σ eNAS) : AW G C Q X kc ks pc lo (.int n :: st) σ := by
  by_cases hn : n < 0
  · intro p l e R s m args below meth c H locs cells slots mc ms ls hX hσ hl hc hs T hT Y
    obtain ⟨comp, cA, kA, hcomp, hidx, -, -, -⟩ := Cond.arrayOver_spec (va_AO.use (A := args) hX.2.2.2.1.2.2.2.2.2.2.2.1.2.2.1)
    obtain ⟨vm₁, Y1, stp⟩ := zr_anewNeg Y hX.1.1 hX.1.2.2.2.1 (hX.1.2.2.2.2 _ q1) hcomp hidx (g := F0 m pc ls (.int n :: st)) rfl (by rw [hX.1.2.1]; exact d) (rest := st) rfl hn
    obtain ⟨t, a1, b1⟩ := awNt (kz (h.1 hn)) hX hσ hl hc hs (negative_text_modelled hn) (Nat.le_trans (negative_text_bytes n) (by decide)) (T.setVm vm₁) hT Y1
    exact ⟨t, stp t a1, b1⟩
  · exact aw_anewN d q1 ⟨fun h => absurd h hn, h.2⟩ kk
theorem aw_anewXx {n : Int32} {ix cap : Nat} {K : Nat → ZS → Nat → Nat → Prop} {KZ : Prop} (d : decode C.2.1 pc = .ok (.anewarray ix, 3)) (q1 : Cond.classLink C.1 ix RX8 ∈ lw_all) (h : nA σ kc ks 22 cap n K KZ) (kk : ∀ a σ kc ks, K a σ kc ks → AW G C Q X kc ks (pc + 3) lo (va_rf (some a) :: st) σ) (kz : KZ → ANt G C Q X kc ks pc lo st σ eNAS) : AW G C Q X kc ks pc lo (.int n :: st) σ := by
  by_cases hn : n < 0
  · intro p l e R s m args below meth c H locs cells slots mc ms ls hX hσ hl hc hs T hT Y
    obtain ⟨comp, cA, kA, hcomp, hidx, -, -, -⟩ := Cond.arrayOver_spec (va_AO.use (A := args) hX.2.2.2.1.2.2.2.2.2.2.2.1.2.2.2.1)
    obtain ⟨vm₁, Y1, stp⟩ := zr_anewNeg Y hX.1.1 hX.1.2.2.2.1 (hX.1.2.2.2.2 _ q1) hcomp hidx (g := F0 m pc ls (.int n :: st)) rfl (by rw [hX.1.2.1]; exact d) (rest := st) rfl hn
    obtain ⟨t, a1, b1⟩ := awNt (kz (h.1 hn)) hX hσ hl hc hs (negative_text_modelled hn) (Nat.le_trans (negative_text_bytes n) (by decide)) (T.setVm vm₁) hT Y1
    exact ⟨t, stp t a1, b1⟩
  · exact aw_anewX d q1 ⟨fun h => absurd h hn, h.2⟩ kk
theorem aw_anewIx {n : Int32} {ix cap : Nat} {K : Nat → ZS → Nat → Nat → Prop} {KZ : Prop} (d : decode C.2.1 pc = .ok (.anewarray ix, 3)) (q1 : Cond.classLink C.1 ix "[I" ∈ lw_all) (h : nA σ kc ks 23 cap n K KZ) (kk : ∀ a σ kc ks, K a σ kc ks → AW G C Q X kc ks (pc + 3) lo (va_rf (some a) :: st) σ) (kz : KZ → ANt G C Q X kc ks pc lo st σ eNAS) : AW G C Q X kc ks pc lo (.int n :: st) σ := by
  by_cases hn : n < 0
  · intro p l e R s m args below meth c H locs cells slots mc ms ls hX hσ hl hc hs T hT Y
    obtain ⟨comp, cA, kA, hcomp, hidx, -, -, -⟩ := arrayOverA_spec hX.2.2.2.1.2.2.2.2.2.2.2.1.2.2.2.2.2.1
    obtain ⟨vm₁, Y1, stp⟩ := zr_anewNeg Y hX.1.1 hX.1.2.2.2.1 (hX.1.2.2.2.2 _ q1) hcomp hidx (g := F0 m pc ls (.int n :: st)) rfl (by rw [hX.1.2.1]; exact d) (rest := st) rfl hn
    obtain ⟨t, a1, b1⟩ := awNt (kz (h.1 hn)) hX hσ hl hc hs (negative_text_modelled hn) (Nat.le_trans (negative_text_bytes n) (by decide)) (T.setVm vm₁) hT Y1
    exact ⟨t, stp t a1, b1⟩
  · exact aw_anewI d q1 ⟨fun h => absurd h hn, h.2⟩ kk
end ZR11
