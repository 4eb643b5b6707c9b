/-! L1s: methods of classes that have entries (printed from zx_ofW, zm_of) -/
theorem zx_ofWF {l : Launch} {y : MethodName} {ws ws' : List Cond} {rm : Room} {Pc : Array Value → State → Prop} {Qc : Array Value → State → Outcome → State → Prop} {XC : Addr → String → State → State → Prop} {mc ms : Nat} {free : Addr → Prop} {cc : ByteArray} {maxL : Nat} {ret : Option FieldType}
    (hy : plainFor y = true) (hw : ws = Cond.code y cc maxL ret :: ws')
    (body : ∀ p e s m args below meth c s₁, BodyLoose p l y (headSpec ws rm) cc maxL ret e s m args below meth c s₁ → c.maxLocals = maxL → (∀ x ∈ c.exceptionTable.toList, False) → Pc args s →
      W p l e (headSpec ws rm).room s m args below meth c s.heap [] 0 0 (zx_MQ below Qc XC args s mc ms free) (entryFrame m args maxL)) : zx_Met l y ws rm Pc Qc XC mc ms free := by
  refine MetFree.of_bodySF (code := cc) (maxLocals := maxL) (ret := ret) hy ?_ ?_
  · intro args s m h hn
    obtain ⟨meth, c, h1, h2, h3, h4, h5, h6, -, -⟩ := Cond.code_spec hn (atoms_spec (ws := ws) h _ (by rw [hw]; exact List.mem_cons_self))
    exact ⟨meth, c, h1, h2, h3, h4, h5, h6⟩
  · intro p e s m args below meth c s₁ B hml hP _
    have hh0 : s₁.heap = s.heap := by rw [B.state]; rfl
    have ht : ∀ x ∈ c.exceptionTable.toList, False := by
      obtain ⟨meth9, c9, h1, h2, -, -, -, -, h7, -⟩ := Cond.code_spec B.named (atoms_spec (ws := ws) B.pre _ (by rw [hw]; exact List.mem_cons_self))
      cases Option.some.inj (h1.symm.trans B.method)
      cases Option.some.inj (h2.symm.trans (Stand.of_body B).code)
      intro x hx
      rw [Array.isEmpty_iff.mp h7] at hx
      cases hx
    obtain ⟨t, a1, o, b1, b2, b3⟩ := body p e s m args below meth c s₁ B hml ht hP s₁ hh0 (Stand.of_body B)
    exact ⟨t, o, a1, b1, b2, b3⟩
theorem zm_ofF {G : ZG} {y : MethodName} {own : String} {code : ByteArray} {maxL : Nat} {ret : Option FieldType} {ini : Bool} {d kc ks : Nat} {as : List Value} {σ : ZS} {Q : Option Value → ZS → Prop} {X : String → Nat → ZS → Prop} {lo : List (Nat × Value)} (hy : plainFor y = true) (hown : y.cls = own) (hini : ini = true → y.name = "<init>") (q1 : Cond.code y code maxL ret ∈ lw_all) (q2 : Cond.initialized y.cls ∈ lw_all) (hL : maxL ≤ 25) (hlen : (lg_sl as).length ≤ maxL) (hlo : lv_args 0 as = lo)
    (h : AW G (own, code, maxL, ret, [], ini, d) Q X kc ks 0 lo [] σ) : ZM G y d kc ks as σ Q X := by
  intro l R p e below s sargs len W9 h1 h2 h3 h4
  have hws : ∀ w ∈ ws_ y code maxL ret, w ∈ lw_all := fun w hw => by
    rcases List.mem_cons.mp hw with e | e
    · rw [e]; exact q1
    · exact e
  have hM : zx_Met l y (ws_ y code maxL ret) { frames := zfr d, cells := kc, slots := ks, locals := zlo d } (va_Pc as (fun U => zREL G σ U.heap ∧ zWD G U U.heap)) (zQ G Q) (zXC G X) kc ks (zfree G) := by
    refine zx_ofWF (cc := code) (maxL := maxL) (ret := ret) hy rfl ?_
    intro p e s m args below meth c s₁ B hml hvt hv
    obtain ⟨rfl, hσ, hW⟩ := hv
    have hts := atoms_spec (ws := ws_ y code maxL ret) B.pre
    rw [lg_entry_eq]
    have hl := lv_entry as (n := maxL) hlen
    rw [hlo] at hl
    refine h p l e _ s m _ below meth c s.heap [] 0 0 kc ks _ ⟨⟨B.exec, B.bytes, hml, ?_, fun w hw => hts w (List.mem_cons_of_mem _ hw)⟩, ⟨B.notSynchronized, B.returns, ?_, ?_, h1⟩, ⟨Nat.le_refl _, Nat.le_refl _, Nat.le_refl _, Nat.le_refl _⟩, hW, va_S.rf⟩ hσ hl (by omega) (by omega)
    · show s.vm.findClass own = some m.cls
      rw [← hown]
      exact findClass_of_methodNamed B.named
    · show c.exceptionTable.toList = tableOf []
      cases hq : c.exceptionTable.toList with
      | nil => rfl
      | cons x xs => exact (hvt x (by rw [hq]; exact List.mem_cons_self)).elim
    · intro hi
      rw [← hini hi]
      exact (name_of_methodNamed B.named B.method).1
  exact zx_back hM (fun a U g mk ⟨a1, a2, a3⟩ => ⟨a1, a2, a3.to (State.WarmedH.refl U) a3.1 (fun _ _ _ => rfl)⟩) rfl rfl h3 (by show W9 + (maxL + 11) + zlo d ≤ _; omega) (lw_warm h2 hws) List.mem_cons_self (fun a' U hW => lw_warm (ws := [_]) h2 (fun w hw => by rw [List.mem_singleton.mp hw]; exact q2) _ List.mem_cons_self a' U hW)
