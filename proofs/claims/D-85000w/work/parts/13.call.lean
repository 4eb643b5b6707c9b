/-! L1h: calls, and a method's contract out of its body (printed by gen/mkcall.py) -/
def cal (G : ZG) (y : MethodName) (d kc ks : Nat) (as : List Value) (σ : ZS) (Q : Option Value → ZS → Nat → Nat → Prop) (X : String → Nat → ZS → Nat → Nat → Prop) : Prop := ∃ d' c s, d' < d ∧ c ≤ kc ∧ s ≤ ks ∧ ZM G y d' c s as σ (fun v σ' => Q v σ' (kc - c) (ks - s)) (fun E q σ' => X E q σ' (kc - c) (ks - s))
theorem z_keep {A : Nat → Prop} {H0 H H' : Heap} {locs L : List Loc} (hS : va_S A H0 H locs) (hL : ∀ q ∈ L, A q.base) (h1 : H.size ≤ H'.size) (h2 : ∀ q : Nat, q < H.size → ¬ A q → H'[q]? = H[q]?) : va_S A H0 H' (locs ++ L) :=
  ⟨Nat.le_trans hS.1 h1, fun q a b => (h2 q (Nat.lt_of_lt_of_le a hS.1) b).trans (hS.2.1 q a b), fun q hq => by
    rcases List.mem_append.mp hq with h | h
    · exact hS.2.2 q h
    · exact hL q h⟩
section ZCL
variable {G : ZG} {C : AWC} {Q : Option Value → ZS → Prop} {X : String → Nat → ZS → Prop} {kc ks pc : Nat} {lo : List (Nat × Value)} {st : List Value} {σ : ZS}
theorem z_pre {p : Program} {l : Launch} {R : Room} {s : State} {m : MethodId} {args : Array Value} {meth : Method} {c : Code} {H : Heap} {locs : List Loc} {cells slots mc ms k n : Nat} {as : List Value} (hX : zCT G C mc ms p l R s m args meth c H locs) (hσ : zREL G σ H) (h1 : cells + k ≤ mc) (h2 : slots + n ≤ ms) {T : State} (hT : T.heap = H) : ∀ vm₁, s.WarmedH vm₁ → PreOf R k n (va_Pc as (fun U => zREL G σ U.heap ∧ zWD G U U.heap)) ⟨T.setVm vm₁, locs, cells, slots⟩ as.toArray := by
  intro vm₁ hW
  have hmc := hX.2.2.1.1
  have hms := hX.2.2.1.2.1
  refine ⟨by show cells + k ≤ R.cells; omega, by show slots + n ≤ R.slots; omega, rfl, by show zREL G σ T.heap; rw [hT]; exact hσ, ?_⟩
  show zWD G (T.setVm vm₁) T.heap
  rw [hT]
  exact hX.2.2.2.1.to hW (Nat.le_trans hσ.1 hσ.2.1) (fun a ha hb => hX.2.2.2.2.2.1 a ha hb)
/-- behind a call's two ends -/
theorem z_behind {p : Program} {l : Launch} {e : Env} {R : Room} {s : State} {m : MethodId} {args : Array Value} {below : List Frame} {meth : Method} {c : Code} {H : Heap} {locs : List Loc} {cells slots mc ms k n : Nat} {ls : Array Slot} {st0 : List Value} {as : List Value} {len : Nat} (hX : zCT G C mc ms p l R s m args meth c H locs) (hl : lv_has ls C.2.2.1 lo) (hc : cells + k + kc ≤ mc) (hs : slots + n + ks ≤ ms) {T : State} (hT : T.heap = H)
    {QQ : Option Value → ZS → Prop} {XX : String → Nat → ZS → Prop}
    (h : (∃ (v : Option Value) (vm₁ : Vm) (B : Pt), s.WarmedH vm₁ ∧ Stand p l e R s m args below meth c B.U B.locs B.cells B.slots ∧ PostOf (zQ G QQ) k n (zfree G) ⟨T.setVm vm₁, locs, cells, slots⟩ as.toArray v B ∧ ∀ target, Steps p.tables e below (B.U.setTop { F0 m pc ls st0 with pc := pc + len, stack := v.toList ++ st }) target → Steps p.tables e below (T.setTop (F0 m pc ls st0)) target) ∨
      (∃ (q : Addr) (vm₁ : Vm) (B : Pt), s.WarmedH vm₁ ∧ Stand p l e R s m args below meth c B.U B.locs B.cells B.slots ∧ zx_Post (zXC G XX) k n (zfree G) ⟨T.setVm vm₁, locs, cells, slots⟩ as.toArray q B ∧ Steps p.tables e below (T.setTop (F0 m pc ls st0)) ((B.U.setTop { F0 m pc ls st0 with stack := st }).pushFrame (.throwing q))))
    (kk : ∀ v σ, QQ v σ → AW G C Q X kc ks (pc + len) lo (v.toList ++ st) σ) (kx : ∀ E q σ, XX E q σ → AX G C Q X kc ks pc lo σ E q) : ∃ t, Steps p.tables e below (T.setTop (F0 m pc ls st0)) t ∧ zx_MQ below (zQ G Q) (zXC G X) args s mc ms (zfree G) t := by
  rcases h with ⟨v, vm₁, ⟨U', l2, c2, s2⟩, hW₁, Y, ⟨g', mk, t, L, e1, e2, ⟨v', σ', hv, hQ, hσ', hF⟩, h1, hL, h2, h3⟩, stp⟩ | ⟨q, vm₁, ⟨U', l2, c2, s2⟩, hW₁, Y, ⟨g', mk, t, L, E, ce, e1, e2, ⟨σ', hQ, hσ', hF⟩, hce, hcv, hcl, h1, hL, h2, h3⟩, stp⟩
  · dsimp only [Pt.U, Pt.locs, Pt.cells, Pt.slots] at Y e1 e2 h1 h2 h3 stp
    subst h1; subst h2; subst h3
    cases hv
    obtain ⟨f1, f2⟩ := hF
    have f1' : H.size ≤ t.heap.size := by rw [← hT]; exact f1
    have f2' : ∀ q : Nat, q < H.size → ¬ zfree G q → t.heap[q]? = H[q]? := fun q a b => by rw [← hT] at a ⊢; exact f2 q a b
    obtain ⟨t2, a1, b1⟩ := kk v σ' hQ _ _ _ _ _ _ _ _ _ _ _ _ _ _ _ _ _ (z_grow hX (z_keep hX.2.2.2.2 hL f1' f2')) hσ' hl hc hs U' e1 Y
    exact ⟨t2, stp t2 a1, b1⟩
  · dsimp only [Pt.U, Pt.locs, Pt.cells, Pt.slots] at Y e1 e2 h1 h2 h3 stp hcl
    subst h1; subst h2; subst h3
    obtain ⟨f1, f2⟩ := hF
    have f1' : H.size ≤ t.heap.size := by rw [← hT]; exact f1
    have f2' : ∀ q : Nat, q < H.size → ¬ zfree G q → t.heap[q]? = H[q]? := fun q a b => by rw [← hT] at a ⊢; exact f2 q a b
    obtain ⟨t2, a1, b1⟩ := kx E q σ' hQ _ _ _ _ _ _ _ _ _ _ _ _ _ _ _ _ _ _ ce (z_grow hX (z_keep hX.2.2.2.2 hL f1' f2')) hσ' hl hc hs hce hcv (vx_cls hW₁ hcl) U' e1 Y
    exact ⟨t2, stp.trans a1, b1⟩

theorem aw_callV {y : MethodName} {ix : Nat} {bytes : ByteArray} {maxL : Nat} {ret : Option FieldType} {As : List Value} {st0 : List Value} {x : Option Nat} {kd : Nat} (hkd : (0 < kd ∧ kd < 9) ∨ (10 ≤ kd ∧ kd < 24)) {QQ : Option Value → ZS → Nat → Nat → Prop} {XX : String → Nat → ZS → Nat → Nat → Prop} (d : decode C.2.1 pc = .ok (.invokevirtual ix, 3)) (q1 : Cond.methodLink C.1 ix y ∈ lw_all) (q2 : Cond.instanceMethod y ∈ lw_all) (q3 : Cond.selects (znm kd) y y ∈ lw_all) (q5 : Cond.code y bytes maxL ret ∈ lw_all) (hy : y.cls ≠ "java/lang/invoke/MethodHandle" ∧ y.cls ≠ "java/lang/invoke/VarHandle") (hlen : (parseMethodDescriptor y.desc).map (fun d => d.parameters.length) = some As.length) (hst : st0 = As.reverse ++ va_rf x :: st) (hw : st.length ≤ 12) (h : (∃ b, x = some b ∧ sk σ b = kd ∧ cal G y C.2.2.2.2.2.2 kc ks (va_rf (some b) :: As) σ QQ XX)) (kk : ∀ v σ kc ks, QQ v σ kc ks → AW G C Q X kc ks (pc + 3) lo (v.toList ++ st) σ) (kx : ∀ E q σ kc ks, XX E q σ kc ks → AX G C Q X kc ks pc lo σ E q) : AW G C Q X kc ks pc lo st0 σ := by
  intro p l e R s m args below meth c H locs cells slots mc ms ls hX hσ hl hc hs
  obtain ⟨b, rfl, hb, d1, k1, n1, h1, h2, h3, hM⟩ := h
  obtain ⟨cellB, p1, p2, p3⟩ := z_cls hX hσ hb hkd
  have hfr := hX.2.2.1.2.2.1
  have hlo := hX.2.2.1.2.2.2
  have hw9 := cat_sum st
  unfold zfr at hfr
  unfold zlo at hlo
  intro T hT Y
  have hK := hM l R p e below s args 3 24 hX.2.1.2.2.2.2 hX.1.2.2.2.2 (by unfold zfr; omega) (by unfold zlo; omega)
  have h9 := vx_callV Y hX.1.1 hX.1.2.2.2.1 (hX.1.2.2.2.2 _ q1) (hX.1.2.2.2.2 _ q2) (hX.1.2.2.2.2 _ q3) (hX.1.2.2.2.2 _ q5) hy hK (by rw [hT]; exact p1) (by rw [p2]; rfl) p3 (g := F0 m pc ls st0) rfl (hl.1.trans hX.1.2.2.1.symm) (argsL := As) (rest := st) (fun sig h => by rw [h] at hlen; exact (Option.some.inj hlen).symm) hst (by show 2 * 0 + _ ≤ 24; omega) (by rw [hX.1.2.1]; exact d) (z_pre hX hσ (by omega) (by omega) hT)
  exact z_behind hX hl (kc := kc - k1) (ks := ks - n1) (by omega) (by omega) hT h9 (fun v σ h => kk v σ _ _ h) (fun E q σ h => kx E q σ _ _ h)
theorem aw_callVX {y : MethodName} {ix : Nat} {bytes : ByteArray} {maxL : Nat} {ret : Option FieldType} {As : List Value} {st0 : List Value} {hh : List (Nat × Nat × Nat × Nat)} {x : Option Nat} {kd : Nat} (hkd : (0 < kd ∧ kd < 9) ∨ (10 ≤ kd ∧ kd < 24)) {QQ : Option Value → ZS → Nat → Nat → Prop} {XX : String → Nat → ZS → Nat → Nat → Prop} (d : decode C.2.1 pc = .ok (.invokevirtual ix, 3)) (q1 : Cond.methodLink C.1 ix y ∈ lw_all) (q2 : Cond.instanceMethod y ∈ lw_all) (q3 : Cond.selects (znm kd) y y ∈ lw_all) (q5 : Cond.codeWith y bytes maxL ret hh ∈ lw_all) (hy : y.cls ≠ "java/lang/invoke/MethodHandle" ∧ y.cls ≠ "java/lang/invoke/VarHandle") (hlen : (parseMethodDescriptor y.desc).map (fun d => d.parameters.length) = some As.length) (hst : st0 = As.reverse ++ va_rf x :: st) (hw : st.length ≤ 12) (h : (∃ b, x = some b ∧ sk σ b = kd ∧ cal G y C.2.2.2.2.2.2 kc ks (va_rf (some b) :: As) σ QQ XX)) (kk : ∀ v σ kc ks, QQ v σ kc ks → AW G C Q X kc ks (pc + 3) lo (v.toList ++ st) σ) (kx : ∀ E q σ kc ks, XX E q σ kc ks → AX G C Q X kc ks pc lo σ E q) : AW G C Q X kc ks pc lo st0 σ := by
  intro p l e R s m args below meth c H locs cells slots mc ms ls hX hσ hl hc hs
  obtain ⟨b, rfl, hb, d1, k1, n1, h1, h2, h3, hM⟩ := h
  obtain ⟨cellB, p1, p2, p3⟩ := z_cls hX hσ hb hkd
  have hfr := hX.2.2.1.2.2.1
  have hlo := hX.2.2.1.2.2.2
  have hw9 := cat_sum st
  unfold zfr at hfr
  unfold zlo at hlo
  intro T hT Y
  have hK := hM l R p e below s args 3 24 hX.2.1.2.2.2.2 hX.1.2.2.2.2 (by unfold zfr; omega) (by unfold zlo; omega)
  have h9 := vx_callVX Y hX.1.1 hX.1.2.2.2.1 (hX.1.2.2.2.2 _ q1) (hX.1.2.2.2.2 _ q2) (hX.1.2.2.2.2 _ q3) (hX.1.2.2.2.2 _ q5) hy hK (by rw [hT]; exact p1) (by rw [p2]; rfl) p3 (g := F0 m pc ls st0) rfl (hl.1.trans hX.1.2.2.1.symm) (argsL := As) (rest := st) (fun sig h => by rw [h] at hlen; exact (Option.some.inj hlen).symm) hst (by show 2 * 0 + _ ≤ 24; omega) (by rw [hX.1.2.1]; exact d) (z_pre hX hσ (by omega) (by omega) hT)
  exact z_behind hX hl (kc := kc - k1) (ks := ks - n1) (by omega) (by omega) hT h9 (fun v σ h => kk v σ _ _ h) (fun E q σ h => kx E q σ _ _ h)
theorem aw_callS {y : MethodName} {ix : Nat} {bytes : ByteArray} {maxL : Nat} {ret : Option FieldType} {As : List Value} {st0 : List Value} {QQ : Option Value → ZS → Nat → Nat → Prop} {XX : String → Nat → ZS → Nat → Nat → Prop} (d : decode C.2.1 pc = .ok (.invokestatic ix, 3)) (q1 : Cond.methodLink C.1 ix y ∈ lw_all) (q2 : Cond.static y ∈ lw_all) (q3 : Cond.initialized y.cls ∈ lw_all) (q5 : Cond.code y bytes maxL ret ∈ lw_all) (hy : y.cls ≠ "java/lang/invoke/MethodHandle" ∧ y.cls ≠ "java/lang/invoke/VarHandle") (hlen : (parseMethodDescriptor y.desc).map (fun d => d.parameters.length) = some As.length) (hst : st0 = As.reverse ++ st) (hw : st.length ≤ 12) (h : cal G y C.2.2.2.2.2.2 kc ks As σ QQ XX) (kk : ∀ v σ kc ks, QQ v σ kc ks → AW G C Q X kc ks (pc + 3) lo (v.toList ++ st) σ) (kx : ∀ E q σ kc ks, XX E q σ kc ks → AX G C Q X kc ks pc lo σ E q) : AW G C Q X kc ks pc lo st0 σ := by
  intro p l e R s m args below meth c H locs cells slots mc ms ls hX hσ hl hc hs
  obtain ⟨d1, k1, n1, h1, h2, h3, hM⟩ := h
  have hfr := hX.2.2.1.2.2.1
  have hlo := hX.2.2.1.2.2.2
  have hw9 := cat_sum st
  unfold zfr at hfr
  unfold zlo at hlo
  intro T hT Y
  have hK := hM l R p e below s args 3 24 hX.2.1.2.2.2.2 hX.1.2.2.2.2 (by unfold zfr; omega) (by unfold zlo; omega)
  have h9 := vx_callS Y hX.1.1 hX.1.2.2.2.1 (hX.1.2.2.2.2 _ q1) (hX.1.2.2.2.2 _ q2) (hX.1.2.2.2.2 _ q3) (hX.1.2.2.2.2 _ q5) hy hK (g := F0 m pc ls st0) rfl (hl.1.trans hX.1.2.2.1.symm) (argsL := As) (rest := st) (fun sig h => by rw [h] at hlen; exact (Option.some.inj hlen).symm) hst (by show 2 * 0 + _ ≤ 24; omega) (by rw [hX.1.2.1]; exact d) (z_pre hX hσ (by omega) (by omega) hT)
  exact z_behind hX hl (kc := kc - k1) (ks := ks - n1) (by omega) (by omega) hT h9 (fun v σ h => kk v σ _ _ h) (fun E q σ h => kx E q σ _ _ h)
theorem aw_callSX {y : MethodName} {ix : Nat} {bytes : ByteArray} {maxL : Nat} {ret : Option FieldType} {As : List Value} {st0 : List Value} {hh : List (Nat × Nat × Nat × Nat)} {QQ : Option Value → ZS → Nat → Nat → Prop} {XX : String → Nat → ZS → Nat → Nat → Prop} (d : decode C.2.1 pc = .ok (.invokestatic ix, 3)) (q1 : Cond.methodLink C.1 ix y ∈ lw_all) (q2 : Cond.static y ∈ lw_all) (q3 : Cond.initialized y.cls ∈ lw_all) (q5 : Cond.codeWith y bytes maxL ret hh ∈ lw_all) (hy : y.cls ≠ "java/lang/invoke/MethodHandle" ∧ y.cls ≠ "java/lang/invoke/VarHandle") (hlen : (parseMethodDescriptor y.desc).map (fun d => d.parameters.length) = some As.length) (hst : st0 = As.reverse ++ st) (hw : st.length ≤ 12) (h : cal G y C.2.2.2.2.2.2 kc ks As σ QQ XX) (kk : ∀ v σ kc ks, QQ v σ kc ks → AW G C Q X kc ks (pc + 3) lo (v.toList ++ st) σ) (kx : ∀ E q σ kc ks, XX E q σ kc ks → AX G C Q X kc ks pc lo σ E q) : AW G C Q X kc ks pc lo st0 σ := by
  intro p l e R s m args below meth c H locs cells slots mc ms ls hX hσ hl hc hs
  obtain ⟨d1, k1, n1, h1, h2, h3, hM⟩ := h
  have hfr := hX.2.2.1.2.2.1
  have hlo := hX.2.2.1.2.2.2
  have hw9 := cat_sum st
  unfold zfr at hfr
  unfold zlo at hlo
  intro T hT Y
  have hK := hM l R p e below s args 3 24 hX.2.1.2.2.2.2 hX.1.2.2.2.2 (by unfold zfr; omega) (by unfold zlo; omega)
  have h9 := vx_callSX Y hX.1.1 hX.1.2.2.2.1 (hX.1.2.2.2.2 _ q1) (hX.1.2.2.2.2 _ q2) (hX.1.2.2.2.2 _ q3) (hX.1.2.2.2.2 _ q5) hy hK (g := F0 m pc ls st0) rfl (hl.1.trans hX.1.2.2.1.symm) (argsL := As) (rest := st) (fun sig h => by rw [h] at hlen; exact (Option.some.inj hlen).symm) hst (by show 2 * 0 + _ ≤ 24; omega) (by rw [hX.1.2.1]; exact d) (z_pre hX hσ (by omega) (by omega) hT)
  exact z_behind hX hl (kc := kc - k1) (ks := ks - n1) (by omega) (by omega) hT h9 (fun v σ h => kk v σ _ _ h) (fun E q σ h => kx E q σ _ _ h)
theorem aw_callI {y : MethodName} {ix : Nat} {bytes : ByteArray} {maxL : Nat} {As : List Value} {st0 : List Value} {b : Nat} {QQ : Option Value → ZS → Nat → Nat → Prop} {XX : String → Nat → ZS → Nat → Nat → Prop} (d : decode C.2.1 pc = .ok (.invokespecial ix, 3)) (q1 : Cond.methodLink C.1 ix y ∈ lw_all) (q2 : Cond.instanceMethod y ∈ lw_all) (q5 : Cond.code y bytes maxL none ∈ lw_all) (hin : y.name = "<init>") (hy : y.cls ≠ "java/lang/invoke/MethodHandle" ∧ y.cls ≠ "java/lang/invoke/VarHandle") (hlen : (parseMethodDescriptor y.desc).map (fun d => d.parameters.length) = some As.length) (hst : st0 = As.reverse ++ va_rf (some b) :: st) (hw : st.length ≤ 12) (h : cal G y C.2.2.2.2.2.2 kc ks (va_rf (some b) :: As) σ QQ XX) (kk : ∀ v σ kc ks, QQ v σ kc ks → AW G C Q X kc ks (pc + 3) lo (v.toList ++ st) σ) (kx : ∀ E q σ kc ks, XX E q σ kc ks → AX G C Q X kc ks pc lo σ E q) : AW G C Q X kc ks pc lo st0 σ := by
  intro p l e R s m args below meth c H locs cells slots mc ms ls hX hσ hl hc hs
  obtain ⟨d1, k1, n1, h1, h2, h3, hM⟩ := h
  have hfr := hX.2.2.1.2.2.1
  have hlo := hX.2.2.1.2.2.2
  have hw9 := cat_sum st
  unfold zfr at hfr
  unfold zlo at hlo
  intro T hT Y
  have hK := hM l R p e below s args 3 24 hX.2.1.2.2.2.2 hX.1.2.2.2.2 (by unfold zfr; omega) (by unfold zlo; omega)
  have h9 := vx_callI Y hX.1.1 hX.1.2.2.2.1 hin (hX.1.2.2.2.2 _ q1) (hX.1.2.2.2.2 _ q2) (hX.1.2.2.2.2 _ q5) hy hK (g := F0 m pc ls st0) rfl (hl.1.trans hX.1.2.2.1.symm) (a := b) (argsL := As) (rest := st) (fun sig h => by rw [h] at hlen; exact (Option.some.inj hlen).symm) hst (by show 2 * 0 + _ ≤ 24; omega) (by rw [hX.1.2.1]; exact d) (z_pre hX hσ (by omega) (by omega) hT)
  exact z_behind hX hl (kc := kc - k1) (ks := ks - n1) (by omega) (by omega) hT h9 (fun v σ h => kk v σ _ _ h) (fun E q σ h => kx E q σ _ _ h)
theorem aw_callIN {y : MethodName} {ix : Nat} {bytes : ByteArray} {maxL : Nat} {As : List Value} {st0 : List Value} {host : String} {b : Nat} {QQ : Option Value → ZS → Nat → Nat → Prop} {XX : String → Nat → ZS → Nat → Nat → Prop} (d : decode C.2.1 pc = .ok (.invokespecial ix, 3)) (q1 : Cond.methodLinkNest C.1 ix y host ∈ zNst) (q2 : Cond.instanceMethod y ∈ lw_all) (q5 : Cond.code y bytes maxL none ∈ lw_all) (hin : y.name = "<init>") (hy : y.cls ≠ "java/lang/invoke/MethodHandle" ∧ y.cls ≠ "java/lang/invoke/VarHandle") (hlen : (parseMethodDescriptor y.desc).map (fun d => d.parameters.length) = some As.length) (hst : st0 = As.reverse ++ va_rf (some b) :: st) (hw : st.length ≤ 12) (h : cal G y C.2.2.2.2.2.2 kc ks (va_rf (some b) :: As) σ QQ XX) (kk : ∀ v σ kc ks, QQ v σ kc ks → AW G C Q X kc ks (pc + 3) lo (v.toList ++ st) σ) (kx : ∀ E q σ kc ks, XX E q σ kc ks → AX G C Q X kc ks pc lo σ E q) : AW G C Q X kc ks pc lo st0 σ := by
  intro p l e R s m args below meth c H locs cells slots mc ms ls hX hσ hl hc hs
  obtain ⟨d1, k1, n1, h1, h2, h3, hM⟩ := h
  have hfr := hX.2.2.1.2.2.1
  have hlo := hX.2.2.1.2.2.2
  have hw9 := cat_sum st
  unfold zfr at hfr
  unfold zlo at hlo
  intro T hT Y
  have hK := hM l R p e below s args 3 24 hX.2.1.2.2.2.2 hX.1.2.2.2.2 (by unfold zfr; omega) (by unfold zlo; omega)
  have h9 := vx_callIN Y hX.1.1 hX.1.2.2.2.1 hin (va_Nw.use rfl (hX.2.2.2.1.2.2.2.2.1 _ q1)) (hX.1.2.2.2.2 _ q2) (hX.1.2.2.2.2 _ q5) hy hK (g := F0 m pc ls st0) rfl (hl.1.trans hX.1.2.2.1.symm) (a := b) (argsL := As) (rest := st) (fun sig h => by rw [h] at hlen; exact (Option.some.inj hlen).symm) hst (by show 2 * 0 + _ ≤ 24; omega) (by rw [hX.1.2.1]; exact d) (z_pre hX hσ (by omega) (by omega) hT)
  exact z_behind hX hl (kc := kc - k1) (ks := ks - n1) (by omega) (by omega) hT h9 (fun v σ h => kk v σ _ _ h) (fun E q σ h => kx E q σ _ _ h)
end ZCL
theorem lw_warm {s : State} {sargs : Array Value} (h : ∀ w ∈ lw_all, w.before sargs s = true) {ws : List Cond} (hG : ∀ w ∈ ws, w ∈ lw_all) : ∀ w ∈ ws, ∀ a' U, s.WarmedH U.vm → w.before a' U = true := fun w hw a' U hW => word_at hW (good_of_word (List.mem_filter.mp (hG w hw)).2) (h w (hG w hw))
/-- a method's contract, out of its body -/
theorem zm_of {G : ZG} {y : MethodName} {own : String} {code : ByteArray} {maxL : Nat} {ret : Option FieldType} {ini : Bool} {d kc ks : Nat} {as : List Value} {σ : ZS} {Q : Option Value → ZS → Prop} {X : String → Nat → ZS → Prop} {lo : List (Nat × Value)} (hy : plainName y.cls = true) (hown : y.cls = own) (hini : ini = true → y.name = "<init>") (q1 : Cond.code y code maxL ret ∈ lw_all) (q2 : Cond.initialized y.cls ∈ lw_all) (hL : maxL ≤ 25) (hlen : (lg_sl as).length ≤ maxL) (hlo : lv_args 0 as = lo)
    (h : AW G (own, code, maxL, ret, [], ini, d) Q X kc ks 0 lo [] σ) : ZM G y d kc ks as σ Q X := by
  intro l R p e below s sargs len W9 h1 h2 h3 h4
  have hws : ∀ w ∈ ws_ y code maxL ret, w ∈ lw_all := fun w hw => by
    rcases List.mem_cons.mp hw with e | e
    · rw [e]; exact q1
    · exact e
  have hM : zx_Met l y (ws_ y code maxL ret) { frames := zfr d, cells := kc, slots := ks, locals := zlo d } (va_Pc as (fun U => zREL G σ U.heap ∧ zWD G U U.heap)) (zQ G Q) (zXC G X) kc ks (zfree G) := by
    refine zx_ofW (cc := code) (maxL := maxL) (ret := ret) hy rfl ?_
    intro p e s m args below meth c s₁ B hml hvt hv
    obtain ⟨rfl, hσ, hW⟩ := hv
    have hts := atoms_spec (ws := ws_ y code maxL ret) B.pre
    rw [lg_entry_eq]
    have hl := lv_entry as (n := maxL) hlen
    rw [hlo] at hl
    refine h p l e _ s m _ below meth c s.heap [] 0 0 kc ks _ ⟨⟨B.exec, B.bytes, hml, ?_, fun w hw => hts w (List.mem_cons_of_mem _ hw)⟩, ⟨B.notSynchronized, B.returns, ?_, ?_, h1⟩, ⟨Nat.le_refl _, Nat.le_refl _, Nat.le_refl _, Nat.le_refl _⟩, hW, va_S.rf⟩ hσ hl (by omega) (by omega)
    · show s.vm.findClass own = some m.cls
      rw [← hown]
      exact findClass_of_methodNamed B.named
    · show c.exceptionTable.toList = tableOf []
      cases hq : c.exceptionTable.toList with
      | nil => rfl
      | cons x xs => exact (hvt x (by rw [hq]; exact List.mem_cons_self)).elim
    · intro hi
      rw [← hini hi]
      exact (name_of_methodNamed B.named B.method).1
  exact zx_back hM (fun a U g mk ⟨a1, a2, a3⟩ => ⟨a1, a2, a3.to (State.WarmedH.refl U) a3.1 (fun _ _ _ => rfl)⟩) rfl rfl h3 (by show W9 + (maxL + 11) + zlo d ≤ _; omega) (lw_warm h2 hws) List.mem_cons_self (fun a' U hW => lw_warm (ws := [_]) h2 (fun w hw => by rw [List.mem_singleton.mp hw]; exact q2) _ List.mem_cons_self a' U hW)
theorem zm_ofW {G : ZG} {y : MethodName} {own : String} {code : ByteArray} {maxL : Nat} {ret : Option FieldType} {hh : List (Nat × Nat × Nat × Nat)} {ini : Bool} {d kc ks : Nat} {as : List Value} {σ : ZS} {Q : Option Value → ZS → Prop} {X : String → Nat → ZS → Prop} {lo : List (Nat × Value)} (hy : plainName y.cls = true) (hown : y.cls = own) (hini : ini = true → y.name = "<init>") (q1 : Cond.codeWith y code maxL ret hh ∈ lw_all) (q2 : Cond.initialized y.cls ∈ lw_all) (hL : maxL ≤ 25) (hlen : (lg_sl as).length ≤ maxL) (hlo : lv_args 0 as = lo)
    (h : AW G (own, code, maxL, ret, hh, ini, d) Q X kc ks 0 lo [] σ) : ZM G y d kc ks as σ Q X := by
  intro l R p e below s sargs len W9 h1 h2 h3 h4
  have hws : ∀ w ∈ wsW_ y code maxL ret hh, w ∈ lw_all := fun w hw => by
    rcases List.mem_cons.mp hw with e | e
    · rw [e]; exact q1
    · exact e
  have hM : zx_Met l y (wsW_ y code maxL ret hh) { frames := zfr d, cells := kc, slots := ks, locals := zlo d } (va_Pc as (fun U => zREL G σ U.heap ∧ zWD G U U.heap)) (zQ G Q) (zXC G X) kc ks (zfree G) := by
    refine zx_ofWH (cc := code) (maxL := maxL) (ret := ret) (hh := hh) hy rfl ?_
    intro p e s m args below meth c s₁ B hml hv
    obtain ⟨rfl, hσ, hW⟩ := hv
    have hts := atoms_spec (ws := wsW_ y code maxL ret hh) B.pre
    rw [lg_entry_eq]
    have hl := lv_entry as (n := maxL) hlen
    rw [hlo] at hl
    refine h p l e _ s m _ below meth c s.heap [] 0 0 kc ks _ ⟨⟨B.exec, B.bytes, hml, ?_, fun w hw => hts w (List.mem_cons_of_mem _ hw)⟩, ⟨B.notSynchronized, B.returns, ?_, ?_, h1⟩, ⟨Nat.le_refl _, Nat.le_refl _, Nat.le_refl _, Nat.le_refl _⟩, hW, va_S.rf⟩ hσ hl (by omega) (by omega)
    · show s.vm.findClass own = some m.cls
      rw [← hown]
      exact findClass_of_methodNamed B.named
    · exact vx_table (x := y) B (hts _ List.mem_cons_self)
    · intro hi
      rw [← hini hi]
      exact (name_of_methodNamed B.named B.method).1
  exact zx_backW hM (fun a U g mk ⟨a1, a2, a3⟩ => ⟨a1, a2, a3.to (State.WarmedH.refl U) a3.1 (fun _ _ _ => rfl)⟩) rfl rfl h3 (by show W9 + (maxL + 11) + zlo d ≤ _; omega) (lw_warm h2 hws) List.mem_cons_self (fun a' U hW => lw_warm (ws := [_]) h2 (fun w hw => by rw [List.mem_singleton.mp hw]; exact q2) _ List.mem_cons_self a' U hW)
