/-! L1m: clones of arrays -/
/-- the array x copied to the new address b -/
def zcp (σ : ZS) (x b : Nat) : ZS := ((fun c => if c = b then sk σ x else sk σ c), (fun c => if c = b then sn σ x else sn σ c), b + 1, ur (sI σ) b (sI σ x), ur (sL σ) b (sL σ x), ur (sF σ) b (sF σ x), ur (sD σ) b (sD σ x), ur (sR σ) b (sR σ x))
theorem zv_zcp_ne (t : Nat) {σ : ZS} {x b c j : Nat} (h : c ≠ b) : zv t (zcp σ x b) c j = zv t σ c j := by
  unfold zv; split <;> simp [zcp, sI, sL, sF, sD, sR, ur, h]
theorem zv_zcp_self (t : Nat) {σ : ZS} {x b j : Nat} : zv t (zcp σ x b) b j = zv t σ x j := by
  unfold zv; split <;> simp [zcp, sI, sL, sF, sD, sR, ur]
theorem zREL.cp {G : ZG} {σ : ZS} {H H' : Heap} {x : Nat} (h : zREL G σ H) (hx : 10 ≤ sk σ x) (e1 : H'[H.size]? = H[x]?) (e2 : H'.size = H.size + 1) (e3 : ∀ q, q < H.size → H'[q]? = H[q]?) : zREL G (zcp σ x H.size) H' := by
  refine ⟨Nat.le_trans h.1 (Nat.le_trans h.2.1 (Nat.le_succ _)), by rw [e2]; exact Nat.le_refl _, fun b hb => ?_⟩
  by_cases hba : b = H.size
  · subst hba
    have hk0 : sk (zcp σ x H.size) H.size = sk σ x := by simp [zcp, sk]
    have hn0 : sn (zcp σ x H.size) H.size = sn σ x := by simp [zcp, sn]
    refine ⟨Nat.le_trans h.1 h.2.1, Nat.lt_succ_self _, fun c' r' hc' hr' => ?_, fun hk => ?_⟩
    · rw [hk0] at hc'
      have : c' < 8 := (List.getElem?_eq_some_iff.mp hr').1
      omega
    · rw [hk0, hn0, e1, (h.2.2 x (by omega)).2.2.2 hx]
      congr 1
      exact arrV_ext fun j _ => (zv_zcp_self _).symm
  · have hs : sk (zcp σ x H.size) b = sk σ b := by simp [zcp, sk, hba]
    have hn : sn (zcp σ x H.size) b = sn σ b := by simp [zcp, sn, hba]
    rw [hs] at hb
    obtain ⟨q1, q2, q3, q4⟩ := h.2.2 b hb
    have hl := h.lt hb
    refine ⟨q1, Nat.lt_succ_of_lt hl, fun c' r' hc' hr' => ?_, fun hk' => ?_⟩
    · rw [hs] at hc'
      refine ((q3 _ _ hc' hr').kept (e3 b hl)).to (fun j _ => ?_)
      rw [zv_zcp_ne _ hba]
    · rw [hs] at hk' ⊢
      rw [hn, e3 b hl, q4 hk']
      congr 1
      exact arrV_ext fun j _ => by rw [zv_zcp_ne _ hba]
def cln (σ : ZS) (kc ks kd cap : Nat) (x : Option Nat) (K : Nat → ZS → Nat → Nat → Prop) (KN : Prop) : Prop := (x = none → KN) ∧ ∀ a, x = some a → (sk σ a = kd ∨ (kd = 20 ∧ (sk σ a = 21 ∨ sk σ a = 22))) ∧ (1 ≤ kc ∧ cap ≤ ks ∧ sn σ a ≤ cap) ∧ (∀ j, j < sn σ a → fits (zeT (sk σ a)) (zv (ztg (zeT (sk σ a))) σ a j) = true) ∧ ∀ b, sz σ ≤ b → sk σ b = 0 → K b (zcp σ a b) (kc - 1) (ks - cap)
abbrev zclN : MethodName := ⟨"java/lang/Object", "clone", "()Ljava/lang/Object;"⟩
section ZR6
variable {p : Program} {l : Launch} {e : Env} {R : Room} {s : State} {m : MethodId} {args : Array Value} {below : List Frame} {meth : Method} {c : Code} {T : State} {locs : List Loc} {cells slots : Nat}
/-- clone of an array whose class need not be the one that the call names -/
theorem zr_clone (X : Stand p l e R s m args below meth c T locs cells slots) (hexec : p.tables.exec = Jvm.exec) {own ad rd : String} {index : Nat} (hown : s.vm.findClass own = some m.cls)
    (hlink : (Cond.methodLink own index ⟨ad, "clone", "()Ljava/lang/Object;"⟩).before args s = true) (hsame : (Cond.sameMethod ad "java/lang/Object" "clone" "()Ljava/lang/Object;").before args s = true)
    (hnat : (Cond.native zclN).before args s = true) (hinst : (Cond.instanceMethod zclN).before args s = true)
    (hsameR : (Cond.sameMethod rd "java/lang/Object" "clone" "()Ljava/lang/Object;").before args s = true) (hsel : (Cond.selects rd ⟨rd, "clone", "()Ljava/lang/Object;"⟩ zclN).before args s = true)
    {a : Addr} {cell : Cell} {cC : ClassId} {kR : Class} {cR : ClassId} {tR : FieldType} (hcell : T.heap[a]? = some cell) (hobj : ∀ k, cell.vm ≠ .statics k) (hknown : cell.vm ≠ .unknown) (hcls : s.vm.findClass rd = some cell.cls) (hkR : s.vm.classes[cell.cls]? = some kR) (hkRk : kR.kind = .array cR tR)
    (hC : s.vm.findClass "java/lang/Cloneable" = some cC) (hasg : s.vm.assignable cell.cls cC = true) (hfit : ∀ i v, cell.slots[i]? = some v → T.fitsSlot cell.cls .none i v = true)
    {g : JFrame} (hg : g.method = m) (hsize : g.locals.size = c.maxLocals) {rest : List Value} (hstack : g.stack = .ref a :: rest) (hdg : decode c.code g.pc = .ok (.invokevirtual index, 3))
    (hframes : 1 ≤ R.frames) (hlocals : 2 * g.monitorRoom + (rest.map fun v => v.category).sum + 14 ≤ R.locals) (hcells : cells + 1 ≤ R.cells) (hslots : slots + cell.slots.size ≤ R.slots) :
    ∃ vm', Stand p l e R s m args below meth c ((T.setVm vm').pushCell { cls := cell.cls, slots := cell.slots }) locs (cells + 1) (slots + cell.slots.size) ∧
      ∀ target, Steps p.tables e below (((T.setVm vm').pushCell { cls := cell.cls, slots := cell.slots }).setTop { g with pc := g.pc + 3, stack := .ref T.heap.size :: rest }) target → Steps p.tables e below (T.setTop g) target := by
  obtain ⟨r, kO, methO, hnO, hmO, hkO, N⟩ := NativeOf.of_instance hnat hinst (ps := []) (ret := some (.object "java/lang/Object")) (by decide +kernel)
  obtain ⟨r', methO', hnO', hmO', -, habs⟩ := Cond.instanceMethod_spec hinst
  cases hnO.symm.trans hnO'
  cases hmO.symm.trans hmO'
  obtain ⟨cn, ck, r1, hcn, hck, -, hf, hn1⟩ := Cond.sameMethod_found hsameR
  cases hnO.symm.trans hn1
  cases hcls.symm.trans hcn
  obtain ⟨c2, r2, m2, q1, q2, q3, q4, mk, hmk, hmki⟩ := Cond.selects_spec hsel
  cases hcls.symm.trans q1
  cases hf.symm.trans q2
  cases hnO.symm.trans q3
  cases hkO.symm.trans hmk
  have hselP : selectMethod e.platform s.vm cell.cls r = .method r := by rw [Launch.admits_selectMethod X.admits]; exact q4
  obtain ⟨vm', X', step⟩ := X.invokevirtualUp hexec hown hlink hsame (by decide) hnO hmO N.static hcell hobj hselP hmO habs hkO hmki hg (argsL := []) (rest := rest) (by rw [N.sig]; rfl) hstack hdg
  refine ⟨vm', X'.pushed _, fun target hrest => step target fun acts => ?_⟩
  subst hg
  have hA' : s.vm.Alike vm' := X'.warmed.alike
  obtain ⟨kO', N'⟩ := N.alike hA'
  obtain ⟨ck', hck', -⟩ := hA'.2.2 _ _ hck
  obtain ⟨kC, hkC, -⟩ := Vm.findClass_spec hC
  obtain ⟨kC', hkC', -⟩ := hA'.2.2 _ _ hkC
  have hroom := X.room
  simp only [State.hasRoom, Bool.and_eq_true, decide_eq_true_eq] at hroom
  have h1 := X.heapSize
  have h2 := X.used
  exact Steps.cloneOf (g := { g with stack := rest }) (ig := .invokevirtual index) (len := 3) p X'.here acts N'
    (X'.notFull (g := { g with stack := rest }) hsize (vars := nativeFrameWords "java/lang/Object" "clone" 1) hframes (by rw [show nativeFrameWords "java/lang/Object" "clone" 1 = 3 from by decide]; exact hlocals))
    hcell hobj hknown ⟨ck', hck'⟩ (by show vm'.findClass _ = _; rw [hA'.findClass]; exact hC) ⟨kC', hkC'⟩ (by show vm'.assignable _ _ = _; rw [hA'.assignable]; exact hasg) (Launch.admits_finalization X.admits)
    (by show T.heap.size < _; omega) (by show T.slotsUsed + _ ≤ _; omega) (fun i v hv => by rw [State.fitsSlot_setVm (X.warmed.alike.symm.trans hA')]; exact hfit i v hv) hdg hrest (by show vm'.clonesLoader _ = false; rw [hA'.clonesLoader]; exact Vm.clonesLoader_of_array hkR hkRk)
end ZR6
section ZR6B
variable {G : ZG} {C : AWC} {Q : Option Value → ZS → Prop} {X : String → Nat → ZS → Prop} {kc ks pc : Nat} {lo : List (Nat × Value)} {st : List Value} {σ : ZS}
/-- the words of a clone of an array of kind k -/
def zclW (k : Nat) : Prop := Cond.sameMethod (znm k) "java/lang/Object" "clone" "()Ljava/lang/Object;" ∈ lw_all ∧ Cond.selects (znm k) ⟨znm k, "clone", "()Ljava/lang/Object;"⟩ zclN ∈ lw_all ∧ Cond.castable (znm k) "java/lang/Cloneable" ∈ zDc
theorem aw_clone {x : Option Nat} {ix kd cap : Nat} {K : Nat → ZS → Nat → Nat → Prop} {KN : Prop} (d : decode C.2.1 pc = .ok (.invokevirtual ix, 3)) (q1 : Cond.methodLink C.1 ix ⟨znm kd, "clone", "()Ljava/lang/Object;"⟩ ∈ lw_all) (q2 : Cond.native zclN ∈ lw_all) (q3 : Cond.instanceMethod zclN ∈ lw_all) (hk1 : 10 ≤ kd) (hk2 : kd < 24) (qk : zclW kd) (qq : kd = 20 → zclW 21 ∧ zclW 22) (hr : st.length ≤ 80) (h : cln σ kc ks kd cap x K KN) (kk : ∀ a σ kc ks, K a σ kc ks → AW G C Q X kc ks (pc + 3) lo (va_rf (some a) :: st) σ) (kn : KN → ANn G C Q X kc ks pc lo st σ) : AW G C Q X kc ks pc lo (va_rf x :: st) σ := by
  intro p l e R s m args below meth c H locs cells slots mc ms ls hX hσ hl hc hs
  have hr9 := cat_sum st
  have hfr := hX.2.2.1.2.2.1
  have hlo := hX.2.2.1.2.2.2
  have hmc := hX.2.2.1.1
  have hms := hX.2.2.1.2.1
  unfold zfr at hfr
  unfold zlo at hlo
  cases x with
  | none =>
    intro T hT Y
    obtain ⟨r, kO, methO, hnO, hmO, hkO, N⟩ := NativeOf.of_instance (hX.1.2.2.2.2 _ q2) (hX.1.2.2.2.2 _ q3) (ps := []) (ret := some (.object "java/lang/Object")) (by decide +kernel)
    obtain ⟨vm', X1, st1⟩ := zr_vnull Y hX.1.1 hX.1.2.2.2.1 (hX.1.2.2.2.2 _ q1) (hX.1.2.2.2.2 _ qk.1) (by decide) hnO hmO N.static (g := F0 m pc ls (.null :: st)) rfl (argsL := []) (rest := st) (by rw [N.sig]; rfl) rfl (by rw [hX.1.2.1]; exact d)
    obtain ⟨t, a, b⟩ := kn (h.1 rfl) _ _ _ _ _ _ _ _ _ _ _ _ _ _ _ _ _ hX hσ hl hc hs (T.setVm vm') hT X1
    exact ⟨t, st1 t a, b⟩
  | some a =>
    obtain ⟨hka, ⟨b1, b2, b3⟩, hfit, hK⟩ := h.2 a rfl
    have hk9 : (10 ≤ sk σ a ∧ sk σ a < 24) ∧ zclW (sk σ a) := by
      rcases hka with e | ⟨e1, e | e⟩
      · rw [e]; exact ⟨⟨hk1, hk2⟩, qk⟩
      · rw [e]; exact ⟨by omega, (qq e1).1⟩
      · rw [e]; exact ⟨by omega, (qq e1).2⟩
    obtain ⟨⟨ha, ha2⟩, w1, w2, w3⟩ := hk9
    obtain ⟨h1, h2, h3⟩ := z_arr hX hσ (a := a) ha ha2
    obtain ⟨a1, a2, kA, kq, comp, a3, a4, a5, a6⟩ := hX.2.2.2.1.2.2.1 (sk σ a) ha ha2
    rw [znm_arr _ ha ha2] at a2
    obtain ⟨cX, cC, f1, f2, f3⟩ := Cond.castable_spec (va_Nw.use (A := args) rfl (hX.2.2.2.1.2.2.2.2.2.2.2.2.1 _ w3))
    cases a2.symm.trans f1
    have hz0 : sk σ H.size = 0 := by
      by_cases hz : sk σ H.size = 0
      · exact hz
      · exact absurd (hσ.lt hz) (Nat.lt_irrefl _)
    intro T hT Y
    have hkT : ∃ k2 : Class, T.vm.classes[G.2.1 (sk σ a)]? = some k2 ∧ k2.kind = .array comp (zeT (sk σ a)) := by
      obtain ⟨k2, e1, e2⟩ := Y.warmed.alike.2.2 _ _ a3
      exact ⟨k2, e1, by rw [e2]; exact a4⟩
    obtain ⟨k2, hk2a, hk2b⟩ := hkT
    obtain ⟨vm', Y', stp⟩ := zr_clone Y hX.1.1 hX.1.2.2.2.1 (hX.1.2.2.2.2 _ q1) (hX.1.2.2.2.2 _ qk.1) (hX.1.2.2.2.2 _ q2) (hX.1.2.2.2.2 _ q3) (hX.1.2.2.2.2 _ w1) (hX.1.2.2.2.2 _ w2) (by rw [hT]; exact h1) (fun z hz => by cases hz) (fun hz => by cases hz) a2 a3 a4 f2 f3 (fun i v hv => by
        have hi : i < sn σ a := by
          have := (Array.getElem?_eq_some_iff.mp hv).1
          rwa [arrV_size] at this
        rw [arrV_read _ _ hi] at hv
        cases hv
        have hq : T.vm.classes[(arrV (G.2.1 (sk σ a)) (sn σ a) (fun j => zv (ztg (zeT (sk σ a))) σ a j)).cls]? = some k2 := hk2a
        simpa [State.fitsSlot, State.slotType?, hq, hk2b] using hfit i hi) (g := F0 m pc ls (.ref a :: st)) rfl (hl.1.trans hX.1.2.2.1.symm) (rest := st) rfl (by rw [hX.1.2.1]; exact d) (by omega) (by show 2 * 0 + _ + 14 ≤ _; omega) (by omega) (by rw [arrV_size]; omega)
    rw [arrV_size] at Y'
    have e1 : ((T.setVm vm').pushCell { cls := (arrV (G.2.1 (sk σ a)) (sn σ a) (fun j => zv (ztg (zeT (sk σ a))) σ a j)).cls, slots := (arrV (G.2.1 (sk σ a)) (sn σ a) (fun j => zv (ztg (zeT (sk σ a))) σ a j)).slots }).heap = H.push (arrV (G.2.1 (sk σ a)) (sn σ a) (fun j => zv (ztg (zeT (sk σ a))) σ a j)) := by rw [← hT]; rfl
    have hX1 : zCT G C mc ms p l R s m args meth c (H.push (arrV (G.2.1 (sk σ a)) (sn σ a) (fun j => zv (ztg (zeT (sk σ a))) σ a j))) locs := z_grow hX ⟨Nat.le_trans hX.2.2.2.2.1 (by rw [Array.size_push]; omega), fun x h1 h2 => by
      rw [Array.getElem?_push, if_neg (Nat.ne_of_lt (Nat.lt_of_lt_of_le h1 hX.2.2.2.2.1))]
      exact hX.2.2.2.2.2.1 x h1 h2, hX.2.2.2.2.2.2⟩
    have hσ1 : zREL G (zcp σ a H.size) (H.push (arrV (G.2.1 (sk σ a)) (sn σ a) (fun j => zv (ztg (zeT (sk σ a))) σ a j))) := hσ.cp ha (by rw [Array.getElem?_push_size, h1]) (Array.size_push _) (fun q hq => by rw [Array.getElem?_push, if_neg (Nat.ne_of_lt hq)])
    have hsz : T.heap.size = H.size := by rw [hT]
    rw [hsz] at stp
    have Y2 : Stand p l e R s m args below meth c ((T.setVm vm').pushCell { cls := (arrV (G.2.1 (sk σ a)) (sn σ a) (fun j => zv (ztg (zeT (sk σ a))) σ a j)).cls, slots := (arrV (G.2.1 (sk σ a)) (sn σ a) (fun j => zv (ztg (zeT (sk σ a))) σ a j)).slots }) locs (cells + 1) (slots + cap) := { Y' with same := Y'.same.mono (Nat.le_refl _) (by omega) }
    obtain ⟨t, c1, c2⟩ := kk _ _ _ _ (hK H.size hσ.2.1 hz0) _ _ _ _ _ _ _ _ _ _ _ _ _ _ _ _ _ hX1 hσ1 hl (by omega) (by omega) _ e1 Y2
    exact ⟨t, stp t c1, c2⟩
end ZR6B
