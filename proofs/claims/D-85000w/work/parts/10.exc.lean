/-! L1e: what is thrown by the machine; handlers; what leaves a method (printed by gen/mkexc.py) -/
set_option maxRecDepth 100000
abbrev eNPE : String := "java/lang/NullPointerException"
abbrev eAIO : String := "java/lang/ArrayIndexOutOfBoundsException"
abbrev eIOB : String := "java/lang/IndexOutOfBoundsException"
abbrev eNAS : String := "java/lang/NegativeArraySizeException"
abbrev eCCE : String := "java/lang/ClassCastException"
abbrev eASE : String := "java/lang/ArrayStoreException"
abbrev eARI : String := "java/lang/ArithmeticException"
def zch (E : String) : List String := if E = eAIO then [eIOB, "java/lang/RuntimeException", "java/lang/Exception"] else ["java/lang/RuntimeException", "java/lang/Exception"]
theorem zxw_npe : ((vx_atN 8).filter goodWord).all (fun w => lw_tbl.contains w) = true ∧ ((vx_atN 8).filter (fun w => !goodWord w)).all (fun w => zDc.contains w) = true ∧ (vx_atN 8).all vx_ot = true := by decide +kernel
def zEs : List String := [eAIO, eNAS, eCCE, eASE, eARI]
theorem zxw_msg : zEs.all (fun E => ((vx_atM E (zch E)).filter goodWord).all (fun w => lw_tbl.contains w) && ((vx_atM E (zch E)).filter (fun w => !goodWord w)).all (fun w => zDc.contains w) && (vx_atM E (zch E)).all vx_ot && Bundle.fit E && (zch E).all Bundle.fit && !(E == "java/lang/StackOverflowError") && !(E == "java/lang/OutOfMemoryError") && decide ((zch E).length ≤ 3)) = true := by decide +kernel
theorem zDc_ot : zDc.all Cond.onTables = true := by decide +kernel
theorem cat_le (v : Value) : v.category ≤ 2 := by cases v <;> simp [Value.category]
theorem cat_sum (st : List Value) : (st.map fun v => v.category).sum ≤ 2 * st.length := by
  induction st with
  | nil => exact Nat.le_refl _
  | cons v st ih =>
    have := cat_le v
    simp only [List.map_cons, List.sum_cons, List.length_cons]
    omega
section ZE
variable {G : ZG} {C : AWC} {σ : ZS} {p : Program} {l : Launch} {e : Env} {R : Room} {s : State} {m : MethodId} {args : Array Value} {below : List Frame} {meth : Method} {c : Code} {H : Heap} {locs : List Loc} {cells slots mc ms : Nat} {Q : State → Prop} {pc : Nat} {ls : Array Slot} {rest : List Value} {lo : List (Nat × Value)}
theorem zhat (hX : zCT G C mc ms p l R s m args meth c H locs) {L : List Cond} (h1 : (L.filter goodWord).all (fun w => lw_tbl.contains w) = true) (h2 : (L.filter (fun w => !goodWord w)).all (fun w => zDc.contains w) = true) : ∀ w ∈ L, w.before args s = true := by
  refine vx_hat (B := zDc) (fun w hw => ?_) (fun w hw => ?_) (fun w hw => va_Nw.use (List.all_eq_true.mp zDc_ot w hw) (hX.2.2.2.1.2.2.2.2.2.2.2.2.1 w hw))
  · have g := (List.mem_filter.mp hw).2
    have h3 := List.all_eq_true.mp h1 w hw
    exact hX.1.2.2.2.2 w (List.mem_filter.mpr ⟨List.contains_iff_mem.mp h3, g⟩)
  · exact List.contains_iff_mem.mp (List.all_eq_true.mp h2 w hw)
theorem z_grow (hX : zCT G C mc ms p l R s m args meth c H locs) {H1 : Heap} {locs2 : List Loc} (hS : va_S (zfree G) s.heap H1 locs2) : zCT G C mc ms p l R s m args meth c H1 locs2 := ⟨hX.1, hX.2.1, hX.2.2.1, hX.2.2.2.1, hS⟩
theorem z_npe (hX : zCT G C mc ms p l R s m args meth c H locs) (hl : lv_has ls C.2.2.1 lo) (hr : rest.length ≤ 80) (hc : cells + 1 ≤ mc) (hs : slots + 8 ≤ ms)
    (k : ∀ (H1 : Heap) (q9 : Addr) (ce : Cell), H.size ≤ H1.size → (∀ q : Nat, q < H.size → H1[q]? = H[q]?) → zCT G C mc ms p l R s m args meth c H1 locs → H1[q9]? = some ce → ce.vm = .none → s.vm.findClass eNPE = some ce.cls → vx_W p l e R s m args below meth c H1 locs (cells + 1) (slots + 8) Q (F0 m pc ls rest) q9) :
    vx_NoteN p l e R s m args below meth c H locs cells slots Q (F0 m pc ls rest) := by
  have hr9 := cat_sum rest
  have hfr := hX.2.2.1.2.2.1
  have hlo := hX.2.2.1.2.2.2
  have hmc := hX.2.2.1.1
  have hms := hX.2.2.1.2.1
  unfold zfr at hfr
  unfold zlo at hlo
  exact vx_npe hX.1.1 hX.2.1.2.2.2.2 (zhat hX zxw_npe.1 zxw_npe.2.1) (List.all_eq_true.mp zxw_npe.2.2) hX.2.2.2.1.2.2.2.2.2.1.1 hX.2.2.2.1.2.2.2.2.2.1.2 hX.2.2.2.2 (hl.1.trans hX.1.2.2.1.symm) (by omega) (by omega) (by omega) (by omega) hX.2.1.1
    fun H1 q9 ce a1 a2 a3 a4 a5 a6 => k H1 q9 ce a1 a2 (z_grow hX a3) a4 a5 a6
theorem z_vm (hX : zCT G C mc ms p l R s m args meth c H locs) {E text : String} (hE : E ∈ zEs) (hl : lv_has ls C.2.2.1 lo) (hr : rest.length ≤ 80) (hc : cells + 3 ≤ mc) (hs : slots + 910 ≤ ms) (htext : (text == notModelled) = false) (hnb : (stringBytes (stringToUtf16 text)).size ≤ 900)
    (k : ∀ (H1 : Heap) (q9 : Addr) (ce : Cell), H.size ≤ H1.size → (∀ q : Nat, q < H.size → H1[q]? = H[q]?) → zCT G C mc ms p l R s m args meth c H1 locs → H1[q9]? = some ce → ce.vm = .none → s.vm.findClass E = some ce.cls → vx_W p l e R s m args below meth c H1 locs (cells + 3) (slots + 910) Q (F0 m pc ls rest) q9) :
    vx_Note p l e R s m args below meth c H locs cells slots Q (F0 m pc ls rest) E text := by
  have hr9 := cat_sum rest
  have hfr := hX.2.2.1.2.2.1
  have hlo := hX.2.2.1.2.2.2
  have hmc := hX.2.2.1.1
  have hms := hX.2.2.1.2.1
  unfold zfr at hfr
  unfold zlo at hlo
  have h0 := List.all_eq_true.mp zxw_msg E hE
  simp only [Bool.and_eq_true, decide_eq_true_eq, Bool.not_eq_true'] at h0
  obtain ⟨⟨⟨⟨⟨⟨⟨b1, b2⟩, b3⟩, b4⟩, b5⟩, b6⟩, b7⟩, b8⟩ := h0
  exact vx_vm (nb := 900) hX.1.1 hX.2.1.2.2.2.2 b4 (List.all_eq_true.mp b5) b6 b7 (zhat hX b1 b2) (List.all_eq_true.mp b3) hX.2.2.2.1.2.2.2.2.2.1.1 hX.2.2.2.1.2.2.2.2.2.1.2 hX.2.2.2.2 (hl.1.trans hX.1.2.2.1.symm) htext hnb (by omega) (by omega) (by omega) (by omega) (by omega) (by omega) hX.2.1.1
    fun H1 q9 ce a1 a2 a3 a4 a5 a6 => k H1 q9 ce a1 a2 (z_grow hX a3) a4 a5 a6
end ZE
/-- NullPointerException comes: then K -/
def xN (σ : ZS) (kc ks : Nat) (K : ZS → Nat → Nat → Nat → Prop) : Prop := (1 ≤ kc ∧ 8 ≤ ks) ∧ ∀ z q, sz σ ≤ z → K (wz σ z) q (kc - 1) (ks - 8)
/-- another exception of the machine's comes -/
def xT (σ : ZS) (kc ks : Nat) (K : ZS → Nat → Nat → Nat → Prop) : Prop := (3 ≤ kc ∧ 910 ≤ ks) ∧ ∀ z q, sz σ ≤ z → K (wz σ z) q (kc - 3) (ks - 910)
section ZER
variable {G : ZG} {C : AWC} {Q : Option Value → ZS → Prop} {X : String → Nat → ZS → Prop} {kc ks pc : Nat} {lo : List (Nat × Value)} {st : List Value} {σ : ZS}
def ANn (G : ZG) (C : AWC) (Q : Option Value → ZS → Prop) (X : String → Nat → ZS → Prop) (kc ks : Nat) (pc : Nat) (lo : List (Nat × Value)) (st : List Value) (σ : ZS) : Prop :=
  ∀ (p : Program) (l : Launch) (e : Env) (R : Room) (s : State) (m : MethodId) (args : Array Value) (below : List Frame) (meth : Method) (c : Code) (H : Heap) (locs : List Loc) (cells slots mc ms : Nat) (ls : Array Slot),
    zCT G C mc ms p l R s m args meth c H locs → zREL G σ H → lv_has ls C.2.2.1 lo → cells + kc ≤ mc → slots + ks ≤ ms →
    vx_NoteN p l e R s m args below meth c H locs cells slots (zx_MQ below (zQ G Q) (zXC G X) args s mc ms (zfree G)) (F0 m pc ls st)
def ANt (G : ZG) (C : AWC) (Q : Option Value → ZS → Prop) (X : String → Nat → ZS → Prop) (kc ks : Nat) (pc : Nat) (lo : List (Nat × Value)) (st : List Value) (σ : ZS) (E : String) : Prop :=
  ∀ (p : Program) (l : Launch) (e : Env) (R : Room) (s : State) (m : MethodId) (args : Array Value) (below : List Frame) (meth : Method) (c : Code) (H : Heap) (locs : List Loc) (cells slots mc ms : Nat) (ls : Array Slot) (text : String),
    zCT G C mc ms p l R s m args meth c H locs → zREL G σ H → lv_has ls C.2.2.1 lo → cells + kc ≤ mc → slots + ks ≤ ms → (text == notModelled) = false → (stringBytes (stringToUtf16 text)).size ≤ 900 →
    vx_Note p l e R s m args below meth c H locs cells slots (zx_MQ below (zQ G Q) (zXC G X) args s mc ms (zfree G)) (F0 m pc ls st) E text
theorem aw_noteN {K : ZS → Nat → Nat → Nat → Prop} (hr : st.length ≤ 80) (h : xN σ kc ks K) (k : ∀ σ q kc ks, K σ q kc ks → AX G C Q X kc ks pc lo σ eNPE q) : ANn G C Q X kc ks pc lo st σ := by
  intro p l e R s m args below meth c H locs cells slots mc ms ls hX hσ hl hc hs
  obtain ⟨⟨h1, h2⟩, h3⟩ := h
  refine z_npe hX hl hr (by omega) (by omega) fun H1 q9 ce a1 a2 hX1 a4 a5 a6 => ?_
  exact k _ _ _ _ (h3 H1.size q9 (Nat.le_trans hσ.2.1 a1)) _ _ _ _ _ _ _ _ _ _ _ _ _ _ _ _ _ _ ce hX1 (hσ.grow a1 a2) hl (by omega) (by omega) a4 a5 a6
theorem aw_noteT {E : String} (hE : E ∈ zEs) {K : ZS → Nat → Nat → Nat → Prop} (hr : st.length ≤ 80) (h : xT σ kc ks K) (k : ∀ σ q kc ks, K σ q kc ks → AX G C Q X kc ks pc lo σ E q) : ANt G C Q X kc ks pc lo st σ E := by
  intro p l e R s m args below meth c H locs cells slots mc ms ls text hX hσ hl hc hs ht hn
  obtain ⟨⟨h1, h2⟩, h3⟩ := h
  refine z_vm hX hE hl hr (by omega) (by omega) ht hn fun H1 q9 ce a1 a2 hX1 a4 a5 a6 => ?_
  exact k _ _ _ _ (h3 H1.size q9 (Nat.le_trans hσ.2.1 a1)) _ _ _ _ _ _ _ _ _ _ _ _ _ _ _ _ _ _ ce hX1 (hσ.grow a1 a2) hl (by omega) (by omega) a4 a5 a6
/-- it leaves the method -/
theorem ax_out {E : String} {q : Nat} (ho : (tableOf C.2.2.2.2.1).all (fun x => !(covers x pc)) = true) (h : X E q σ) : AX G C Q X kc ks pc lo σ E q := by
  intro p l e R s m args below meth c H locs cells slots mc ms ls rest ce hX hσ hl hc hs a1 a2 a3
  refine zx_out (fun x hx => ?_) hX.2.1.1 a1 a2 a3 (fun t ht hA => ⟨σ, h, by rw [ht]; exact hσ, hX.2.2.2.2.F ht⟩) hX.2.2.2.2.2.2 (by omega) (by omega)
  rw [hX.2.1.2.2.1] at hx
  have := List.all_eq_true.mp ho x hx
  cases hcv : covers x pc
  · rfl
  · rw [hcv] at this; cases this
theorem ax_sub {E : String} {q : Nat} {lo2 : List (Nat × Value)} (ks2 : List Nat) (hl2 : lv_pick lo ks2 = lo2) (k : AX G C Q X kc ks pc lo2 σ E q) : AX G C Q X kc ks pc lo σ E q := by
  intro p l e R s m args below meth c H locs cells slots mc ms ls rest ce hX hσ hl hc hs a1 a2 a3
  exact k _ _ _ _ _ _ _ _ _ _ _ _ _ _ _ _ _ _ _ hX hσ (lv_sub hl ks2 hl2) hc hs a1 a2 a3
/-- a handler takes it -/
theorem ax_catch {E nm : String} {q : Nat} (pre : List ExceptionTableEntry) (x : ExceptionTableEntry) (suf : List ExceptionTableEntry) (hsplit : tableOf C.2.2.2.2.1 = pre ++ x :: suf) (hpass : ∀ z ∈ pre, covers z pc = false ∨ (z.catchType ≠ 0 ∧ ∃ n9 : String, Cond.classLink C.1 z.catchType n9 ∈ lw_all ∧ (E, n9, false) ∈ zAs)) (hx : covers x pc = true) (h0 : x.catchType ≠ 0) (hl0 : Cond.classLink C.1 x.catchType nm ∈ lw_all) (ha : (E, nm, true) ∈ zAs)
    (k : AW G C Q X kc ks x.handlerPc lo [va_rf (some q)] σ) : AX G C Q X kc ks pc lo σ E q := by
  intro p l e R s m args below meth c H locs cells slots mc ms ls rest ce hX hσ hl hc hs a1 a2 a3 T hT Y
  have hpl : e.platform.magicAccessors = ({} : Platform).magicAccessors := by rw [Y.admits.platform]
  have hown := hX.1.2.2.2.1
  obtain ⟨c3, c4, hc3, hc4, hasg⟩ := hX.2.2.2.1.2.2.2.1 _ ha
  dsimp only at hc3 hc4 hasg
  cases Option.some.inj (hc3.symm.trans a3)
  obtain ⟨c5, hc5, hcl5⟩ := Cond.classLink_spec hown (hX.1.2.2.2.2 _ hl0) e.platform hpl
  cases Option.some.inj (hc4.symm.trans hc5)
  obtain ⟨vm', Y', stp⟩ := Y.thenCaughtThrough q (g := F0 m pc ls rest) rfl (Steps.refl _) (by rw [hT]; exact a1) (by rw [a2]; rfl) (by obtain ⟨k9, h9, -⟩ := Vm.findClass_spec a3; exact ⟨k9, h9⟩) pre x suf (hX.2.1.2.2.1.trans hsplit)
    (fun z hz => by
      rcases hpass z hz with h | ⟨hz0, n9, hl1, hn1⟩
      · exact Or.inl h
      · obtain ⟨c6, hc6, hcl6⟩ := Cond.classLink_spec hown (hX.1.2.2.2.2 _ hl1) e.platform hpl
        obtain ⟨a8, b8, h1, h2, h3⟩ := hX.2.2.2.1.2.2.2.1 _ hn1
        dsimp only at h1 h2 h3
        cases Option.some.inj (h1.symm.trans a3)
        cases Option.some.inj (h2.symm.trans hc6)
        exact Or.inr ⟨hz0, _, hcl6, h3⟩) hx (Or.inr ⟨h0, c4, hcl5, hasg⟩)
  obtain ⟨t, b1, b2⟩ := k _ _ _ _ _ _ _ _ _ _ _ _ _ _ _ _ _ hX hσ hl hc hs (T.setVm vm') hT Y'
  exact ⟨t, stp.trans b1, b2⟩
/-- a handler for anything takes it -/
theorem ax_any {E : String} {q : Nat} (pre : List ExceptionTableEntry) (x : ExceptionTableEntry) (suf : List ExceptionTableEntry) (hsplit : tableOf C.2.2.2.2.1 = pre ++ x :: suf) (hpass : ∀ z ∈ pre, covers z pc = false) (hx : covers x pc = true) (h0 : x.catchType = 0)
    (k : AW G C Q X kc ks x.handlerPc lo [va_rf (some q)] σ) : AX G C Q X kc ks pc lo σ E q := by
  intro p l e R s m args below meth c H locs cells slots mc ms ls rest ce hX hσ hl hc hs a1 a2 a3 T hT Y
  obtain ⟨vm', Y', stp⟩ := Y.thenCaughtThrough q (g := F0 m pc ls rest) rfl (Steps.refl _) (by rw [hT]; exact a1) (by rw [a2]; rfl) (by obtain ⟨k9, h9, -⟩ := Vm.findClass_spec a3; exact ⟨k9, h9⟩) pre x suf (hX.2.1.2.2.1.trans hsplit)
    (fun z hz => Or.inl (hpass z hz)) hx (Or.inl h0)
  obtain ⟨t, b1, b2⟩ := k _ _ _ _ _ _ _ _ _ _ _ _ _ _ _ _ _ hX hσ hl hc hs (T.setVm vm') hT Y'
  exact ⟨t, stp.trans b1, b2⟩
/-- throw of a Fault that is ours -/
theorem aw_athrow {q : Nat} (d : decode C.2.1 pc = .ok (.athrow, 1)) (hq : sk σ q = 5) (k : AX G C Q X kc ks pc lo σ RX1 q) : AW G C Q X kc ks pc lo (va_rf (some q) :: st) σ := by
  intro p l e R s m args below meth c H locs cells slots mc ms ls hX hσ hl hc hs
  obtain ⟨cell, cf, kf, fi, f, p1, p2, p3, -, -, -, -⟩ := z_slot (ci := 4) (k := 0) (r := (RX1, TX1, 9)) hX hσ rfl (by decide) hq
  exact vx_athrow hX.1.1 hX.1.2.1 d (k _ _ _ _ _ _ _ _ _ _ _ _ _ _ _ _ _ _ cell hX hσ hl hc hs p1 p3 (by rw [p2]; exact (hX.2.2.2.1.2.1 4 _ rfl).2.1))
end ZER
