/-! L1n: calls whose callee the kind of the object decides (printed by gen/mkrows7.py) -/
def pfW (x : MethodName) (C1 : String) (q : Nat × MethodName) : Prop := (0 < q.1 ∧ q.1 < 9) ∧ Cond.instanceMethod q.2 ∈ lw_all ∧ (Cond.selects (znm q.1) x q.2 ∈ lw_all ∨ (znm q.1 = RX8 ∧ x = zLDx ∧ q.2 = zLDx)) ∧ (∃ (b : ByteArray) (m : Nat) (r : Option FieldType), Cond.code q.2 b m r ∈ lw_all) ∧ (znm q.1, x, q.2) ∈ zFws
def pvW (x : MethodName) (C1 : String) (q : Nat × MethodName) : Prop := (0 < q.1 ∧ q.1 < 9) ∧ Cond.instanceMethod q.2 ∈ lw_all ∧ Cond.selects (znm q.1) x q.2 ∈ lw_all ∧ (∃ (b : ByteArray) (m : Nat) (r : Option FieldType), Cond.code q.2 b m r ∈ lw_all)
def pf0I (G : ZG) (L : List (Nat × MethodName)) (d : Nat) (x : Option Nat) (As : List Value) (σ : ZS) (K : Int32 → ZS → Prop) (KX : String → Nat → ZS → Prop) (KN : Prop) : Prop := (x = none → KN) ∧ ∀ b, x = some b → ∃ y, (sk σ b, y) ∈ L ∧ cs0I G y d (va_rf (some b) :: As) σ K KX
def pf0L (G : ZG) (L : List (Nat × MethodName)) (d : Nat) (x : Option Nat) (As : List Value) (σ : ZS) (K : Int64 → ZS → Prop) (KX : String → Nat → ZS → Prop) (KN : Prop) : Prop := (x = none → KN) ∧ ∀ b, x = some b → ∃ y, (sk σ b, y) ∈ L ∧ cs0L G y d (va_rf (some b) :: As) σ K KX
def pf0D (G : ZG) (L : List (Nat × MethodName)) (d : Nat) (x : Option Nat) (As : List Value) (σ : ZS) (K : UInt64 → ZS → Prop) (KX : String → Nat → ZS → Prop) (KN : Prop) : Prop := (x = none → KN) ∧ ∀ b, x = some b → ∃ y, (sk σ b, y) ∈ L ∧ cs0D G y d (va_rf (some b) :: As) σ K KX
section ZR7
variable {G : ZG} {C : AWC} {Q : Option Value → ZS → Prop} {X : String → Nat → ZS → Prop} {kc ks pc : Nat} {lo : List (Nat × Value)} {st : List Value} {σ : ZS}
theorem aw_pf0I {x9 : MethodName} {L : List (Nat × MethodName)} {ix ct : Nat} {As : List Value} {st0 : List Value} {x : Option Nat} {K : Int32 → ZS → Prop} {KX : String → Nat → ZS → Prop} {KN : Prop} (d : decode C.2.1 pc = .ok (.invokeinterface ix ct, 5)) (q1 : Cond.methodLink C.1 ix x9 ∈ lw_all) {kd9 : Nat} {y9 : MethodName} (qf : (znm kd9, x9, y9) ∈ zFws) (hL : ∀ q ∈ L, pfW x9 C.1 q) (hy : x9.cls ≠ "java/lang/invoke/MethodHandle" ∧ x9.cls ≠ "java/lang/invoke/VarHandle") (hlen : (parseMethodDescriptor x9.desc).map (fun d => d.parameters.length) = some As.length) (hst : st0 = As.reverse ++ va_rf x :: st) (hw : st.length ≤ 12) (h : pf0I G L C.2.2.2.2.2.2 x As σ K KX KN) (kk : ∀ (r : Int32) (σ : ZS), K r σ → AW G C Q X kc ks (pc + 5) lo (.int r :: st) σ) (kx : ∀ E q σ, KX E q σ → AX G C Q X kc ks pc lo σ E q) (kn : KN → ANn G C Q X kc ks pc lo st σ) : AW G C Q X kc ks pc lo st0 σ := by
  cases x with
  | none => exact aw_callFn d q1 qf hy hlen (hst.trans rfl) (kn (h.1 rfl))
  | some b =>
    obtain ⟨y, hy2, d1, hd1, hM⟩ := h.2 b rfl
    obtain ⟨⟨w1, w2⟩, w3, w4, ⟨b9, m9, r9, w5⟩, w6⟩ := hL _ hy2
    exact aw_callF (Or.inl ⟨w1, w2⟩) d q1 w3 w4 w5 w6 hy hlen hst hw rfl (QQ := (fun v σ' kc2 ks2 => (∃ r : Int32, v = some (.int r) ∧ K r σ') ∧ kc2 = kc ∧ ks2 = ks)) (XX := (fun E q σ' kc2 ks2 => KX E q σ' ∧ kc2 = kc ∧ ks2 = ks)) ⟨d1, 0, 0, hd1, Nat.zero_le _, Nat.zero_le _, hM.mono (fun v σ h => ⟨h, rfl, rfl⟩) (fun E q σ h => ⟨h, rfl, rfl⟩)⟩ (fun v σ kc2 ks2 hk => by
      obtain ⟨⟨r, rfl, hk⟩, rfl, rfl⟩ := hk
      exact kk _ _ hk) (fun E q σ kc2 ks2 hk => by
      obtain ⟨hk, rfl, rfl⟩ := hk
      exact kx _ _ _ hk)
theorem aw_pv0I {x9 : MethodName} {L : List (Nat × MethodName)} {ix : Nat} {As : List Value} {st0 : List Value} {x : Option Nat} {K : Int32 → ZS → Prop} {KX : String → Nat → ZS → Prop} {KN : Prop} (d : decode C.2.1 pc = .ok (.invokevirtual ix, 3)) (q1 : Cond.methodLink C.1 ix x9 ∈ lw_all) (q4 : Cond.sameMethod x9.cls x9.cls x9.name x9.desc ∈ lw_all) (qf : Cond.declares ⟨x9.cls, x9.name, x9.desc⟩ ∈ zDc) (hL : ∀ q ∈ L, pvW x9 C.1 q) (hy : x9.cls ≠ "java/lang/invoke/MethodHandle" ∧ x9.cls ≠ "java/lang/invoke/VarHandle") (hlen : (parseMethodDescriptor x9.desc).map (fun d => d.parameters.length) = some As.length) (hst : st0 = As.reverse ++ va_rf x :: st) (hw : st.length ≤ 12) (h : pf0I G L C.2.2.2.2.2.2 x As σ K KX KN) (kk : ∀ (r : Int32) (σ : ZS), K r σ → AW G C Q X kc ks (pc + 3) lo (.int r :: st) σ) (kx : ∀ E q σ, KX E q σ → AX G C Q X kc ks pc lo σ E q) (kn : KN → ANn G C Q X kc ks pc lo st σ) : AW G C Q X kc ks pc lo st0 σ := by
  cases x with
  | none => exact aw_callUn d q1 q4 qf hy hlen (hst.trans rfl) (kn (h.1 rfl))
  | some b =>
    obtain ⟨y, hy2, d1, hd1, hM⟩ := h.2 b rfl
    obtain ⟨⟨w1, w2⟩, w3, w4, ⟨b9, m9, r9, w5⟩⟩ := hL _ hy2
    exact aw_callU (Or.inl ⟨w1, w2⟩) d q1 w3 w4 q4 w5 qf hy hlen hst hw rfl (QQ := (fun v σ' kc2 ks2 => (∃ r : Int32, v = some (.int r) ∧ K r σ') ∧ kc2 = kc ∧ ks2 = ks)) (XX := (fun E q σ' kc2 ks2 => KX E q σ' ∧ kc2 = kc ∧ ks2 = ks)) ⟨d1, 0, 0, hd1, Nat.zero_le _, Nat.zero_le _, hM.mono (fun v σ h => ⟨h, rfl, rfl⟩) (fun E q σ h => ⟨h, rfl, rfl⟩)⟩ (fun v σ kc2 ks2 hk => by
      obtain ⟨⟨r, rfl, hk⟩, rfl, rfl⟩ := hk
      exact kk _ _ hk) (fun E q σ kc2 ks2 hk => by
      obtain ⟨hk, rfl, rfl⟩ := hk
      exact kx _ _ _ hk)
theorem aw_pf0L {x9 : MethodName} {L : List (Nat × MethodName)} {ix ct : Nat} {As : List Value} {st0 : List Value} {x : Option Nat} {K : Int64 → ZS → Prop} {KX : String → Nat → ZS → Prop} {KN : Prop} (d : decode C.2.1 pc = .ok (.invokeinterface ix ct, 5)) (q1 : Cond.methodLink C.1 ix x9 ∈ lw_all) {kd9 : Nat} {y9 : MethodName} (qf : (znm kd9, x9, y9) ∈ zFws) (hL : ∀ q ∈ L, pfW x9 C.1 q) (hy : x9.cls ≠ "java/lang/invoke/MethodHandle" ∧ x9.cls ≠ "java/lang/invoke/VarHandle") (hlen : (parseMethodDescriptor x9.desc).map (fun d => d.parameters.length) = some As.length) (hst : st0 = As.reverse ++ va_rf x :: st) (hw : st.length ≤ 12) (h : pf0L G L C.2.2.2.2.2.2 x As σ K KX KN) (kk : ∀ (r : Int64) (σ : ZS), K r σ → AW G C Q X kc ks (pc + 5) lo (.long r :: st) σ) (kx : ∀ E q σ, KX E q σ → AX G C Q X kc ks pc lo σ E q) (kn : KN → ANn G C Q X kc ks pc lo st σ) : AW G C Q X kc ks pc lo st0 σ := by
  cases x with
  | none => exact aw_callFn d q1 qf hy hlen (hst.trans rfl) (kn (h.1 rfl))
  | some b =>
    obtain ⟨y, hy2, d1, hd1, hM⟩ := h.2 b rfl
    obtain ⟨⟨w1, w2⟩, w3, w4, ⟨b9, m9, r9, w5⟩, w6⟩ := hL _ hy2
    exact aw_callF (Or.inl ⟨w1, w2⟩) d q1 w3 w4 w5 w6 hy hlen hst hw rfl (QQ := (fun v σ' kc2 ks2 => (∃ r : Int64, v = some (.long r) ∧ K r σ') ∧ kc2 = kc ∧ ks2 = ks)) (XX := (fun E q σ' kc2 ks2 => KX E q σ' ∧ kc2 = kc ∧ ks2 = ks)) ⟨d1, 0, 0, hd1, Nat.zero_le _, Nat.zero_le _, hM.mono (fun v σ h => ⟨h, rfl, rfl⟩) (fun E q σ h => ⟨h, rfl, rfl⟩)⟩ (fun v σ kc2 ks2 hk => by
      obtain ⟨⟨r, rfl, hk⟩, rfl, rfl⟩ := hk
      exact kk _ _ hk) (fun E q σ kc2 ks2 hk => by
      obtain ⟨hk, rfl, rfl⟩ := hk
      exact kx _ _ _ hk)
theorem aw_pv0L {x9 : MethodName} {L : List (Nat × MethodName)} {ix : Nat} {As : List Value} {st0 : List Value} {x : Option Nat} {K : Int64 → ZS → Prop} {KX : String → Nat → ZS → Prop} {KN : Prop} (d : decode C.2.1 pc = .ok (.invokevirtual ix, 3)) (q1 : Cond.methodLink C.1 ix x9 ∈ lw_all) (q4 : Cond.sameMethod x9.cls x9.cls x9.name x9.desc ∈ lw_all) (qf : Cond.declares ⟨x9.cls, x9.name, x9.desc⟩ ∈ zDc) (hL : ∀ q ∈ L, pvW x9 C.1 q) (hy : x9.cls ≠ "java/lang/invoke/MethodHandle" ∧ x9.cls ≠ "java/lang/invoke/VarHandle") (hlen : (parseMethodDescriptor x9.desc).map (fun d => d.parameters.length) = some As.length) (hst : st0 = As.reverse ++ va_rf x :: st) (hw : st.length ≤ 12) (h : pf0L G L C.2.2.2.2.2.2 x As σ K KX KN) (kk : ∀ (r : Int64) (σ : ZS), K r σ → AW G C Q X kc ks (pc + 3) lo (.long r :: st) σ) (kx : ∀ E q σ, KX E q σ → AX G C Q X kc ks pc lo σ E q) (kn : KN → ANn G C Q X kc ks pc lo st σ) : AW G C Q X kc ks pc lo st0 σ := by
  cases x with
  | none => exact aw_callUn d q1 q4 qf hy hlen (hst.trans rfl) (kn (h.1 rfl))
  | some b =>
    obtain ⟨y, hy2, d1, hd1, hM⟩ := h.2 b rfl
    obtain ⟨⟨w1, w2⟩, w3, w4, ⟨b9, m9, r9, w5⟩⟩ := hL _ hy2
    exact aw_callU (Or.inl ⟨w1, w2⟩) d q1 w3 w4 q4 w5 qf hy hlen hst hw rfl (QQ := (fun v σ' kc2 ks2 => (∃ r : Int64, v = some (.long r) ∧ K r σ') ∧ kc2 = kc ∧ ks2 = ks)) (XX := (fun E q σ' kc2 ks2 => KX E q σ' ∧ kc2 = kc ∧ ks2 = ks)) ⟨d1, 0, 0, hd1, Nat.zero_le _, Nat.zero_le _, hM.mono (fun v σ h => ⟨h, rfl, rfl⟩) (fun E q σ h => ⟨h, rfl, rfl⟩)⟩ (fun v σ kc2 ks2 hk => by
      obtain ⟨⟨r, rfl, hk⟩, rfl, rfl⟩ := hk
      exact kk _ _ hk) (fun E q σ kc2 ks2 hk => by
      obtain ⟨hk, rfl, rfl⟩ := hk
      exact kx _ _ _ hk)
theorem aw_pf0D {x9 : MethodName} {L : List (Nat × MethodName)} {ix ct : Nat} {As : List Value} {st0 : List Value} {x : Option Nat} {K : UInt64 → ZS → Prop} {KX : String → Nat → ZS → Prop} {KN : Prop} (d : decode C.2.1 pc = .ok (.invokeinterface ix ct, 5)) (q1 : Cond.methodLink C.1 ix x9 ∈ lw_all) {kd9 : Nat} {y9 : MethodName} (qf : (znm kd9, x9, y9) ∈ zFws) (hL : ∀ q ∈ L, pfW x9 C.1 q) (hy : x9.cls ≠ "java/lang/invoke/MethodHandle" ∧ x9.cls ≠ "java/lang/invoke/VarHandle") (hlen : (parseMethodDescriptor x9.desc).map (fun d => d.parameters.length) = some As.length) (hst : st0 = As.reverse ++ va_rf x :: st) (hw : st.length ≤ 12) (h : pf0D G L C.2.2.2.2.2.2 x As σ K KX KN) (kk : ∀ (r : UInt64) (σ : ZS), K r σ → AW G C Q X kc ks (pc + 5) lo (.double r :: st) σ) (kx : ∀ E q σ, KX E q σ → AX G C Q X kc ks pc lo σ E q) (kn : KN → ANn G C Q X kc ks pc lo st σ) : AW G C Q X kc ks pc lo st0 σ := by
  cases x with
  | none => exact aw_callFn d q1 qf hy hlen (hst.trans rfl) (kn (h.1 rfl))
  | some b =>
    obtain ⟨y, hy2, d1, hd1, hM⟩ := h.2 b rfl
    obtain ⟨⟨w1, w2⟩, w3, w4, ⟨b9, m9, r9, w5⟩, w6⟩ := hL _ hy2
    exact aw_callF (Or.inl ⟨w1, w2⟩) d q1 w3 w4 w5 w6 hy hlen hst hw rfl (QQ := (fun v σ' kc2 ks2 => (∃ r : UInt64, v = some (.double r) ∧ K r σ') ∧ kc2 = kc ∧ ks2 = ks)) (XX := (fun E q σ' kc2 ks2 => KX E q σ' ∧ kc2 = kc ∧ ks2 = ks)) ⟨d1, 0, 0, hd1, Nat.zero_le _, Nat.zero_le _, hM.mono (fun v σ h => ⟨h, rfl, rfl⟩) (fun E q σ h => ⟨h, rfl, rfl⟩)⟩ (fun v σ kc2 ks2 hk => by
      obtain ⟨⟨r, rfl, hk⟩, rfl, rfl⟩ := hk
      exact kk _ _ hk) (fun E q σ kc2 ks2 hk => by
      obtain ⟨hk, rfl, rfl⟩ := hk
      exact kx _ _ _ hk)
theorem aw_pv0D {x9 : MethodName} {L : List (Nat × MethodName)} {ix : Nat} {As : List Value} {st0 : List Value} {x : Option Nat} {K : UInt64 → ZS → Prop} {KX : String → Nat → ZS → Prop} {KN : Prop} (d : decode C.2.1 pc = .ok (.invokevirtual ix, 3)) (q1 : Cond.methodLink C.1 ix x9 ∈ lw_all) (q4 : Cond.sameMethod x9.cls x9.cls x9.name x9.desc ∈ lw_all) (qf : Cond.declares ⟨x9.cls, x9.name, x9.desc⟩ ∈ zDc) (hL : ∀ q ∈ L, pvW x9 C.1 q) (hy : x9.cls ≠ "java/lang/invoke/MethodHandle" ∧ x9.cls ≠ "java/lang/invoke/VarHandle") (hlen : (parseMethodDescriptor x9.desc).map (fun d => d.parameters.length) = some As.length) (hst : st0 = As.reverse ++ va_rf x :: st) (hw : st.length ≤ 12) (h : pf0D G L C.2.2.2.2.2.2 x As σ K KX KN) (kk : ∀ (r : UInt64) (σ : ZS), K r σ → AW G C Q X kc ks (pc + 3) lo (.double r :: st) σ) (kx : ∀ E q σ, KX E q σ → AX G C Q X kc ks pc lo σ E q) (kn : KN → ANn G C Q X kc ks pc lo st σ) : AW G C Q X kc ks pc lo st0 σ := by
  cases x with
  | none => exact aw_callUn d q1 q4 qf hy hlen (hst.trans rfl) (kn (h.1 rfl))
  | some b =>
    obtain ⟨y, hy2, d1, hd1, hM⟩ := h.2 b rfl
    obtain ⟨⟨w1, w2⟩, w3, w4, ⟨b9, m9, r9, w5⟩⟩ := hL _ hy2
    exact aw_callU (Or.inl ⟨w1, w2⟩) d q1 w3 w4 q4 w5 qf hy hlen hst hw rfl (QQ := (fun v σ' kc2 ks2 => (∃ r : UInt64, v = some (.double r) ∧ K r σ') ∧ kc2 = kc ∧ ks2 = ks)) (XX := (fun E q σ' kc2 ks2 => KX E q σ' ∧ kc2 = kc ∧ ks2 = ks)) ⟨d1, 0, 0, hd1, Nat.zero_le _, Nat.zero_le _, hM.mono (fun v σ h => ⟨h, rfl, rfl⟩) (fun E q σ h => ⟨h, rfl, rfl⟩)⟩ (fun v σ kc2 ks2 hk => by
      obtain ⟨⟨r, rfl, hk⟩, rfl, rfl⟩ := hk
      exact kk _ _ hk) (fun E q σ kc2 ks2 hk => by
      obtain ⟨hk, rfl, rfl⟩ := hk
      exact kx _ _ _ hk)
end ZR7
