/-! L1f: rows whose exceptions are taken up in the method; what is new; casts (printed by gen/mkrows2.py) -/
/-- an element read: not there, out of range -/
def aIx (σ : ZS) (kd : Nat) (x : Option Nat) (i : Int32) (K : Int32 → Prop) (KN KB : Prop) : Prop := (x = none → KN) ∧ ∀ a, x = some a → sk σ a = kd ∧ sn σ a < 2147483648 ∧ (vp_in i (sn σ a) → K (sI σ a i.toNatClampNeg)) ∧ (¬ vp_in i (sn σ a) → KB)
def qIx (σ : ZS) (kd : Nat) (x : Option Nat) (i : Int32) (v : Int32) (K : ZS → Prop) (KN KB : Prop) : Prop := (x = none → KN) ∧ ∀ a, x = some a → sk σ a = kd ∧ sn σ a < 2147483648 ∧ (vp_in i (sn σ a) → K (wI σ a i.toNatClampNeg v)) ∧ (¬ vp_in i (sn σ a) → KB)
def aLx (σ : ZS) (x : Option Nat) (i : Int32) (K : Int64 → Prop) (KN KB : Prop) : Prop := (x = none → KN) ∧ ∀ a, x = some a → sk σ a = 11 ∧ sn σ a < 2147483648 ∧ (vp_in i (sn σ a) → K (sL σ a i.toNatClampNeg)) ∧ (¬ vp_in i (sn σ a) → KB)
def qLx (σ : ZS) (x : Option Nat) (i : Int32) (v : Int64) (K : ZS → Prop) (KN KB : Prop) : Prop := (x = none → KN) ∧ ∀ a, x = some a → sk σ a = 11 ∧ sn σ a < 2147483648 ∧ (vp_in i (sn σ a) → K (wL σ a i.toNatClampNeg v)) ∧ (¬ vp_in i (sn σ a) → KB)
def aFx (σ : ZS) (x : Option Nat) (i : Int32) (K : UInt32 → Prop) (KN KB : Prop) : Prop := (x = none → KN) ∧ ∀ a, x = some a → sk σ a = 12 ∧ sn σ a < 2147483648 ∧ (vp_in i (sn σ a) → K (sF σ a i.toNatClampNeg)) ∧ (¬ vp_in i (sn σ a) → KB)
def qFx (σ : ZS) (x : Option Nat) (i : Int32) (v : UInt32) (K : ZS → Prop) (KN KB : Prop) : Prop := (x = none → KN) ∧ ∀ a, x = some a → sk σ a = 12 ∧ sn σ a < 2147483648 ∧ (vp_in i (sn σ a) → K (wF σ a i.toNatClampNeg v)) ∧ (¬ vp_in i (sn σ a) → KB)
def aDx (σ : ZS) (x : Option Nat) (i : Int32) (K : UInt64 → Prop) (KN KB : Prop) : Prop := (x = none → KN) ∧ ∀ a, x = some a → sk σ a = 13 ∧ sn σ a < 2147483648 ∧ (vp_in i (sn σ a) → K (sD σ a i.toNatClampNeg)) ∧ (¬ vp_in i (sn σ a) → KB)
def qDx (σ : ZS) (x : Option Nat) (i : Int32) (v : UInt64) (K : ZS → Prop) (KN KB : Prop) : Prop := (x = none → KN) ∧ ∀ a, x = some a → sk σ a = 13 ∧ sn σ a < 2147483648 ∧ (vp_in i (sn σ a) → K (wD σ a i.toNatClampNeg v)) ∧ (¬ vp_in i (sn σ a) → KB)
def aRx (σ : ZS) (x : Option Nat) (i : Int32) (K : Option Nat → Prop) (KN KB : Prop) : Prop := (x = none → KN) ∧ ∀ a, x = some a → (18 ≤ sk σ a ∧ sk σ a < 24) ∧ sn σ a < 2147483648 ∧ (vp_in i (sn σ a) → K (sR σ a i.toNatClampNeg)) ∧ (¬ vp_in i (sn σ a) → KB)
def nlenx (σ : ZS) (x : Option Nat) (K : Int32 → Prop) (KN : Prop) : Prop := (x = none → KN) ∧ ∀ a, x = some a → (10 ≤ sk σ a ∧ sk σ a < 24) ∧ K (Int32.ofNat (sn σ a))
/-- something new: an object of kind kd of N fields; an array of kind kd of n elements, at most cap -/
def nO (σ : ZS) (kc ks kd N : Nat) (K : Nat → ZS → Nat → Nat → Prop) : Prop := (1 ≤ kc ∧ N ≤ ks) ∧ ∀ a, sz σ ≤ a → sk σ a = 0 → K a (nw σ a kd 0) (kc - 1) (ks - N)
def nA (σ : ZS) (kc ks kd cap : Nat) (n : Int32) (K : Nat → ZS → Nat → Nat → Prop) (KZ : Prop) : Prop := (n < 0 → KZ) ∧ (¬ n < 0 → (1 ≤ kc ∧ cap ≤ ks ∧ n.toNatClampNeg ≤ cap ∧ cap ≤ 1000000) ∧ ∀ a, sz σ ≤ a → sk σ a = 0 → K a (nw σ a kd n.toNatClampNeg) (kc - 1) (ks - cap))
section ZR2
variable {G : ZG} {C : AWC} {Q : Option Value → ZS → Prop} {X : String → Nat → ZS → Prop} {kc ks pc : Nat} {lo : List (Nat × Value)} {st : List Value} {σ : ZS}
theorem byzero : (stringBytes (stringToUtf16 "/ by zero")).size ≤ 900 := by
  have h1 := stringBytes_size_le (stringToUtf16 "/ by zero")
  have h2 := utf16_size_le "/ by zero"
  have h3 : "/ by zero".toList.length = 9 := by decide
  omega
theorem zvp {cA : ClassId} {n : Nat} {f : Nat → Value} {i : Int32} (h : ¬ vp_in i n) : i < 0 ∨ (arrV cA n f).slots.size ≤ i.toNatClampNeg := by rw [arrV_size]; exact Classical.byContradiction h
theorem awNt {E : String} {text : String} {p : Program} {l : Launch} {e : Env} {R : Room} {s : State} {m : MethodId} {args : Array Value} {below : List Frame} {meth : Method} {c : Code} {H : Heap} {locs : List Loc} {cells slots mc ms : Nat} {ls : Array Slot} (h : ANt G C Q X kc ks pc lo st σ E) (hX : zCT G C mc ms p l R s m args meth c H locs) (hσ : zREL G σ H) (hl : lv_has ls C.2.2.1 lo) (hc : cells + kc ≤ mc) (hs : slots + ks ≤ ms) (h1 : (text == notModelled) = false) (h2 : (stringBytes (stringToUtf16 text)).size ≤ 900) : vx_Note p l e R s m args below meth c H locs cells slots (zx_MQ below (zQ G Q) (zXC G X) args s mc ms (zfree G)) (F0 m pc ls st) E text := h _ _ _ _ _ _ _ _ _ _ _ _ _ _ _ _ _ _ hX hσ hl hc hs h1 h2
theorem awNi {n : Nat} {i : Int32} {p : Program} {l : Launch} {e : Env} {R : Room} {s : State} {m : MethodId} {args : Array Value} {below : List Frame} {meth : Method} {c : Code} {H : Heap} {locs : List Loc} {cells slots mc ms : Nat} {ls : Array Slot} (h : ANt G C Q X kc ks pc lo st σ eAIO) (hX : zCT G C mc ms p l R s m args meth c H locs) (hσ : zREL G σ H) (hl : lv_has ls C.2.2.1 lo) (hc : cells + kc ≤ mc) (hs : slots + ks ≤ ms) (hn : n < 2147483648) : vx_Note p l e R s m args below meth c H locs cells slots (zx_MQ below (zQ G Q) (zXC G X) args s mc ms (zfree G)) (F0 m pc ls st) eAIO (toString "Index " ++ toString i ++ toString " out of bounds for length " ++ toString n : String) := awNt h hX hσ hl hc hs (index_text_modelled i n) (Nat.le_trans (index_text_bytes i hn) (by decide))
theorem aw_ialdx {x : Option Nat} {i : Int32} {K : Int32 → Prop} {KN KB : Prop} (d : decode C.2.1 pc = .ok (.iaload, 1)) (h : aIx σ 10 x i K KN KB) (kk : ∀ v, K v → AW G C Q X kc ks (pc + 1) lo (.int v :: st) σ) (kn : KN → ANn G C Q X kc ks pc lo st σ) (kb : KB → ANt G C Q X kc ks pc lo st σ eAIO) : AW G C Q X kc ks pc lo (.int i :: va_rf x :: st) σ := by
  intro p l e R s m args below meth c H locs cells slots mc ms ls hX hσ hl hc hs
  cases x with
  | none => exact vx_ialoadN hX.1.1 hX.1.2.1 d (kn (h.1 rfl) _ _ _ _ _ _ _ _ _ _ _ _ _ _ _ _ _ hX hσ hl hc hs)
  | some a =>
    obtain ⟨ha, hn, hi, ho⟩ := h.2 a rfl
    obtain ⟨h1, h2, h3⟩ := z_arr hX hσ (a := a) (by omega) (by omega)
    rw [ha] at h1 h2
    by_cases hin : vp_in i (sn σ a)
    · exact aw_iald d ⟨a, rfl, ha, hin, hi hin⟩ kk _ _ _ _ _ _ _ _ _ _ _ _ _ _ _ _ _ hX hσ hl hc hs
    · intro T hT Y
      obtain ⟨t, stp, q⟩ := awNi (n := sn σ a) (i := i) (kb (ho hin)) hX hσ hl hc hs hn T hT Y
      refine ⟨t, ?_, q⟩
      have h9 := Y.ialoadOut hX.1.1 (by rw [hT]; exact h1) h2 (j := i) (zvp hin) (g := F0 m pc ls (.int i :: .ref a :: st)) rfl (rest := st) rfl (by rw [hX.1.2.1]; exact d) t
      simp only [arrV_size] at h9
      exact h9 stp
theorem aw_baldx {x : Option Nat} {i : Int32} {K : Int32 → Prop} {KN KB : Prop} (d : decode C.2.1 pc = .ok (.baload, 1)) (h : aIx σ 14 x i K KN KB) (kk : ∀ v, K v → AW G C Q X kc ks (pc + 1) lo (.int v :: st) σ) (kn : KN → ANn G C Q X kc ks pc lo st σ) (kb : KB → ANt G C Q X kc ks pc lo st σ eAIO) : AW G C Q X kc ks pc lo (.int i :: va_rf x :: st) σ := by
  intro p l e R s m args below meth c H locs cells slots mc ms ls hX hσ hl hc hs
  cases x with
  | none => exact vx_baloadN hX.1.1 hX.1.2.1 d (kn (h.1 rfl) _ _ _ _ _ _ _ _ _ _ _ _ _ _ _ _ _ hX hσ hl hc hs)
  | some a =>
    obtain ⟨ha, hn, hi, ho⟩ := h.2 a rfl
    obtain ⟨h1, h2, h3⟩ := z_arr hX hσ (a := a) (by omega) (by omega)
    rw [ha] at h1 h2
    by_cases hin : vp_in i (sn σ a)
    · exact aw_bald d ⟨a, rfl, ha, hin, hi hin⟩ kk _ _ _ _ _ _ _ _ _ _ _ _ _ _ _ _ _ hX hσ hl hc hs
    · intro T hT Y
      obtain ⟨t, stp, q⟩ := awNi (n := sn σ a) (i := i) (kb (ho hin)) hX hσ hl hc hs hn T hT Y
      refine ⟨t, ?_, q⟩
      have h9 := Y.baloadOut hX.1.1 (by rw [hT]; exact h1) h2 (j := i) (zvp hin) (g := F0 m pc ls (.int i :: .ref a :: st)) rfl (rest := st) rfl (by rw [hX.1.2.1]; exact d) t
      simp only [arrV_size] at h9
      exact h9 stp
theorem aw_zaldx {x : Option Nat} {i : Int32} {K : Int32 → Prop} {KN KB : Prop} (d : decode C.2.1 pc = .ok (.baload, 1)) (h : aIx σ 15 x i K KN KB) (kk : ∀ v, K v → AW G C Q X kc ks (pc + 1) lo (.int v :: st) σ) (kn : KN → ANn G C Q X kc ks pc lo st σ) (kb : KB → ANt G C Q X kc ks pc lo st σ eAIO) : AW G C Q X kc ks pc lo (.int i :: va_rf x :: st) σ := by
  intro p l e R s m args below meth c H locs cells slots mc ms ls hX hσ hl hc hs
  cases x with
  | none => exact vx_baloadN hX.1.1 hX.1.2.1 d (kn (h.1 rfl) _ _ _ _ _ _ _ _ _ _ _ _ _ _ _ _ _ hX hσ hl hc hs)
  | some a =>
    obtain ⟨ha, hn, hi, ho⟩ := h.2 a rfl
    obtain ⟨h1, h2, h3⟩ := z_arr hX hσ (a := a) (by omega) (by omega)
    rw [ha] at h1 h2
    by_cases hin : vp_in i (sn σ a)
    · exact aw_zald d ⟨a, rfl, ha, hin, hi hin⟩ kk _ _ _ _ _ _ _ _ _ _ _ _ _ _ _ _ _ hX hσ hl hc hs
    · intro T hT Y
      obtain ⟨t, stp, q⟩ := awNi (n := sn σ a) (i := i) (kb (ho hin)) hX hσ hl hc hs hn T hT Y
      refine ⟨t, ?_, q⟩
      have h9 := Y.baloadOut hX.1.1 (by rw [hT]; exact h1) h2 (j := i) (zvp hin) (g := F0 m pc ls (.int i :: .ref a :: st)) rfl (rest := st) rfl (by rw [hX.1.2.1]; exact d) t
      simp only [arrV_size] at h9
      exact h9 stp
theorem aw_caldx {x : Option Nat} {i : Int32} {K : Int32 → Prop} {KN KB : Prop} (d : decode C.2.1 pc = .ok (.caload, 1)) (h : aIx σ 16 x i K KN KB) (kk : ∀ v, K v → AW G C Q X kc ks (pc + 1) lo (.int v :: st) σ) (kn : KN → ANn G C Q X kc ks pc lo st σ) (kb : KB → ANt G C Q X kc ks pc lo st σ eAIO) : AW G C Q X kc ks pc lo (.int i :: va_rf x :: st) σ := by
  intro p l e R s m args below meth c H locs cells slots mc ms ls hX hσ hl hc hs
  cases x with
  | none => exact vx_caloadN hX.1.1 hX.1.2.1 d (kn (h.1 rfl) _ _ _ _ _ _ _ _ _ _ _ _ _ _ _ _ _ hX hσ hl hc hs)
  | some a =>
    obtain ⟨ha, hn, hi, ho⟩ := h.2 a rfl
    obtain ⟨h1, h2, h3⟩ := z_arr hX hσ (a := a) (by omega) (by omega)
    rw [ha] at h1 h2
    by_cases hin : vp_in i (sn σ a)
    · exact aw_cald d ⟨a, rfl, ha, hin, hi hin⟩ kk _ _ _ _ _ _ _ _ _ _ _ _ _ _ _ _ _ hX hσ hl hc hs
    · intro T hT Y
      obtain ⟨t, stp, q⟩ := awNi (n := sn σ a) (i := i) (kb (ho hin)) hX hσ hl hc hs hn T hT Y
      refine ⟨t, ?_, q⟩
      have h9 := Y.caloadOut hX.1.1 (by rw [hT]; exact h1) h2 (j := i) (zvp hin) (g := F0 m pc ls (.int i :: .ref a :: st)) rfl (rest := st) rfl (by rw [hX.1.2.1]; exact d) t
      simp only [arrV_size] at h9
      exact h9 stp
theorem aw_saldx {x : Option Nat} {i : Int32} {K : Int32 → Prop} {KN KB : Prop} (d : decode C.2.1 pc = .ok (.saload, 1)) (h : aIx σ 17 x i K KN KB) (kk : ∀ v, K v → AW G C Q X kc ks (pc + 1) lo (.int v :: st) σ) (kn : KN → ANn G C Q X kc ks pc lo st σ) (kb : KB → ANt G C Q X kc ks pc lo st σ eAIO) : AW G C Q X kc ks pc lo (.int i :: va_rf x :: st) σ := by
  intro p l e R s m args below meth c H locs cells slots mc ms ls hX hσ hl hc hs
  cases x with
  | none => exact vx_saloadN hX.1.1 hX.1.2.1 d (kn (h.1 rfl) _ _ _ _ _ _ _ _ _ _ _ _ _ _ _ _ _ hX hσ hl hc hs)
  | some a =>
    obtain ⟨ha, hn, hi, ho⟩ := h.2 a rfl
    obtain ⟨h1, h2, h3⟩ := z_arr hX hσ (a := a) (by omega) (by omega)
    rw [ha] at h1 h2
    by_cases hin : vp_in i (sn σ a)
    · exact aw_sald d ⟨a, rfl, ha, hin, hi hin⟩ kk _ _ _ _ _ _ _ _ _ _ _ _ _ _ _ _ _ hX hσ hl hc hs
    · intro T hT Y
      obtain ⟨t, stp, q⟩ := awNi (n := sn σ a) (i := i) (kb (ho hin)) hX hσ hl hc hs hn T hT Y
      refine ⟨t, ?_, q⟩
      have h9 := Y.saloadOut hX.1.1 (by rw [hT]; exact h1) h2 (j := i) (zvp hin) (g := F0 m pc ls (.int i :: .ref a :: st)) rfl (rest := st) rfl (by rw [hX.1.2.1]; exact d) t
      simp only [arrV_size] at h9
      exact h9 stp
theorem aw_laldx {x : Option Nat} {i : Int32} {K : Int64 → Prop} {KN KB : Prop} (d : decode C.2.1 pc = .ok (.laload, 1)) (h : aLx σ x i K KN KB) (kk : ∀ v, K v → AW G C Q X kc ks (pc + 1) lo (.long v :: st) σ) (kn : KN → ANn G C Q X kc ks pc lo st σ) (kb : KB → ANt G C Q X kc ks pc lo st σ eAIO) : AW G C Q X kc ks pc lo (.int i :: va_rf x :: st) σ := by
  intro p l e R s m args below meth c H locs cells slots mc ms ls hX hσ hl hc hs
  cases x with
  | none => exact vx_laloadN hX.1.1 hX.1.2.1 d (kn (h.1 rfl) _ _ _ _ _ _ _ _ _ _ _ _ _ _ _ _ _ hX hσ hl hc hs)
  | some a =>
    obtain ⟨ha, hn, hi, ho⟩ := h.2 a rfl
    obtain ⟨h1, h2, h3⟩ := z_arr hX hσ (a := a) (by omega) (by omega)
    rw [ha] at h1 h2
    by_cases hin : vp_in i (sn σ a)
    · exact aw_lald d ⟨a, rfl, ha, hin, hi hin⟩ kk _ _ _ _ _ _ _ _ _ _ _ _ _ _ _ _ _ hX hσ hl hc hs
    · intro T hT Y
      obtain ⟨t, stp, q⟩ := awNi (n := sn σ a) (i := i) (kb (ho hin)) hX hσ hl hc hs hn T hT Y
      refine ⟨t, ?_, q⟩
      have h9 := Y.laloadOut hX.1.1 (by rw [hT]; exact h1) h2 (j := i) (zvp hin) (g := F0 m pc ls (.int i :: .ref a :: st)) rfl (rest := st) rfl (by rw [hX.1.2.1]; exact d) t
      simp only [arrV_size] at h9
      exact h9 stp
theorem aw_faldx {x : Option Nat} {i : Int32} {K : UInt32 → Prop} {KN KB : Prop} (d : decode C.2.1 pc = .ok (.faload, 1)) (h : aFx σ x i K KN KB) (kk : ∀ v, K v → AW G C Q X kc ks (pc + 1) lo (.float v :: st) σ) (kn : KN → ANn G C Q X kc ks pc lo st σ) (kb : KB → ANt G C Q X kc ks pc lo st σ eAIO) : AW G C Q X kc ks pc lo (.int i :: va_rf x :: st) σ := by
  intro p l e R s m args below meth c H locs cells slots mc ms ls hX hσ hl hc hs
  cases x with
  | none => exact vx_faloadN hX.1.1 hX.1.2.1 d (kn (h.1 rfl) _ _ _ _ _ _ _ _ _ _ _ _ _ _ _ _ _ hX hσ hl hc hs)
  | some a =>
    obtain ⟨ha, hn, hi, ho⟩ := h.2 a rfl
    obtain ⟨h1, h2, h3⟩ := z_arr hX hσ (a := a) (by omega) (by omega)
    rw [ha] at h1 h2
    by_cases hin : vp_in i (sn σ a)
    · exact aw_fald d ⟨a, rfl, ha, hin, hi hin⟩ kk _ _ _ _ _ _ _ _ _ _ _ _ _ _ _ _ _ hX hσ hl hc hs
    · intro T hT Y
      obtain ⟨t, stp, q⟩ := awNi (n := sn σ a) (i := i) (kb (ho hin)) hX hσ hl hc hs hn T hT Y
      refine ⟨t, ?_, q⟩
      have h9 := Y.faloadOut hX.1.1 (by rw [hT]; exact h1) h2 (j := i) (zvp hin) (g := F0 m pc ls (.int i :: .ref a :: st)) rfl (rest := st) rfl (by rw [hX.1.2.1]; exact d) t
      simp only [arrV_size] at h9
      exact h9 stp
theorem aw_daldx {x : Option Nat} {i : Int32} {K : UInt64 → Prop} {KN KB : Prop} (d : decode C.2.1 pc = .ok (.daload, 1)) (h : aDx σ x i K KN KB) (kk : ∀ v, K v → AW G C Q X kc ks (pc + 1) lo (.double v :: st) σ) (kn : KN → ANn G C Q X kc ks pc lo st σ) (kb : KB → ANt G C Q X kc ks pc lo st σ eAIO) : AW G C Q X kc ks pc lo (.int i :: va_rf x :: st) σ := by
  intro p l e R s m args below meth c H locs cells slots mc ms ls hX hσ hl hc hs
  cases x with
  | none => exact vx_daloadN hX.1.1 hX.1.2.1 d (kn (h.1 rfl) _ _ _ _ _ _ _ _ _ _ _ _ _ _ _ _ _ hX hσ hl hc hs)
  | some a =>
    obtain ⟨ha, hn, hi, ho⟩ := h.2 a rfl
    obtain ⟨h1, h2, h3⟩ := z_arr hX hσ (a := a) (by omega) (by omega)
    rw [ha] at h1 h2
    by_cases hin : vp_in i (sn σ a)
    · exact aw_dald d ⟨a, rfl, ha, hin, hi hin⟩ kk _ _ _ _ _ _ _ _ _ _ _ _ _ _ _ _ _ hX hσ hl hc hs
    · intro T hT Y
      obtain ⟨t, stp, q⟩ := awNi (n := sn σ a) (i := i) (kb (ho hin)) hX hσ hl hc hs hn T hT Y
      refine ⟨t, ?_, q⟩
      have h9 := Y.daloadOut hX.1.1 (by rw [hT]; exact h1) h2 (j := i) (zvp hin) (g := F0 m pc ls (.int i :: .ref a :: st)) rfl (rest := st) rfl (by rw [hX.1.2.1]; exact d) t
      simp only [arrV_size] at h9
      exact h9 stp
theorem aw_aaldx {x : Option Nat} {i : Int32} {K : Option Nat → Prop} {KN KB : Prop} (d : decode C.2.1 pc = .ok (.aaload, 1)) (h : aRx σ x i K KN KB) (kk : ∀ v, K v → AW G C Q X kc ks (pc + 1) lo (va_rf v :: st) σ) (kn : KN → ANn G C Q X kc ks pc lo st σ) (kb : KB → ANt G C Q X kc ks pc lo st σ eAIO) : AW G C Q X kc ks pc lo (.int i :: va_rf x :: st) σ := by
  intro p l e R s m args below meth c H locs cells slots mc ms ls hX hσ hl hc hs
  cases x with
  | none => exact vx_aaloadN hX.1.1 hX.1.2.1 d (kn (h.1 rfl) _ _ _ _ _ _ _ _ _ _ _ _ _ _ _ _ _ hX hσ hl hc hs)
  | some a =>
    obtain ⟨ha, hn, hi, ho⟩ := h.2 a rfl
    obtain ⟨h1, h2, h3⟩ := z_arr hX hσ (a := a) (by omega) (by omega)
    by_cases hin : vp_in i (sn σ a)
    · exact aw_aald d ⟨a, rfl, ha, hin, hi hin⟩ kk _ _ _ _ _ _ _ _ _ _ _ _ _ _ _ _ _ hX hσ hl hc hs
    · intro T hT Y
      obtain ⟨t, stp, q⟩ := awNi (n := sn σ a) (i := i) (kb (ho hin)) hX hσ hl hc hs hn T hT Y
      refine ⟨t, ?_, q⟩
      have h9 := Y.aaloadOut hX.1.1 (by rw [hT]; exact h1) h2 (j := i) (zvp hin) (g := F0 m pc ls (.int i :: .ref a :: st)) rfl (rest := st) rfl (by rw [hX.1.2.1]; exact d) t
      simp only [arrV_size] at h9
      exact h9 stp
theorem aw_iastx {x : Option Nat} {i : Int32} {v : Int32} {K : ZS → Prop} {KN KB : Prop} (d : decode C.2.1 pc = .ok (.iastore, 1)) (h : qIx σ 10 x i v K KN KB) (kk : ∀ σ, K σ → AW G C Q X kc ks (pc + 1) lo st σ) (kn : KN → ANn G C Q X kc ks pc lo st σ) (kb : KB → ANt G C Q X kc ks pc lo st σ eAIO) : AW G C Q X kc ks pc lo (.int v :: .int i :: va_rf x :: st) σ := by
  intro p l e R s m args below meth c H locs cells slots mc ms ls hX hσ hl hc hs
  cases x with
  | none => exact vx_iastoreN hX.1.1 hX.1.2.1 d (kn (h.1 rfl) _ _ _ _ _ _ _ _ _ _ _ _ _ _ _ _ _ hX hσ hl hc hs)
  | some a =>
    obtain ⟨ha, hn, hi, ho⟩ := h.2 a rfl
    obtain ⟨h1, h2, h3⟩ := z_arr hX hσ (a := a) (by omega) (by omega)
    rw [ha] at h1 h2
    by_cases hin : vp_in i (sn σ a)
    · exact aw_iast d ⟨a, rfl, ha, hin, hi hin⟩ kk _ _ _ _ _ _ _ _ _ _ _ _ _ _ _ _ _ hX hσ hl hc hs
    · intro T hT Y
      obtain ⟨t, stp, q⟩ := awNi (n := sn σ a) (i := i) (kb (ho hin)) hX hσ hl hc hs hn T hT Y
      refine ⟨t, ?_, q⟩
      have h9 := Y.iastoreOut hX.1.1 (by rw [hT]; exact h1) h2 (j := i) (zvp hin) (g := F0 m pc ls (.int v :: .int i :: .ref a :: st)) rfl (rest := st) rfl (by rw [hX.1.2.1]; exact d) t
      simp only [arrV_size] at h9
      exact h9 stp
theorem aw_bastx {x : Option Nat} {i : Int32} {v : Int32} {w : Int32} (hw : narrow .byte (.int v) = .int w) {K : ZS → Prop} {KN KB : Prop} (d : decode C.2.1 pc = .ok (.bastore, 1)) (h : qIx σ 14 x i w K KN KB) (kk : ∀ σ, K σ → AW G C Q X kc ks (pc + 1) lo st σ) (kn : KN → ANn G C Q X kc ks pc lo st σ) (kb : KB → ANt G C Q X kc ks pc lo st σ eAIO) : AW G C Q X kc ks pc lo (.int v :: .int i :: va_rf x :: st) σ := by
  intro p l e R s m args below meth c H locs cells slots mc ms ls hX hσ hl hc hs
  cases x with
  | none => exact vx_bastoreN hX.1.1 hX.1.2.1 d (kn (h.1 rfl) _ _ _ _ _ _ _ _ _ _ _ _ _ _ _ _ _ hX hσ hl hc hs)
  | some a =>
    obtain ⟨ha, hn, hi, ho⟩ := h.2 a rfl
    obtain ⟨h1, h2, h3⟩ := z_arr hX hσ (a := a) (by omega) (by omega)
    rw [ha] at h1 h2
    by_cases hin : vp_in i (sn σ a)
    · exact aw_bast hw d ⟨a, rfl, ha, hin, hi hin⟩ kk _ _ _ _ _ _ _ _ _ _ _ _ _ _ _ _ _ hX hσ hl hc hs
    · intro T hT Y
      obtain ⟨t, stp, q⟩ := awNi (n := sn σ a) (i := i) (kb (ho hin)) hX hσ hl hc hs hn T hT Y
      refine ⟨t, ?_, q⟩
      have h9 := Y.bastoreOut hX.1.1 (by rw [hT]; exact h1) h2 (j := i) (zvp hin) (g := F0 m pc ls (.int v :: .int i :: .ref a :: st)) rfl (rest := st) rfl (by rw [hX.1.2.1]; exact d) t
      simp only [arrV_size] at h9
      exact h9 stp
theorem aw_zastx {x : Option Nat} {i : Int32} {v : Int32} {w : Int32} (hw : narrow .boolean (.int v) = .int w) {K : ZS → Prop} {KN KB : Prop} (d : decode C.2.1 pc = .ok (.bastore, 1)) (h : qIx σ 15 x i w K KN KB) (kk : ∀ σ, K σ → AW G C Q X kc ks (pc + 1) lo st σ) (kn : KN → ANn G C Q X kc ks pc lo st σ) (kb : KB → ANt G C Q X kc ks pc lo st σ eAIO) : AW G C Q X kc ks pc lo (.int v :: .int i :: va_rf x :: st) σ := by
  intro p l e R s m args below meth c H locs cells slots mc ms ls hX hσ hl hc hs
  cases x with
  | none => exact vx_bastoreN hX.1.1 hX.1.2.1 d (kn (h.1 rfl) _ _ _ _ _ _ _ _ _ _ _ _ _ _ _ _ _ hX hσ hl hc hs)
  | some a =>
    obtain ⟨ha, hn, hi, ho⟩ := h.2 a rfl
    obtain ⟨h1, h2, h3⟩ := z_arr hX hσ (a := a) (by omega) (by omega)
    rw [ha] at h1 h2
    by_cases hin : vp_in i (sn σ a)
    · exact aw_zast hw d ⟨a, rfl, ha, hin, hi hin⟩ kk _ _ _ _ _ _ _ _ _ _ _ _ _ _ _ _ _ hX hσ hl hc hs
    · intro T hT Y
      obtain ⟨t, stp, q⟩ := awNi (n := sn σ a) (i := i) (kb (ho hin)) hX hσ hl hc hs hn T hT Y
      refine ⟨t, ?_, q⟩
      have h9 := Y.bastoreOut hX.1.1 (by rw [hT]; exact h1) h2 (j := i) (zvp hin) (g := F0 m pc ls (.int v :: .int i :: .ref a :: st)) rfl (rest := st) rfl (by rw [hX.1.2.1]; exact d) t
      simp only [arrV_size] at h9
      exact h9 stp
theorem aw_castx {x : Option Nat} {i : Int32} {v : Int32} {w : Int32} (hw : narrow .char (.int v) = .int w) {K : ZS → Prop} {KN KB : Prop} (d : decode C.2.1 pc = .ok (.castore, 1)) (h : qIx σ 16 x i w K KN KB) (kk : ∀ σ, K σ → AW G C Q X kc ks (pc + 1) lo st σ) (kn : KN → ANn G C Q X kc ks pc lo st σ) (kb : KB → ANt G C Q X kc ks pc lo st σ eAIO) : AW G C Q X kc ks pc lo (.int v :: .int i :: va_rf x :: st) σ := by
  intro p l e R s m args below meth c H locs cells slots mc ms ls hX hσ hl hc hs
  cases x with
  | none => exact vx_castoreN hX.1.1 hX.1.2.1 d (kn (h.1 rfl) _ _ _ _ _ _ _ _ _ _ _ _ _ _ _ _ _ hX hσ hl hc hs)
  | some a =>
    obtain ⟨ha, hn, hi, ho⟩ := h.2 a rfl
    obtain ⟨h1, h2, h3⟩ := z_arr hX hσ (a := a) (by omega) (by omega)
    rw [ha] at h1 h2
    by_cases hin : vp_in i (sn σ a)
    · exact aw_cast hw d ⟨a, rfl, ha, hin, hi hin⟩ kk _ _ _ _ _ _ _ _ _ _ _ _ _ _ _ _ _ hX hσ hl hc hs
    · intro T hT Y
      obtain ⟨t, stp, q⟩ := awNi (n := sn σ a) (i := i) (kb (ho hin)) hX hσ hl hc hs hn T hT Y
      refine ⟨t, ?_, q⟩
      have h9 := Y.castoreOut hX.1.1 (by rw [hT]; exact h1) h2 (j := i) (zvp hin) (g := F0 m pc ls (.int v :: .int i :: .ref a :: st)) rfl (rest := st) rfl (by rw [hX.1.2.1]; exact d) t
      simp only [arrV_size] at h9
      exact h9 stp
theorem aw_sastx {x : Option Nat} {i : Int32} {v : Int32} {w : Int32} (hw : narrow .short (.int v) = .int w) {K : ZS → Prop} {KN KB : Prop} (d : decode C.2.1 pc = .ok (.sastore, 1)) (h : qIx σ 17 x i w K KN KB) (kk : ∀ σ, K σ → AW G C Q X kc ks (pc + 1) lo st σ) (kn : KN → ANn G C Q X kc ks pc lo st σ) (kb : KB → ANt G C Q X kc ks pc lo st σ eAIO) : AW G C Q X kc ks pc lo (.int v :: .int i :: va_rf x :: st) σ := by
  intro p l e R s m args below meth c H locs cells slots mc ms ls hX hσ hl hc hs
  cases x with
  | none => exact vx_sastoreN hX.1.1 hX.1.2.1 d (kn (h.1 rfl) _ _ _ _ _ _ _ _ _ _ _ _ _ _ _ _ _ hX hσ hl hc hs)
  | some a =>
    obtain ⟨ha, hn, hi, ho⟩ := h.2 a rfl
    obtain ⟨h1, h2, h3⟩ := z_arr hX hσ (a := a) (by omega) (by omega)
    rw [ha] at h1 h2
    by_cases hin : vp_in i (sn σ a)
    · exact aw_sast hw d ⟨a, rfl, ha, hin, hi hin⟩ kk _ _ _ _ _ _ _ _ _ _ _ _ _ _ _ _ _ hX hσ hl hc hs
    · intro T hT Y
      obtain ⟨t, stp, q⟩ := awNi (n := sn σ a) (i := i) (kb (ho hin)) hX hσ hl hc hs hn T hT Y
      refine ⟨t, ?_, q⟩
      have h9 := Y.sastoreOut hX.1.1 (by rw [hT]; exact h1) h2 (j := i) (zvp hin) (g := F0 m pc ls (.int v :: .int i :: .ref a :: st)) rfl (rest := st) rfl (by rw [hX.1.2.1]; exact d) t
      simp only [arrV_size] at h9
      exact h9 stp
theorem aw_lastx {x : Option Nat} {i : Int32} {v : Int64} {K : ZS → Prop} {KN KB : Prop} (d : decode C.2.1 pc = .ok (.lastore, 1)) (h : qLx σ x i v K KN KB) (kk : ∀ σ, K σ → AW G C Q X kc ks (pc + 1) lo st σ) (kn : KN → ANn G C Q X kc ks pc lo st σ) (kb : KB → ANt G C Q X kc ks pc lo st σ eAIO) : AW G C Q X kc ks pc lo (.long v :: .int i :: va_rf x :: st) σ := by
  intro p l e R s m args below meth c H locs cells slots mc ms ls hX hσ hl hc hs
  cases x with
  | none => exact vx_lastoreN hX.1.1 hX.1.2.1 d (kn (h.1 rfl) _ _ _ _ _ _ _ _ _ _ _ _ _ _ _ _ _ hX hσ hl hc hs)
  | some a =>
    obtain ⟨ha, hn, hi, ho⟩ := h.2 a rfl
    obtain ⟨h1, h2, h3⟩ := z_arr hX hσ (a := a) (by omega) (by omega)
    rw [ha] at h1 h2
    by_cases hin : vp_in i (sn σ a)
    · exact aw_last d ⟨a, rfl, ha, hin, hi hin⟩ kk _ _ _ _ _ _ _ _ _ _ _ _ _ _ _ _ _ hX hσ hl hc hs
    · intro T hT Y
      obtain ⟨t, stp, q⟩ := awNi (n := sn σ a) (i := i) (kb (ho hin)) hX hσ hl hc hs hn T hT Y
      refine ⟨t, ?_, q⟩
      have h9 := Y.lastoreOut hX.1.1 (by rw [hT]; exact h1) h2 (j := i) (zvp hin) (g := F0 m pc ls (.long v :: .int i :: .ref a :: st)) rfl (rest := st) rfl (by rw [hX.1.2.1]; exact d) t
      simp only [arrV_size] at h9
      exact h9 stp
theorem aw_fastx {x : Option Nat} {i : Int32} {v : UInt32} {K : ZS → Prop} {KN KB : Prop} (d : decode C.2.1 pc = .ok (.fastore, 1)) (h : qFx σ x i v K KN KB) (kk : ∀ σ, K σ → AW G C Q X kc ks (pc + 1) lo st σ) (kn : KN → ANn G C Q X kc ks pc lo st σ) (kb : KB → ANt G C Q X kc ks pc lo st σ eAIO) : AW G C Q X kc ks pc lo (.float v :: .int i :: va_rf x :: st) σ := by
  intro p l e R s m args below meth c H locs cells slots mc ms ls hX hσ hl hc hs
  cases x with
  | none => exact vx_fastoreN hX.1.1 hX.1.2.1 d (kn (h.1 rfl) _ _ _ _ _ _ _ _ _ _ _ _ _ _ _ _ _ hX hσ hl hc hs)
  | some a =>
    obtain ⟨ha, hn, hi, ho⟩ := h.2 a rfl
    obtain ⟨h1, h2, h3⟩ := z_arr hX hσ (a := a) (by omega) (by omega)
    rw [ha] at h1 h2
    by_cases hin : vp_in i (sn σ a)
    · exact aw_fast d ⟨a, rfl, ha, hin, hi hin⟩ kk _ _ _ _ _ _ _ _ _ _ _ _ _ _ _ _ _ hX hσ hl hc hs
    · intro T hT Y
      obtain ⟨t, stp, q⟩ := awNi (n := sn σ a) (i := i) (kb (ho hin)) hX hσ hl hc hs hn T hT Y
      refine ⟨t, ?_, q⟩
      have h9 := Y.fastoreOut hX.1.1 (by rw [hT]; exact h1) h2 (j := i) (zvp hin) (g := F0 m pc ls (.float v :: .int i :: .ref a :: st)) rfl (rest := st) rfl (by rw [hX.1.2.1]; exact d) t
      simp only [arrV_size] at h9
      exact h9 stp
theorem aw_dastx {x : Option Nat} {i : Int32} {v : UInt64} {K : ZS → Prop} {KN KB : Prop} (d : decode C.2.1 pc = .ok (.dastore, 1)) (h : qDx σ x i v K KN KB) (kk : ∀ σ, K σ → AW G C Q X kc ks (pc + 1) lo st σ) (kn : KN → ANn G C Q X kc ks pc lo st σ) (kb : KB → ANt G C Q X kc ks pc lo st σ eAIO) : AW G C Q X kc ks pc lo (.double v :: .int i :: va_rf x :: st) σ := by
  intro p l e R s m args below meth c H locs cells slots mc ms ls hX hσ hl hc hs
  cases x with
  | none => exact vx_dastoreN hX.1.1 hX.1.2.1 d (kn (h.1 rfl) _ _ _ _ _ _ _ _ _ _ _ _ _ _ _ _ _ hX hσ hl hc hs)
  | some a =>
    obtain ⟨ha, hn, hi, ho⟩ := h.2 a rfl
    obtain ⟨h1, h2, h3⟩ := z_arr hX hσ (a := a) (by omega) (by omega)
    rw [ha] at h1 h2
    by_cases hin : vp_in i (sn σ a)
    · exact aw_dast d ⟨a, rfl, ha, hin, hi hin⟩ kk _ _ _ _ _ _ _ _ _ _ _ _ _ _ _ _ _ hX hσ hl hc hs
    · intro T hT Y
      obtain ⟨t, stp, q⟩ := awNi (n := sn σ a) (i := i) (kb (ho hin)) hX hσ hl hc hs hn T hT Y
      refine ⟨t, ?_, q⟩
      have h9 := Y.dastoreOut hX.1.1 (by rw [hT]; exact h1) h2 (j := i) (zvp hin) (g := F0 m pc ls (.double v :: .int i :: .ref a :: st)) rfl (rest := st) rfl (by rw [hX.1.2.1]; exact d) t
      simp only [arrV_size] at h9
      exact h9 stp
theorem aw_alenx {x : Option Nat} {K : Int32 → Prop} {KN : Prop} (d : decode C.2.1 pc = .ok (.arraylength, 1)) (h : nlenx σ x K KN) (kk : ∀ v, K v → AW G C Q X kc ks (pc + 1) lo (.int v :: st) σ) (kn : KN → ANn G C Q X kc ks pc lo st σ) : AW G C Q X kc ks pc lo (va_rf x :: st) σ := by
  intro p l e R s m args below meth c H locs cells slots mc ms ls hX hσ hl hc hs
  cases x with
  | none => exact vx_arraylengthN hX.1.1 hX.1.2.1 d (kn (h.1 rfl) _ _ _ _ _ _ _ _ _ _ _ _ _ _ _ _ _ hX hσ hl hc hs)
  | some a => exact aw_alen d ⟨a, rfl, h.2 a rfl⟩ kk _ _ _ _ _ _ _ _ _ _ _ _ _ _ _ _ _ hX hσ hl hc hs
theorem aw_idivx {x y : Int32} {KZ : Prop} (d : decode C.2.1 pc = .ok (.idiv, 1)) (kk : ¬ y = 0 → AW G C Q X kc ks (pc + 1) lo (.int (x / y) :: st) σ) (kz : y = 0 → ANt G C Q X kc ks pc lo st σ eARI) : AW G C Q X kc ks pc lo (.int y :: .int x :: st) σ := by
  by_cases hy : y = 0
  · intro p l e R s m args below meth c H locs cells slots mc ms ls hX hσ hl hc hs
    exact vx_idivZ hX.1.1 hX.1.2.1 hy d (awNt (kz hy) hX hσ hl hc hs (by decide) byzero)
  · exact aw_idiv d hy (kk hy)
theorem aw_iremx {x y : Int32} {KZ : Prop} (d : decode C.2.1 pc = .ok (.irem, 1)) (kk : ¬ y = 0 → AW G C Q X kc ks (pc + 1) lo (.int (x - x / y * y) :: st) σ) (kz : y = 0 → ANt G C Q X kc ks pc lo st σ eARI) : AW G C Q X kc ks pc lo (.int y :: .int x :: st) σ := by
  by_cases hy : y = 0
  · intro p l e R s m args below meth c H locs cells slots mc ms ls hX hσ hl hc hs
    exact vx_iremZ hX.1.1 hX.1.2.1 hy d (awNt (kz hy) hX hσ hl hc hs (by decide) byzero)
  · exact aw_irem d hy (kk hy)
theorem aw_ldivx {x y : Int64} {KZ : Prop} (d : decode C.2.1 pc = .ok (.ldiv, 1)) (kk : ¬ y = 0 → AW G C Q X kc ks (pc + 1) lo (.long (x / y) :: st) σ) (kz : y = 0 → ANt G C Q X kc ks pc lo st σ eARI) : AW G C Q X kc ks pc lo (.long y :: .long x :: st) σ := by
  by_cases hy : y = 0
  · intro p l e R s m args below meth c H locs cells slots mc ms ls hX hσ hl hc hs
    exact vx_ldivZ hX.1.1 hX.1.2.1 hy d (awNt (kz hy) hX hσ hl hc hs (by decide) byzero)
  · exact aw_ldiv d hy (kk hy)
theorem aw_lremx {x y : Int64} {KZ : Prop} (d : decode C.2.1 pc = .ok (.lrem, 1)) (kk : ¬ y = 0 → AW G C Q X kc ks (pc + 1) lo (.long (x - x / y * y) :: st) σ) (kz : y = 0 → ANt G C Q X kc ks pc lo st σ eARI) : AW G C Q X kc ks pc lo (.long y :: .long x :: st) σ := by
  by_cases hy : y = 0
  · intro p l e R s m args below meth c H locs cells slots mc ms ls hX hσ hl hc hs
    exact vx_lremZ hX.1.1 hX.1.2.1 hy d (awNt (kz hy) hX hσ hl hc hs (by decide) byzero)
  · exact aw_lrem d hy (kk hy)
theorem blank_arr : True := trivial
theorem aw_new {ci ix : Nat} {r : vw_C} {K : Nat → ZS → Nat → Nat → Prop} (d : decode C.2.1 pc = .ok (.new ix, 3)) (hc0 : zcl[ci]? = some r) (q1 : Cond.classLink C.1 ix r.1 ∈ lw_all) (q2 : Cond.instantiable r.1 r.2.2 ∈ lw_all) (q3 : Cond.initialized r.1 ∈ lw_all) (h : nO σ kc ks (ci + 1) r.2.2 K) (kk : ∀ a σ kc ks, K a σ kc ks → AW G C Q X kc ks (pc + 3) lo (va_rf (some a) :: st) σ) : AW G C Q X kc ks pc lo st σ := by
  intro p l e R s m args below meth c H locs cells slots mc ms ls hX hσ hl hc hs
  obtain ⟨⟨h1, h2⟩, h3⟩ := h
  have hmc := hX.2.2.1.1
  have hms := hX.2.2.1.2.1
  have hKn := hX.2.2.2.1.2.1 ci r hc0
  have hlt : ci < 8 := (List.getElem?_eq_some_iff.mp hc0).1
  refine W.newcK hX.1.1 hX.1.2.1 hX.1.2.2.2.1 (hX.1.2.2.2.2 _ q1) (hX.1.2.2.2.2 _ q2) (hX.1.2.2.2.2 _ q3) rfl d (by omega) (by omega) hKn.2.1 rfl fun H1 kC hkC e1 z1 o1 => ?_
  have hk0 : sk (nw σ H.size (ci + 1) 0) H.size = ci + 1 := by simp [nw, sk]
  have hz0 : sk σ H.size = 0 := by
    by_cases hz : sk σ H.size = 0
    · exact hz
    · exact absurd (hσ.lt hz) (Nat.lt_irrefl _)
  have hcell : zcell G (nw σ H.size (ci + 1) 0) H1 H.size := by
    refine ⟨fun c' r' hc' hr' => ?_, fun hk => ?_⟩
    · rw [hk0] at hc'
      have : c' = ci := by omega
      subst this
      cases hc0.symm.trans hr'
      exact (u_born (zty c') hX.1.2.2.2.2 (zcl_in hc0).1 hKn hkC e1 (zcl_in hc0).2.1).to fun j _ => (zv_nw_self _).symm
    · rw [hk0] at hk
      omega
  refine kk _ _ _ _ (h3 H.size hσ.2.1 hz0) _ _ _ _ _ _ _ _ _ _ _ _ _ _ _ _ _ (z_grow hX ⟨Nat.le_trans hX.2.2.2.2.1 (by omega), fun x h1 h2 => (o1 x (Nat.lt_of_lt_of_le h1 hX.2.2.2.2.1)).trans (hX.2.2.2.2.2.1 x h1 h2), hX.2.2.2.2.2.2⟩) (hσ.new hcell z1 o1) hl (by omega) (by omega)
theorem z_newarr {p : Program} {l : Launch} {R : Room} {s : State} {m : MethodId} {args : Array Value} {meth : Method} {c : Code} {H H1 : Heap} {locs : List Loc} {mc ms kd n : Nat} (hX : zCT G C mc ms p l R s m args meth c H locs) (hσ : zREL G σ H) (hk1 : 10 ≤ kd) (hk2 : kd < 24) {cA : ClassId} (hcA : s.vm.findClass ("[" ++ (zeT kd).toString) = some cA) (e1 : H1[H.size]? = some (arrV cA n (fun _ => defaultValue (zeT kd)))) (z1 : H1.size = H.size + 1) (o1 : ∀ q, q < H.size → H1[q]? = H[q]?) : zCT G C mc ms p l R s m args meth c H1 locs ∧ zREL G (nw σ H.size kd n) H1 ∧ sk σ H.size = 0 := by
  have hz0 : sk σ H.size = 0 := by
    by_cases hz : sk σ H.size = 0
    · exact hz
    · exact absurd (hσ.lt hz) (Nat.lt_irrefl _)
  have hk0 : sk (nw σ H.size kd n) H.size = kd := by simp [nw, sk]
  have hn0 : sn (nw σ H.size kd n) H.size = n := by simp [nw, sn]
  have hcc : G.2.1 kd = cA := Option.some.inj ((hX.2.2.2.1.2.2.1 kd hk1 hk2).2.1.symm.trans hcA)
  refine ⟨z_grow hX ⟨Nat.le_trans hX.2.2.2.2.1 (by omega), fun x h1 h2 => (o1 x (Nat.lt_of_lt_of_le h1 hX.2.2.2.2.1)).trans (hX.2.2.2.2.2.1 x h1 h2), hX.2.2.2.2.2.2⟩, hσ.new ⟨fun c' r' hc' hr' => ?_, fun hk => ?_⟩ z1 o1, hz0⟩
  · rw [hk0] at hc'
    have : c' < 8 := (List.getElem?_eq_some_iff.mp hr').1
    omega
  · rw [hk0, hn0, hcc, e1]
    congr 1
    exact arrV_ext fun j _ => (zv_nw_self _).symm
theorem aw_newarr_int {n : Int32} {cap : Nat} {K : Nat → ZS → Nat → Nat → Prop} {KZ : Prop} (d : decode C.2.1 pc = .ok (.newarray .int, 2)) (q1 : Cond.arrayClass .int ∈ lw_all) (h : nA σ kc ks 10 cap n K KZ) (kk : ∀ a σ kc ks, K a σ kc ks → AW G C Q X kc ks (pc + 2) lo (va_rf (some a) :: st) σ) (kz : KZ → ANt G C Q X kc ks pc lo st σ eNAS) : AW G C Q X kc ks pc lo (.int n :: st) σ := by
  intro p l e R s m args below meth c H locs cells slots mc ms ls hX hσ hl hc hs
  by_cases hn : n < 0
  · exact vx_newarrayZ hX.1.1 hX.1.2.1 hn d (fun tx htx => by rw [htx]; exact awNt (kz (h.1 hn)) hX hσ hl hc hs (negative_text_modelled hn) (Nat.le_trans (negative_text_bytes n) (by decide)))
  · obtain ⟨⟨h1, h2, h3, h5⟩, h4⟩ := h.2 hn
    have hmc := hX.2.2.1.1
    have hms := hX.2.2.1.2.1
    refine va_newaK (atype := .int) hX.1.1 hX.1.2.1 (hX.1.2.2.2.2 _ q1) rfl d rfl hn rfl (by simp only [newarray.typeOf, componentBytes]; omega) (by omega) (by omega) rfl (fun H1 cA e1 z1 o1 hA hcA => ?_)
    obtain ⟨hX1, hσ1, hz0⟩ := z_newarr (kd := 10) hX hσ (by decide) (by decide) hcA e1 z1 o1
    exact kk _ _ _ _ (h4 H.size hσ.2.1 hz0) _ _ _ _ _ _ _ _ _ _ _ _ _ _ _ _ _ hX1 hσ1 hl (by omega) (by omega)
theorem aw_newarr_long {n : Int32} {cap : Nat} {K : Nat → ZS → Nat → Nat → Prop} {KZ : Prop} (d : decode C.2.1 pc = .ok (.newarray .long, 2)) (q1 : Cond.arrayClass .long ∈ lw_all) (h : nA σ kc ks 11 cap n K KZ) (kk : ∀ a σ kc ks, K a σ kc ks → AW G C Q X kc ks (pc + 2) lo (va_rf (some a) :: st) σ) (kz : KZ → ANt G C Q X kc ks pc lo st σ eNAS) : AW G C Q X kc ks pc lo (.int n :: st) σ := by
  intro p l e R s m args below meth c H locs cells slots mc ms ls hX hσ hl hc hs
  by_cases hn : n < 0
  · exact vx_newarrayZ hX.1.1 hX.1.2.1 hn d (fun tx htx => by rw [htx]; exact awNt (kz (h.1 hn)) hX hσ hl hc hs (negative_text_modelled hn) (Nat.le_trans (negative_text_bytes n) (by decide)))
  · obtain ⟨⟨h1, h2, h3, h5⟩, h4⟩ := h.2 hn
    have hmc := hX.2.2.1.1
    have hms := hX.2.2.1.2.1
    refine va_newaK (atype := .long) hX.1.1 hX.1.2.1 (hX.1.2.2.2.2 _ q1) rfl d rfl hn rfl (by simp only [newarray.typeOf, componentBytes]; omega) (by omega) (by omega) rfl (fun H1 cA e1 z1 o1 hA hcA => ?_)
    obtain ⟨hX1, hσ1, hz0⟩ := z_newarr (kd := 11) hX hσ (by decide) (by decide) hcA e1 z1 o1
    exact kk _ _ _ _ (h4 H.size hσ.2.1 hz0) _ _ _ _ _ _ _ _ _ _ _ _ _ _ _ _ _ hX1 hσ1 hl (by omega) (by omega)
theorem aw_newarr_float {n : Int32} {cap : Nat} {K : Nat → ZS → Nat → Nat → Prop} {KZ : Prop} (d : decode C.2.1 pc = .ok (.newarray .float, 2)) (q1 : Cond.arrayClass .float ∈ lw_all) (h : nA σ kc ks 12 cap n K KZ) (kk : ∀ a σ kc ks, K a σ kc ks → AW G C Q X kc ks (pc + 2) lo (va_rf (some a) :: st) σ) (kz : KZ → ANt G C Q X kc ks pc lo st σ eNAS) : AW G C Q X kc ks pc lo (.int n :: st) σ := by
  intro p l e R s m args below meth c H locs cells slots mc ms ls hX hσ hl hc hs
  by_cases hn : n < 0
  · exact vx_newarrayZ hX.1.1 hX.1.2.1 hn d (fun tx htx => by rw [htx]; exact awNt (kz (h.1 hn)) hX hσ hl hc hs (negative_text_modelled hn) (Nat.le_trans (negative_text_bytes n) (by decide)))
  · obtain ⟨⟨h1, h2, h3, h5⟩, h4⟩ := h.2 hn
    have hmc := hX.2.2.1.1
    have hms := hX.2.2.1.2.1
    refine va_newaK (atype := .float) hX.1.1 hX.1.2.1 (hX.1.2.2.2.2 _ q1) rfl d rfl hn rfl (by simp only [newarray.typeOf, componentBytes]; omega) (by omega) (by omega) rfl (fun H1 cA e1 z1 o1 hA hcA => ?_)
    obtain ⟨hX1, hσ1, hz0⟩ := z_newarr (kd := 12) hX hσ (by decide) (by decide) hcA e1 z1 o1
    exact kk _ _ _ _ (h4 H.size hσ.2.1 hz0) _ _ _ _ _ _ _ _ _ _ _ _ _ _ _ _ _ hX1 hσ1 hl (by omega) (by omega)
theorem aw_newarr_double {n : Int32} {cap : Nat} {K : Nat → ZS → Nat → Nat → Prop} {KZ : Prop} (d : decode C.2.1 pc = .ok (.newarray .double, 2)) (q1 : Cond.arrayClass .double ∈ lw_all) (h : nA σ kc ks 13 cap n K KZ) (kk : ∀ a σ kc ks, K a σ kc ks → AW G C Q X kc ks (pc + 2) lo (va_rf (some a) :: st) σ) (kz : KZ → ANt G C Q X kc ks pc lo st σ eNAS) : AW G C Q X kc ks pc lo (.int n :: st) σ := by
  intro p l e R s m args below meth c H locs cells slots mc ms ls hX hσ hl hc hs
  by_cases hn : n < 0
  · exact vx_newarrayZ hX.1.1 hX.1.2.1 hn d (fun tx htx => by rw [htx]; exact awNt (kz (h.1 hn)) hX hσ hl hc hs (negative_text_modelled hn) (Nat.le_trans (negative_text_bytes n) (by decide)))
  · obtain ⟨⟨h1, h2, h3, h5⟩, h4⟩ := h.2 hn
    have hmc := hX.2.2.1.1
    have hms := hX.2.2.1.2.1
    refine va_newaK (atype := .double) hX.1.1 hX.1.2.1 (hX.1.2.2.2.2 _ q1) rfl d rfl hn rfl (by simp only [newarray.typeOf, componentBytes]; omega) (by omega) (by omega) rfl (fun H1 cA e1 z1 o1 hA hcA => ?_)
    obtain ⟨hX1, hσ1, hz0⟩ := z_newarr (kd := 13) hX hσ (by decide) (by decide) hcA e1 z1 o1
    exact kk _ _ _ _ (h4 H.size hσ.2.1 hz0) _ _ _ _ _ _ _ _ _ _ _ _ _ _ _ _ _ hX1 hσ1 hl (by omega) (by omega)
theorem aw_newarr_byte {n : Int32} {cap : Nat} {K : Nat → ZS → Nat → Nat → Prop} {KZ : Prop} (d : decode C.2.1 pc = .ok (.newarray .byte, 2)) (q1 : Cond.arrayClass .byte ∈ lw_all) (h : nA σ kc ks 14 cap n K KZ) (kk : ∀ a σ kc ks, K a σ kc ks → AW G C Q X kc ks (pc + 2) lo (va_rf (some a) :: st) σ) (kz : KZ → ANt G C Q X kc ks pc lo st σ eNAS) : AW G C Q X kc ks pc lo (.int n :: st) σ := by
  intro p l e R s m args below meth c H locs cells slots mc ms ls hX hσ hl hc hs
  by_cases hn : n < 0
  · exact vx_newarrayZ hX.1.1 hX.1.2.1 hn d (fun tx htx => by rw [htx]; exact awNt (kz (h.1 hn)) hX hσ hl hc hs (negative_text_modelled hn) (Nat.le_trans (negative_text_bytes n) (by decide)))
  · obtain ⟨⟨h1, h2, h3, h5⟩, h4⟩ := h.2 hn
    have hmc := hX.2.2.1.1
    have hms := hX.2.2.1.2.1
    refine va_newaK (atype := .byte) hX.1.1 hX.1.2.1 (hX.1.2.2.2.2 _ q1) rfl d rfl hn rfl (by simp only [newarray.typeOf, componentBytes]; omega) (by omega) (by omega) rfl (fun H1 cA e1 z1 o1 hA hcA => ?_)
    obtain ⟨hX1, hσ1, hz0⟩ := z_newarr (kd := 14) hX hσ (by decide) (by decide) hcA e1 z1 o1
    exact kk _ _ _ _ (h4 H.size hσ.2.1 hz0) _ _ _ _ _ _ _ _ _ _ _ _ _ _ _ _ _ hX1 hσ1 hl (by omega) (by omega)
theorem aw_newarr_boolean {n : Int32} {cap : Nat} {K : Nat → ZS → Nat → Nat → Prop} {KZ : Prop} (d : decode C.2.1 pc = .ok (.newarray .boolean, 2)) (q1 : Cond.arrayClass .boolean ∈ lw_all) (h : nA σ kc ks 15 cap n K KZ) (kk : ∀ a σ kc ks, K a σ kc ks → AW G C Q X kc ks (pc + 2) lo (va_rf (some a) :: st) σ) (kz : KZ → ANt G C Q X kc ks pc lo st σ eNAS) : AW G C Q X kc ks pc lo (.int n :: st) σ := by
  intro p l e R s m args below meth c H locs cells slots mc ms ls hX hσ hl hc hs
  by_cases hn : n < 0
  · exact vx_newarrayZ hX.1.1 hX.1.2.1 hn d (fun tx htx => by rw [htx]; exact awNt (kz (h.1 hn)) hX hσ hl hc hs (negative_text_modelled hn) (Nat.le_trans (negative_text_bytes n) (by decide)))
  · obtain ⟨⟨h1, h2, h3, h5⟩, h4⟩ := h.2 hn
    have hmc := hX.2.2.1.1
    have hms := hX.2.2.1.2.1
    refine va_newaK (atype := .boolean) hX.1.1 hX.1.2.1 (hX.1.2.2.2.2 _ q1) rfl d rfl hn rfl (by simp only [newarray.typeOf, componentBytes]; omega) (by omega) (by omega) rfl (fun H1 cA e1 z1 o1 hA hcA => ?_)
    obtain ⟨hX1, hσ1, hz0⟩ := z_newarr (kd := 15) hX hσ (by decide) (by decide) hcA e1 z1 o1
    exact kk _ _ _ _ (h4 H.size hσ.2.1 hz0) _ _ _ _ _ _ _ _ _ _ _ _ _ _ _ _ _ hX1 hσ1 hl (by omega) (by omega)
theorem aw_newarr_char {n : Int32} {cap : Nat} {K : Nat → ZS → Nat → Nat → Prop} {KZ : Prop} (d : decode C.2.1 pc = .ok (.newarray .char, 2)) (q1 : Cond.arrayClass .char ∈ lw_all) (h : nA σ kc ks 16 cap n K KZ) (kk : ∀ a σ kc ks, K a σ kc ks → AW G C Q X kc ks (pc + 2) lo (va_rf (some a) :: st) σ) (kz : KZ → ANt G C Q X kc ks pc lo st σ eNAS) : AW G C Q X kc ks pc lo (.int n :: st) σ := by
  intro p l e R s m args below meth c H locs cells slots mc ms ls hX hσ hl hc hs
  by_cases hn : n < 0
  · exact vx_newarrayZ hX.1.1 hX.1.2.1 hn d (fun tx htx => by rw [htx]; exact awNt (kz (h.1 hn)) hX hσ hl hc hs (negative_text_modelled hn) (Nat.le_trans (negative_text_bytes n) (by decide)))
  · obtain ⟨⟨h1, h2, h3, h5⟩, h4⟩ := h.2 hn
    have hmc := hX.2.2.1.1
    have hms := hX.2.2.1.2.1
    refine va_newaK (atype := .char) hX.1.1 hX.1.2.1 (hX.1.2.2.2.2 _ q1) rfl d rfl hn rfl (by simp only [newarray.typeOf, componentBytes]; omega) (by omega) (by omega) rfl (fun H1 cA e1 z1 o1 hA hcA => ?_)
    obtain ⟨hX1, hσ1, hz0⟩ := z_newarr (kd := 16) hX hσ (by decide) (by decide) hcA e1 z1 o1
    exact kk _ _ _ _ (h4 H.size hσ.2.1 hz0) _ _ _ _ _ _ _ _ _ _ _ _ _ _ _ _ _ hX1 hσ1 hl (by omega) (by omega)
theorem aw_newarr_short {n : Int32} {cap : Nat} {K : Nat → ZS → Nat → Nat → Prop} {KZ : Prop} (d : decode C.2.1 pc = .ok (.newarray .short, 2)) (q1 : Cond.arrayClass .short ∈ lw_all) (h : nA σ kc ks 17 cap n K KZ) (kk : ∀ a σ kc ks, K a σ kc ks → AW G C Q X kc ks (pc + 2) lo (va_rf (some a) :: st) σ) (kz : KZ → ANt G C Q X kc ks pc lo st σ eNAS) : AW G C Q X kc ks pc lo (.int n :: st) σ := by
  intro p l e R s m args below meth c H locs cells slots mc ms ls hX hσ hl hc hs
  by_cases hn : n < 0
  · exact vx_newarrayZ hX.1.1 hX.1.2.1 hn d (fun tx htx => by rw [htx]; exact awNt (kz (h.1 hn)) hX hσ hl hc hs (negative_text_modelled hn) (Nat.le_trans (negative_text_bytes n) (by decide)))
  · obtain ⟨⟨h1, h2, h3, h5⟩, h4⟩ := h.2 hn
    have hmc := hX.2.2.1.1
    have hms := hX.2.2.1.2.1
    refine va_newaK (atype := .short) hX.1.1 hX.1.2.1 (hX.1.2.2.2.2 _ q1) rfl d rfl hn rfl (by simp only [newarray.typeOf, componentBytes]; omega) (by omega) (by omega) rfl (fun H1 cA e1 z1 o1 hA hcA => ?_)
    obtain ⟨hX1, hσ1, hz0⟩ := z_newarr (kd := 17) hX hσ (by decide) (by decide) hcA e1 z1 o1
    exact kk _ _ _ _ (h4 H.size hσ.2.1 hz0) _ _ _ _ _ _ _ _ _ _ _ _ _ _ _ _ _ hX1 hσ1 hl (by omega) (by omega)
end ZR2
