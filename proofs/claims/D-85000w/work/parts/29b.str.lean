/-! L1q: the strings of the literals -/
def sgV (G : ZG) (x : Option Nat) (K : Option Nat → Prop) : Prop := ∃ i, i < 55 ∧ x = some (G.2.2.2.1 i) ∧ K (some (G.2.2.2.2 i))
def sgC (G : ZG) (x : Option Nat) : Prop := ∃ i, i < 55 ∧ x = some (G.2.2.2.1 i)
def sln (G : ZG) (x : Option Nat) (K : Int32 → Prop) : Prop := ∃ i, i < 55 ∧ x = some (G.2.2.2.2 i) ∧ K (Int32.ofNat (zsBy.getD i []).length)
def sbl (G : ZG) (x : Option Nat) (j : Int32) (K : Int32 → Prop) : Prop := ∃ i, i < 55 ∧ x = some (G.2.2.2.2 i) ∧ vp_in j (zsBy.getD i []).length ∧ K ((zsBy.getD i []).getD j.toNatClampNeg 0)
def sv0I (G : ZG) (y : MethodName) (d : Nat) (x : Option Nat) (As : List Value) (σ : ZS) (K : Int32 → ZS → Prop) (KX : String → Nat → ZS → Prop) : Prop := ∃ i, i < 55 ∧ x = some (G.2.2.2.1 i) ∧ ∃ d', d' < d ∧ ZM G y d' 0 0 (va_rf x :: As) σ (fun v σ' => ∃ r : Int32, v = some (.int r) ∧ K r σ') KX
section ZR10
variable {G : ZG} {C : AWC} {Q : Option Value → ZS → Prop} {X : String → Nat → ZS → Prop} {kc ks pc : Nat} {lo : List (Nat × Value)} {st : List Value} {σ : ZS}
theorem aw_sgV {x : Option Nat} {ix : Nat} {K : Option Nat → Prop} (d : decode C.2.1 pc = .ok (.getfield ix, 3)) (q : Cond.fieldLink C.1 ix "java/lang/String" "value" "[B" ∈ lw_all) (h : sgV G x K) (kk : ∀ v, K v → AW G C Q X kc ks (pc + 3) lo (va_rf v :: st) σ) : AW G C Q X kc ks pc lo (va_rf x :: st) σ := by
  obtain ⟨i, hi, rfl, hK⟩ := h
  intro p l e R s m args below meth c H locs cells slots mc ms ls hX hσ hl hc hs
  obtain ⟨b1, b2, b3, b4, b5⟩ := hX.2.2.2.1.2.2.2.2.2.2.2.2.2.2 i hi
  exact vk_getf hX.1.1 hX.1.2.1 b4 hX.2.2.2.2 hX.1.2.2.2.1 (hX.1.2.2.2.2 _ q) (fun _ h => h) d (kk _ hK _ _ _ _ _ _ _ _ _ _ _ _ _ _ _ _ _ hX hσ hl hc hs)
theorem aw_sgC {x : Option Nat} {ix : Nat} (d : decode C.2.1 pc = .ok (.getfield ix, 3)) (q : Cond.fieldLink C.1 ix "java/lang/String" "coder" "B" ∈ lw_all) (h : sgC G x) (kk : AW G C Q X kc ks (pc + 3) lo (.int (0 : Int32) :: st) σ) : AW G C Q X kc ks pc lo (va_rf x :: st) σ := by
  obtain ⟨i, hi, rfl⟩ := h
  intro p l e R s m args below meth c H locs cells slots mc ms ls hX hσ hl hc hs
  obtain ⟨b1, b2, b3, b4, b5⟩ := hX.2.2.2.1.2.2.2.2.2.2.2.2.2.2 i hi
  exact vk_getf hX.1.1 hX.1.2.1 b3 hX.2.2.2.2 hX.1.2.2.2.1 (hX.1.2.2.2.2 _ q) (fun _ h => h) d (kk _ _ _ _ _ _ _ _ _ _ _ _ _ _ _ _ _ hX hσ hl hc hs)
theorem aw_sln {x : Option Nat} {K : Int32 → Prop} (d : decode C.2.1 pc = .ok (.arraylength, 1)) (h : sln G x K) (kk : ∀ v, K v → AW G C Q X kc ks (pc + 1) lo (.int v :: st) σ) : AW G C Q X kc ks pc lo (va_rf x :: st) σ := by
  obtain ⟨i, hi, rfl, hK⟩ := h
  intro p l e R s m args below meth c H locs cells slots mc ms ls hX hσ hl hc hs
  obtain ⟨b1, b2, b3, b4, b5⟩ := hX.2.2.2.1.2.2.2.2.2.2.2.2.2.2 i hi
  exact va_tlen hX.1.1 hX.1.2.1 b5 hX.2.2.2.2 rfl d (kk _ hK _ _ _ _ _ _ _ _ _ _ _ _ _ _ _ _ _ hX hσ hl hc hs)
theorem aw_sbl {x : Option Nat} {j : Int32} {K : Int32 → Prop} (d : decode C.2.1 pc = .ok (.baload, 1)) (h : sbl G x j K) (kk : ∀ v, K v → AW G C Q X kc ks (pc + 1) lo (.int v :: st) σ) : AW G C Q X kc ks pc lo (.int j :: va_rf x :: st) σ := by
  obtain ⟨i, hi, rfl, hj, hK⟩ := h
  intro p l e R s m args below meth c H locs cells slots mc ms ls hX hσ hl hc hs
  obtain ⟨b1, b2, b3, b4, b5⟩ := hX.2.2.2.1.2.2.2.2.2.2.2.2.2.2 i hi
  exact va_tb hX.1.1 hX.1.2.1 b5 hX.2.2.2.2 hj rfl d (kk _ hK _ _ _ _ _ _ _ _ _ _ _ _ _ _ _ _ _ hX hσ hl hc hs)
theorem aw_getsq {ix : Nat} (d : decode C.2.1 pc = .ok (.getstatic ix, 3)) (q1 : Cond.fieldLink C.1 ix "jdk/internal/util/Preconditions" "SIOOBE_FORMATTER" "Ljava/util/function/BiFunction;" ∈ lw_all) (k : ∀ v : Option Nat, AW G C Q X kc ks (pc + 3) lo (va_rf v :: st) σ) : AW G C Q X kc ks pc lo st σ := by
  intro p l e R s m args below meth c H locs cells slots mc ms ls hX hσ hl hc hs
  rcases hX.2.2.2.1.2.2.2.2.2.2.2.2.2.1 with h | ⟨t, h⟩
  · exact va_gets hX.1.1 hX.1.2.1 h hX.2.2.2.2 hX.1.2.2.2.1 (hX.1.2.2.2.2 _ q1) (fun x h => h) d (k none _ _ _ _ _ _ _ _ _ _ _ _ _ _ _ _ _ hX hσ hl hc hs)
  · exact va_gets hX.1.1 hX.1.2.1 h hX.2.2.2.2 hX.1.2.2.2.1 (hX.1.2.2.2.2 _ q1) (fun x h => h) d (k (some t) _ _ _ _ _ _ _ _ _ _ _ _ _ _ _ _ _ hX hσ hl hc hs)
theorem aw_sv0I {y : MethodName} {ix : Nat} {bytes : ByteArray} {maxL : Nat} {ret : Option FieldType} {As : List Value} {st0 : List Value} {x : Option Nat} {K : Int32 → ZS → Prop} {KX : String → Nat → ZS → Prop} (d : decode C.2.1 pc = .ok (.invokevirtual ix, 3)) (q1 : Cond.methodLink C.1 ix y ∈ lw_all) (q2 : Cond.instanceMethod y ∈ lw_all) (q3 : Cond.selects "java/lang/String" y y ∈ lw_all) (q5 : Cond.code y bytes maxL ret ∈ lw_all) (hy : y.cls ≠ "java/lang/invoke/MethodHandle" ∧ y.cls ≠ "java/lang/invoke/VarHandle") (hlen : (parseMethodDescriptor y.desc).map (fun d => d.parameters.length) = some As.length) (hst : st0 = As.reverse ++ va_rf x :: st) (hw : st.length ≤ 12) (h : sv0I G y C.2.2.2.2.2.2 x As σ K KX) (kk : ∀ (r : Int32) (σ : ZS), K r σ → AW G C Q X kc ks (pc + 3) lo (.int r :: st) σ) (kx : ∀ E q σ, KX E q σ → AX G C Q X kc ks pc lo σ E q) : AW G C Q X kc ks pc lo st0 σ := by
  intro p l e R s m args below meth c H locs cells slots mc ms ls hX hσ hl hc hs
  obtain ⟨i, hi, rfl, d1, h1, hM⟩ := h
  obtain ⟨b1, b2, b3, b4, b5⟩ := hX.2.2.2.1.2.2.2.2.2.2.2.2.2.2 i hi
  obtain ⟨cellB, p1, p2, p3, -⟩ := b2.kept hX.2.2.2.2.2.1
  have hfr := hX.2.2.1.2.2.1
  have hlo := hX.2.2.1.2.2.2
  have hw9 := cat_sum st
  unfold zfr at hfr
  unfold zlo at hlo
  intro T hT Y
  have hK := hM l R p e below s args 3 24 hX.2.1.2.2.2.2 hX.1.2.2.2.2 (by unfold zfr; omega) (by unfold zlo; omega)
  have h9 := vx_callV Y hX.1.1 hX.1.2.2.2.1 (hX.1.2.2.2.2 _ q1) (hX.1.2.2.2.2 _ q2) (hX.1.2.2.2.2 _ q3) (hX.1.2.2.2.2 _ q5) hy hK (by rw [hT]; exact p1) p2 p3 (g := F0 m pc ls st0) rfl (hl.1.trans hX.1.2.2.1.symm) (argsL := As) (rest := st) (fun sig h => by rw [h] at hlen; exact (Option.some.inj hlen).symm) hst (by show 2 * 0 + _ ≤ 24; omega) (by rw [hX.1.2.1]; exact d) (z_pre hX hσ (by omega) (by omega) hT)
  refine z_behind hX hl (kc := kc) (ks := ks) (by omega) (by omega) hT h9 (fun v σ h => ?_) (fun E q σ h => kx E q σ h)
  obtain ⟨r, rfl, hk⟩ := h
  exact kk r σ hk
end ZR10
