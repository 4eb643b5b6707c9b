/-! L1g: arrays of references, casts, clones, statics, strings (printed by gen/mkcast.py) -/
/-- names of kinds; 24 NumberBox, 25 Box -/
def znm (k : Nat) : String := match k with
  | 1 => RX0
  | 2 => RX3
  | 3 => RX2
  | 4 => RX4
  | 5 => RX1
  | 6 => RX6
  | 7 => RX7
  | 8 => RX8
  | 10 => "[I"
  | 11 => "[J"
  | 12 => "[F"
  | 13 => "[D"
  | 14 => "[B"
  | 15 => "[Z"
  | 16 => "[C"
  | 17 => "[S"
  | 18 => "[LColumnHouse$Table;"
  | 19 => "[LColumnHouse$Column;"
  | 20 => "[LColumnHouse$Box;"
  | 21 => "[LColumnHouse$NumberBox;"
  | 22 => "[LColumnHouse$TextBox;"
  | 23 => "[[I"
  | 24 => RX5
  | _ => RX9
/-- an object of kind k is one of t -/
def zsub (k t : Nat) : Bool := k == t || (t == 24 && (k == 6 || k == 7)) || (t == 25 && (k == 6 || k == 7 || k == 8)) || (t == 20 && (k == 21 || k == 22))
def zckL : List (Nat × Nat) := ([6, 7, 8].flatMap fun k => [24, 8, 25].map fun t => (k, t)) ++ ([10, 11, 12, 13, 14, 15, 16, 17, 20, 21, 22, 23].flatMap fun k => [10, 11, 12, 13, 14, 15, 16, 17, 20, 21, 22, 23].map fun t => (k, t)) ++ [(3, 3), (4, 4)]
theorem zck_ok : zckL.all (fun q => zAs.contains (znm q.1, znm q.2, zsub q.1 q.2) || (znm q.1 == znm q.2 && zsub q.1 q.2)) = true := by decide +kernel
theorem znm_arr : ∀ k, 10 ≤ k → k < 24 → "[" ++ (zeT k).toString = znm k := by
  intro k h1 h2
  have h : k = 10 ∨ k = 11 ∨ k = 12 ∨ k = 13 ∨ k = 14 ∨ k = 15 ∨ k = 16 ∨ k = 17 ∨ k = 18 ∨ k = 19 ∨ k = 20 ∨ k = 21 ∨ k = 22 ∨ k = 23 := by omega
  rcases h with e | e | e | e | e | e | e | e | e | e | e | e | e | e <;> rw [e] <;> decide +kernel
theorem znm_cls : ∀ c r, zcl[c]? = some r → r.1 = znm (c + 1) := by
  intro c r h
  match c, h with
  | 0, h => cases h; rfl
  | 1, h => cases h; rfl
  | 2, h => cases h; rfl
  | 3, h => cases h; rfl
  | 4, h => cases h; rfl
  | 5, h => cases h; rfl
  | 6, h => cases h; rfl
  | 7, h => cases h; rfl
section ZC
variable {G : ZG} {C : AWC} {σ : ZS} {p : Program} {l : Launch} {e : Env} {R : Room} {s : State} {m : MethodId} {args : Array Value} {below : List Frame} {meth : Method} {c : Code} {H : Heap} {locs : List Loc} {cells slots mc ms : Nat}
theorem z_cls (hX : zCT G C mc ms p l R s m args meth c H locs) (hσ : zREL G σ H) {a k : Nat} (ha : sk σ a = k) (hk : (0 < k ∧ k < 9) ∨ (10 ≤ k ∧ k < 24)) : ∃ cell, H[a]? = some cell ∧ cell.vm = .none ∧ s.vm.findClass (znm k) = some cell.cls := by
  rcases hk with ⟨h1, h2⟩ | ⟨h1, h2⟩
  · obtain ⟨ci, rfl⟩ : ∃ ci, k = ci + 1 := ⟨k - 1, by omega⟩
    have hlt : ci < zcl.length := by show ci < 8; omega
    have hr := List.getElem?_eq_getElem hlt
    obtain ⟨q1, q2, q3, q4⟩ := hσ.2.2 a (by omega)
    obtain ⟨cell, p1, p2, p3, p4⟩ := q3 ci _ ha hr
    exact ⟨cell, p1, p3, by rw [← znm_cls ci _ hr, p2]; exact (hX.2.2.2.1.2.1 ci _ hr).2.1⟩
  · obtain ⟨h3, h4, h5⟩ := z_arr hX hσ (a := a) (by omega) (by omega)
    rw [ha] at h3
    exact ⟨_, h3, rfl, by rw [← znm_arr k h1 h2]; exact (hX.2.2.2.1.2.2.1 k h1 h2).2.1⟩
theorem z_asg (hX : zCT G C mc ms p l R s m args meth c H locs) {k t : Nat} (h : (k, t) ∈ zckL) {cc : ClassId} (hc : s.vm.findClass (znm k) = some cc) : (zsub k t = true ∧ znm k = znm t ∧ ∃ ct, s.vm.findClass (znm t) = some ct ∧ s.vm.assignable cc ct = true) ∨ ∃ ct, s.vm.findClass (znm t) = some ct ∧ s.vm.assignable cc ct = zsub k t := by
  have h1 := List.all_eq_true.mp zck_ok _ h
  simp only [Bool.or_eq_true, Bool.and_eq_true, beq_iff_eq] at h1
  rcases h1 with h1 | ⟨h1, h2⟩
  · obtain ⟨c3, c4, e1, e2, e3⟩ := hX.2.2.2.1.2.2.2.1 _ (List.contains_iff_mem.mp h1)
    dsimp only at e1 e2 e3
    cases e1.symm.trans hc
    exact Or.inr ⟨c4, e2, e3⟩
  · exact Or.inl ⟨h2, h1, cc, by rw [← h1]; exact hc, va_asg _ _⟩
theorem z_asg2 (hX : zCT G C mc ms p l R s m args meth c H locs) {k t : Nat} (h : (k, t) ∈ zckL) {cc : ClassId} (hc : s.vm.findClass (znm k) = some cc) : ∃ ct, s.vm.findClass (znm t) = some ct ∧ s.vm.assignable cc ct = zsub k t := by
  rcases z_asg hX h hc with ⟨h1, h2, ct, h3, h4⟩ | h1
  · exact ⟨ct, h3, by rw [h1]; exact h4⟩
  · exact h1
theorem zck_rng {k t : Nat} (h : (k, t) ∈ zckL) : (0 < k ∧ k < 9) ∨ (10 ≤ k ∧ k < 24) := by
  have : zckL.all (fun q => decide ((0 < q.1 ∧ q.1 < 9) ∨ (10 ≤ q.1 ∧ q.1 < 24))) = true := by decide +kernel
  exact of_decide_eq_true (List.all_eq_true.mp this _ h)
end ZC
/-- instanceof t -/
def ist (σ : ZS) (t : Nat) (x : Option Nat) (K : Int32 → Prop) : Prop := (x = none → K 0) ∧ ∀ a, x = some a → (sk σ a, t) ∈ zckL ∧ (zsub (sk σ a) t = true → K 1) ∧ (zsub (sk σ a) t = false → K 0)
/-- checkcast t: it is one, or is not -/
def kst (σ : ZS) (t : Nat) (x : Option Nat) (K KC : Prop) : Prop := (x = none → K) ∧ ∀ a, x = some a → (sk σ a, t) ∈ zckL ∧ (zsub (sk σ a) t = true → K) ∧ (zsub (sk σ a) t = false → KC)
section ZC2
variable {G : ZG} {C : AWC} {Q : Option Value → ZS → Prop} {X : String → Nat → ZS → Prop} {kc ks pc : Nat} {lo : List (Nat × Value)} {st : List Value} {σ : ZS}
theorem aw_inst {x : Option Nat} {ix t : Nat} {K : Int32 → Prop} (d : decode C.2.1 pc = .ok (.instanceof ix, 3)) (q1 : Cond.classLink C.1 ix (znm t) ∈ lw_all) (h : ist σ t x K) (kk : ∀ v, K v → AW G C Q X kc ks (pc + 3) lo (.int v :: st) σ) : AW G C Q X kc ks pc lo (va_rf x :: st) σ := by
  intro p l e R s m args below meth c H locs cells slots mc ms ls hX hσ hl hc hs
  cases x with
  | none => exact lv_instN hX.1.1 hX.1.2.1 d (kk _ (h.1 rfl) _ _ _ _ _ _ _ _ _ _ _ _ _ _ _ _ _ hX hσ hl hc hs)
  | some a =>
    obtain ⟨h1, h2, h3⟩ := h.2 a rfl
    obtain ⟨cell, p1, p2, p3⟩ := z_cls hX hσ rfl (zck_rng h1)
    obtain ⟨ct, e1, e2⟩ := z_asg2 hX h1 p3
    intro T hT Y
    obtain ⟨ks9, hks9, -⟩ := Vm.findClass_spec p3
    cases hz : zsub (sk σ a) t
    · rw [hz] at e2
      obtain ⟨vm', Y', stp⟩ := va_instofNo Y hX.1.1 hX.1.2.2.2.1 (hX.1.2.2.2.2 _ q1) (by rw [hT]; exact p1) (by rw [p2]; rfl) hks9 e1 e2 (g := F0 m pc ls (.ref a :: st)) rfl rfl (by rw [hX.1.2.1]; exact d)
      obtain ⟨t9, a1, b1⟩ := kk _ (h3 hz) _ _ _ _ _ _ _ _ _ _ _ _ _ _ _ _ _ hX hσ hl hc hs (T.setVm vm') hT Y'
      exact ⟨t9, stp t9 a1, b1⟩
    · rw [hz] at e2
      obtain ⟨vm', Y', stp⟩ := Y.instanceofYes hX.1.1 hX.1.2.2.2.1 (hX.1.2.2.2.2 _ q1) (by rw [hT]; exact p1) (by rw [p2]; rfl) e1 e2 (g := F0 m pc ls (.ref a :: st)) rfl rfl (by rw [hX.1.2.1]; exact d)
      obtain ⟨t9, a1, b1⟩ := kk _ (h2 hz) _ _ _ _ _ _ _ _ _ _ _ _ _ _ _ _ _ hX hσ hl hc hs (T.setVm vm') hT Y'
      exact ⟨t9, stp t9 a1, b1⟩
/-- a cast that can't fail -/
theorem aw_cast_ {x : Option Nat} {ix t : Nat} {K : Prop} (d : decode C.2.1 pc = .ok (.checkcast ix, 3)) (q1 : Cond.classLink C.1 ix (znm t) ∈ lw_all) (h : kst σ t x K False) (kk : K → AW G C Q X kc ks (pc + 3) lo (va_rf x :: st) σ) : AW G C Q X kc ks pc lo (va_rf x :: st) σ := by
  intro p l e R s m args below meth c H locs cells slots mc ms ls hX hσ hl hc hs
  cases x with
  | none => exact lv_castN hX.1.1 hX.1.2.1 d (kk (h.1 rfl) _ _ _ _ _ _ _ _ _ _ _ _ _ _ _ _ _ hX hσ hl hc hs)
  | some a =>
    obtain ⟨h1, h2, h3⟩ := h.2 a rfl
    obtain ⟨cell, p1, p2, p3⟩ := z_cls hX hσ rfl (zck_rng h1)
    obtain ⟨ct, e1, e2⟩ := z_asg2 hX h1 p3
    intro T hT Y
    cases hz : zsub (sk σ a) t
    · exact (h3 hz).elim
    · rw [hz] at e2
      obtain ⟨vm', Y', stp⟩ := Y.checkcastYes hX.1.1 hX.1.2.2.2.1 (hX.1.2.2.2.2 _ q1) (by rw [hT]; exact p1) (by rw [p2]; rfl) e1 e2 (g := F0 m pc ls (.ref a :: st)) rfl rfl (by rw [hX.1.2.1]; exact d)
      obtain ⟨t9, a1, b1⟩ := kk (h2 hz) _ _ _ _ _ _ _ _ _ _ _ _ _ _ _ _ _ hX hσ hl hc hs (T.setVm vm') hT Y'
      exact ⟨t9, stp t9 a1, b1⟩
theorem aw_ldcS {i ix : Nat} (d : decode C.2.1 pc = .ok (.ldc ix, 2)) (hi : i < 55) (hix : zsIx.getD i 0 = ix) (ho : C.1 = RX0) (k : AW G C Q X kc ks (pc + 2) lo (va_rf (some (G.2.2.2.1 i)) :: st) σ) : AW G C Q X kc ks pc lo st σ := by
  intro p l e R s m args below meth c H locs cells slots mc ms ls hX hσ hl hc hs
  have h1 := (hX.2.2.2.1.2.2.2.2.2.2.2.2.2.2 i hi).1
  rw [hix] at h1
  have hown := hX.1.2.2.2.1
  rw [ho] at hown
  exact va_ldcS hX.1.1 hX.1.2.1 hown h1 d (k _ _ _ _ _ _ _ _ _ _ _ _ _ _ _ _ _ hX hσ hl hc hs)
/-- a static that the start tells -/
theorem aw_gets {ix : Nat} {q : String × String × String × Value} (d : decode C.2.1 pc = .ok (.getstatic ix, 3)) (hq : q ∈ zSt) (q1 : Cond.fieldLink C.1 ix q.1 q.2.1 q.2.2.1 ∈ lw_all) (k : AW G C Q X kc ks (pc + 3) lo (q.2.2.2 :: st) σ) : AW G C Q X kc ks pc lo st σ := by
  intro p l e R s m args below meth c H locs cells slots mc ms ls hX hσ hl hc hs
  exact va_gets hX.1.1 hX.1.2.1 (hX.2.2.2.1.2.2.2.2.2.2.1 q hq) hX.2.2.2.2 hX.1.2.2.2.1 (hX.1.2.2.2.2 _ q1) (fun x h => h) d (k _ _ _ _ _ _ _ _ _ _ _ _ _ _ _ _ _ hX hσ hl hc hs)
theorem aw_objinit {x : Option Nat} {ix : Nat} (d : decode C.2.1 pc = .ok (.invokespecial ix, 3)) (q1 : Cond.methodLink C.1 ix Lib.objectInit ∈ lw_all) (q2 : Cond.instanceMethod Lib.objectInit ∈ lw_all) (q3 : Cond.code Lib.objectInit ⟨#[0xb1]⟩ 1 none ∈ lw_all) (hr : st.length ≤ 80) (hx : x ≠ none) (k : AW G C Q X kc ks (pc + 3) lo st σ) : AW G C Q X kc ks pc lo (va_rf x :: st) σ := by
  intro p l e R s m args below meth c H locs cells slots mc ms ls hX hσ hl hc hs
  cases x with
  | none => exact absurd rfl hx
  | some a =>
    have hr9 := cat_sum st
    have hfr := hX.2.2.1.2.2.1
    have hlo := hX.2.2.1.2.2.2
    unfold zfr at hfr
    unfold zlo at hlo
    exact W.objInit hX.1.1 hX.1.2.1 hX.1.2.2.2.1 (hX.1.2.2.2.2 _ q1) (hX.1.2.2.2.2 _ q2) (hX.1.2.2.2.2 _ q3) rfl (hl.1.trans hX.1.2.2.1.symm) rfl d (by omega) (by show 2 * 0 + _ + 12 ≤ _; omega) (k _ _ _ _ _ _ _ _ _ _ _ _ _ _ _ _ _ hX hσ hl hc hs)

theorem aw_anewT {n : Int32} {ix cap : Nat} {K : Nat → ZS → Nat → Nat → Prop} (d : decode C.2.1 pc = .ok (.anewarray ix, 3)) (q1 : Cond.classLink C.1 ix RX2 ∈ lw_all) (h : nA σ kc ks 18 cap n K False) (kk : ∀ a σ kc ks, K a σ kc ks → AW G C Q X kc ks (pc + 3) lo (va_rf (some a) :: st) σ) : AW G C Q X kc ks pc lo (.int n :: st) σ := by
  intro p l e R s m args below meth c H locs cells slots mc ms ls hX hσ hl hc hs
  by_cases hn : n < 0
  · exact (h.1 hn).elim
  · obtain ⟨⟨h1, h2, h3, h5⟩, h4⟩ := h.2 hn
    have hmc := hX.2.2.1.1
    have hms := hX.2.2.1.2.1
    refine W.anew hX.1.1 hX.1.2.1 hX.1.2.2.2.1 (hX.1.2.2.2.2 _ q1) (va_AO.use hX.2.2.2.1.2.2.2.2.2.2.2.1.1) rfl d rfl hn (by omega) (by omega) (by omega) (fun cA kA comp f1 f2 f3 f4 => ?_)
    generalize hH1 : H.push ({ cls := cA, slots := Array.replicate n.toNatClampNeg .null, vm := .none } : Cell) = H1
    have z1 : H1.size = H.size + 1 := by rw [← hH1, Array.size_push]
    have e1 : H1[H.size]? = some (arrV cA n.toNatClampNeg (fun _ => .null)) := by rw [← hH1, Array.getElem?_push_size, ← arrV_new]
    have o1 : ∀ q : Nat, q < H.size → H1[q]? = H[q]? := fun q hq => by rw [← hH1, Array.getElem?_push, if_neg (Nat.ne_of_lt hq)]
    obtain ⟨hX1, hσ1, hz0⟩ := z_newarr (kd := 18) hX hσ (by decide) (by decide) f1 e1 z1 o1
    exact kk _ _ _ _ (h4 H.size hσ.2.1 hz0) _ _ _ _ _ _ _ _ _ _ _ _ _ _ _ _ _ hX1 hσ1 hl (by omega) (by omega)
theorem aw_anewC {n : Int32} {ix cap : Nat} {K : Nat → ZS → Nat → Nat → Prop} (d : decode C.2.1 pc = .ok (.anewarray ix, 3)) (q1 : Cond.classLink C.1 ix RX4 ∈ lw_all) (h : nA σ kc ks 19 cap n K False) (kk : ∀ a σ kc ks, K a σ kc ks → AW G C Q X kc ks (pc + 3) lo (va_rf (some a) :: st) σ) : AW G C Q X kc ks pc lo (.int n :: st) σ := by
  intro p l e R s m args below meth c H locs cells slots mc ms ls hX hσ hl hc hs
  by_cases hn : n < 0
  · exact (h.1 hn).elim
  · obtain ⟨⟨h1, h2, h3, h5⟩, h4⟩ := h.2 hn
    have hmc := hX.2.2.1.1
    have hms := hX.2.2.1.2.1
    refine W.anew hX.1.1 hX.1.2.1 hX.1.2.2.2.1 (hX.1.2.2.2.2 _ q1) (va_AO.use hX.2.2.2.1.2.2.2.2.2.2.2.1.2.1) rfl d rfl hn (by omega) (by omega) (by omega) (fun cA kA comp f1 f2 f3 f4 => ?_)
    generalize hH1 : H.push ({ cls := cA, slots := Array.replicate n.toNatClampNeg .null, vm := .none } : Cell) = H1
    have z1 : H1.size = H.size + 1 := by rw [← hH1, Array.size_push]
    have e1 : H1[H.size]? = some (arrV cA n.toNatClampNeg (fun _ => .null)) := by rw [← hH1, Array.getElem?_push_size, ← arrV_new]
    have o1 : ∀ q : Nat, q < H.size → H1[q]? = H[q]? := fun q hq => by rw [← hH1, Array.getElem?_push, if_neg (Nat.ne_of_lt hq)]
    obtain ⟨hX1, hσ1, hz0⟩ := z_newarr (kd := 19) hX hσ (by decide) (by decide) f1 e1 z1 o1
    exact kk _ _ _ _ (h4 H.size hσ.2.1 hz0) _ _ _ _ _ _ _ _ _ _ _ _ _ _ _ _ _ hX1 hσ1 hl (by omega) (by omega)
theorem aw_anewN {n : Int32} {ix cap : Nat} {K : Nat → ZS → Nat → Nat → Prop} (d : decode C.2.1 pc = .ok (.anewarray ix, 3)) (q1 : Cond.classLink C.1 ix RX5 ∈ lw_all) (h : nA σ kc ks 21 cap n K False) (kk : ∀ a σ kc ks, K a σ kc ks → AW G C Q X kc ks (pc + 3) lo (va_rf (some a) :: st) σ) : AW G C Q X kc ks pc lo (.int n :: st) σ := by
  intro p l e R s m args below meth c H locs cells slots mc ms ls hX hσ hl hc hs
  by_cases hn : n < 0
  · exact (h.1 hn).elim
  · obtain ⟨⟨h1, h2, h3, h5⟩, h4⟩ := h.2 hn
    have hmc := hX.2.2.1.1
    have hms := hX.2.2.1.2.1
    refine W.anew hX.1.1 hX.1.2.1 hX.1.2.2.2.1 (hX.1.2.2.2.2 _ q1) (va_AO.use hX.2.2.2.1.2.2.2.2.2.2.2.1.2.2.1) rfl d rfl hn (by omega) (by omega) (by omega) (fun cA kA comp f1 f2 f3 f4 => ?_)
    generalize hH1 : H.push ({ cls := cA, slots := Array.replicate n.toNatClampNeg .null, vm := .none } : Cell) = H1
    have z1 : H1.size = H.size + 1 := by rw [← hH1, Array.size_push]
    have e1 : H1[H.size]? = some (arrV cA n.toNatClampNeg (fun _ => .null)) := by rw [← hH1, Array.getElem?_push_size, ← arrV_new]
    have o1 : ∀ q : Nat, q < H.size → H1[q]? = H[q]? := fun q hq => by rw [← hH1, Array.getElem?_push, if_neg (Nat.ne_of_lt hq)]
    obtain ⟨hX1, hσ1, hz0⟩ := z_newarr (kd := 21) hX hσ (by decide) (by decide) f1 e1 z1 o1
    exact kk _ _ _ _ (h4 H.size hσ.2.1 hz0) _ _ _ _ _ _ _ _ _ _ _ _ _ _ _ _ _ hX1 hσ1 hl (by omega) (by omega)
theorem aw_anewX {n : Int32} {ix cap : Nat} {K : Nat → ZS → Nat → Nat → Prop} (d : decode C.2.1 pc = .ok (.anewarray ix, 3)) (q1 : Cond.classLink C.1 ix RX8 ∈ lw_all) (h : nA σ kc ks 22 cap n K False) (kk : ∀ a σ kc ks, K a σ kc ks → AW G C Q X kc ks (pc + 3) lo (va_rf (some a) :: st) σ) : AW G C Q X kc ks pc lo (.int n :: st) σ := by
  intro p l e R s m args below meth c H locs cells slots mc ms ls hX hσ hl hc hs
  by_cases hn : n < 0
  · exact (h.1 hn).elim
  · obtain ⟨⟨h1, h2, h3, h5⟩, h4⟩ := h.2 hn
    have hmc := hX.2.2.1.1
    have hms := hX.2.2.1.2.1
    refine W.anew hX.1.1 hX.1.2.1 hX.1.2.2.2.1 (hX.1.2.2.2.2 _ q1) (va_AO.use hX.2.2.2.1.2.2.2.2.2.2.2.1.2.2.2.1) rfl d rfl hn (by omega) (by omega) (by omega) (fun cA kA comp f1 f2 f3 f4 => ?_)
    generalize hH1 : H.push ({ cls := cA, slots := Array.replicate n.toNatClampNeg .null, vm := .none } : Cell) = H1
    have z1 : H1.size = H.size + 1 := by rw [← hH1, Array.size_push]
    have e1 : H1[H.size]? = some (arrV cA n.toNatClampNeg (fun _ => .null)) := by rw [← hH1, Array.getElem?_push_size, ← arrV_new]
    have o1 : ∀ q : Nat, q < H.size → H1[q]? = H[q]? := fun q hq => by rw [← hH1, Array.getElem?_push, if_neg (Nat.ne_of_lt hq)]
    obtain ⟨hX1, hσ1, hz0⟩ := z_newarr (kd := 22) hX hσ (by decide) (by decide) f1 e1 z1 o1
    exact kk _ _ _ _ (h4 H.size hσ.2.1 hz0) _ _ _ _ _ _ _ _ _ _ _ _ _ _ _ _ _ hX1 hσ1 hl (by omega) (by omega)
theorem aw_anewB {n : Int32} {ix cap : Nat} {K : Nat → ZS → Nat → Nat → Prop} (d : decode C.2.1 pc = .ok (.anewarray ix, 3)) (q1 : Cond.classLink C.1 ix RX9 ∈ lw_all) (h : nA σ kc ks 20 cap n K False) (kk : ∀ a σ kc ks, K a σ kc ks → AW G C Q X kc ks (pc + 3) lo (va_rf (some a) :: st) σ) : AW G C Q X kc ks pc lo (.int n :: st) σ := by
  intro p l e R s m args below meth c H locs cells slots mc ms ls hX hσ hl hc hs
  by_cases hn : n < 0
  · exact (h.1 hn).elim
  · obtain ⟨⟨h1, h2, h3, h5⟩, h4⟩ := h.2 hn
    have hmc := hX.2.2.1.1
    have hms := hX.2.2.1.2.1
    refine W.anew hX.1.1 hX.1.2.1 hX.1.2.2.2.1 (hX.1.2.2.2.2 _ q1) (va_AO.use hX.2.2.2.1.2.2.2.2.2.2.2.1.2.2.2.2.1) rfl d rfl hn (by omega) (by omega) (by omega) (fun cA kA comp f1 f2 f3 f4 => ?_)
    generalize hH1 : H.push ({ cls := cA, slots := Array.replicate n.toNatClampNeg .null, vm := .none } : Cell) = H1
    have z1 : H1.size = H.size + 1 := by rw [← hH1, Array.size_push]
    have e1 : H1[H.size]? = some (arrV cA n.toNatClampNeg (fun _ => .null)) := by rw [← hH1, Array.getElem?_push_size, ← arrV_new]
    have o1 : ∀ q : Nat, q < H.size → H1[q]? = H[q]? := fun q hq => by rw [← hH1, Array.getElem?_push, if_neg (Nat.ne_of_lt hq)]
    obtain ⟨hX1, hσ1, hz0⟩ := z_newarr (kd := 20) hX hσ (by decide) (by decide) f1 e1 z1 o1
    exact kk _ _ _ _ (h4 H.size hσ.2.1 hz0) _ _ _ _ _ _ _ _ _ _ _ _ _ _ _ _ _ hX1 hσ1 hl (by omega) (by omega)
theorem aw_anewI {n : Int32} {ix cap : Nat} {K : Nat → ZS → Nat → Nat → Prop} (d : decode C.2.1 pc = .ok (.anewarray ix, 3)) (q1 : Cond.classLink C.1 ix "[I" ∈ lw_all) (h : nA σ kc ks 23 cap n K False) (kk : ∀ a σ kc ks, K a σ kc ks → AW G C Q X kc ks (pc + 3) lo (va_rf (some a) :: st) σ) : AW G C Q X kc ks pc lo (.int n :: st) σ := by
  intro p l e R s m args below meth c H locs cells slots mc ms ls hX hσ hl hc hs
  by_cases hn : n < 0
  · exact (h.1 hn).elim
  · obtain ⟨⟨h1, h2, h3, h5⟩, h4⟩ := h.2 hn
    have hmc := hX.2.2.1.1
    have hms := hX.2.2.1.2.1
    refine W.anewA (t := .int) hX.1.1 hX.1.2.1 hX.1.2.2.2.1 (hX.1.2.2.2.2 _ q1) hX.2.2.2.1.2.2.2.2.2.2.2.1.2.2.2.2.2.1 rfl d rfl hn (by omega) (by omega) (by omega) (fun cA kA comp f1 f2 f3 f4 => ?_)
    generalize hH1 : H.push ({ cls := cA, slots := Array.replicate n.toNatClampNeg .null, vm := .none } : Cell) = H1
    have z1 : H1.size = H.size + 1 := by rw [← hH1, Array.size_push]
    have e1 : H1[H.size]? = some (arrV cA n.toNatClampNeg (fun _ => .null)) := by rw [← hH1, Array.getElem?_push_size, ← arrV_new]
    have o1 : ∀ q : Nat, q < H.size → H1[q]? = H[q]? := fun q hq => by rw [← hH1, Array.getElem?_push, if_neg (Nat.ne_of_lt hq)]
    obtain ⟨hX1, hσ1, hz0⟩ := z_newarr (kd := 23) hX hσ (by decide) (by decide) f1 e1 z1 o1
    exact kk _ _ _ _ (h4 H.size hσ.2.1 hz0) _ _ _ _ _ _ _ _ _ _ _ _ _ _ _ _ _ hX1 hσ1 hl (by omega) (by omega)
end ZC2
