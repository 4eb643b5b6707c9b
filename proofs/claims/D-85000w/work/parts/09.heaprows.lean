/-! L1d: rows of AW for fields and arrays (printed by gen/mkheap.py) -/
section ZH
variable {G : ZG} {C : AWC} {σ : ZS} {p : Program} {l : Launch} {e : Env} {R : Room} {s : State} {m : MethodId} {args : Array Value} {below : List Frame} {meth : Method} {c : Code} {H : Heap} {locs : List Loc} {cells slots mc ms : Nat} {Q : State → Prop} {pc : Nat} {ls : Array Slot} {rest : List Value}
theorem z_va (hX : zCT G C mc ms p l R s m args meth c H locs) : va_K G.1 zcl [] s := ⟨hX.2.2.2.1.2.1, fun k q hk => nomatch hk⟩
theorem z_slot (hX : zCT G C mc ms p l R s m args meth c H locs) (hσ : zREL G σ H) {a ci k : Nat} {r : vw_C} (hc : zcl[ci]? = some r) (hk : k < r.2.2) (ha : sk σ a = ci + 1) : ∃ (cell : Cell) (cf : ClassId) (kf : Class) (fi : Nat) (f : Field), H[a]? = some cell ∧ cell.cls = G.1.1 ci ∧ cell.vm = .none ∧ cell.slots[f.slot]? = some (zv (ztg (zty ci k)) σ a k) ∧ s.fieldFound? (r.2.1 k).1 (r.2.1 k).2.1 (r.2.1 k).2.2.1 = some (cf, kf, fi, f) ∧ f.isStatic = false ∧ f.slot = G.1.2 ci k := by
  obtain ⟨q1, q2, q3, q4⟩ := hσ.2.2 a (by omega)
  obtain ⟨cell, p1, p2, p3, p4⟩ := q3 ci r ha hc
  obtain ⟨hS, hfc, kC, hkC, hkind⟩ := hX.2.2.2.1.2.1 ci r hc
  obtain ⟨cf, kf, fi, f, hi, hsl⟩ := hS k hk
  exact ⟨cell, cf, kf, fi, f, p1, p2, p3, by rw [hsl]; exact p4 k hk, hi, (u_facts hfc hkC (u_lays hX.1.2.2.2.2 (zcl_in hc).1 hk) hi).1, hsl⟩
theorem z_get (hX : zCT G C mc ms p l R s m args meth c H locs) (hσ : zREL G σ H) {a ci k ix : Nat} {r : vw_C} (d : decode C.2.1 pc = .ok (.getfield ix, 3)) (hc : zcl[ci]? = some r) (hk : k < r.2.2) (q : Cond.fieldLink C.1 ix (r.2.1 k).1 (r.2.1 k).2.1 (r.2.1 k).2.2.1 ∈ lw_all) (ha : sk σ a = ci + 1) (kk : W p l e R s m args below meth c H locs cells slots Q (F0 m (pc + 3) ls (zv (ztg (zty ci k)) σ a k :: rest))) : W p l e R s m args below meth c H locs cells slots Q (F0 m pc ls (.ref a :: rest)) := by
  obtain ⟨cell, cf, kf, fi, f, p1, p2, p3, p4, hi, hst, hsl⟩ := z_slot hX hσ hc hk ha
  exact W.getf hX.1.1 hX.1.2.1 hX.1.2.2.2.1 (hX.1.2.2.2.2 _ q) hi hst p1 (by rw [p3]; exact fun h => by cases h) p4 rfl rfl d kk
theorem z_getN (hX : zCT G C mc ms p l R s m args meth c H locs) (hσ : zREL G σ H) {a ci k ix : Nat} {r : vw_C} {host : String} (d : decode C.2.1 pc = .ok (.getfield ix, 3)) (hc : zcl[ci]? = some r) (hk : k < r.2.2) (q : Cond.fieldLinkNest C.1 ix (r.2.1 k).1 (r.2.1 k).2.1 (r.2.1 k).2.2.1 host ∈ zNst) (ha : sk σ a = ci + 1) (kk : W p l e R s m args below meth c H locs cells slots Q (F0 m (pc + 3) ls (zv (ztg (zty ci k)) σ a k :: rest))) : W p l e R s m args below meth c H locs cells slots Q (F0 m pc ls (.ref a :: rest)) := by
  obtain ⟨cell, cf, kf, fi, f, p1, p2, p3, p4, hi, hst, hsl⟩ := z_slot hX hσ hc hk ha
  exact va_Wgetf hX.1.1 hX.1.2.1 hX.1.2.2.2.1 (va_Nw.use rfl (hX.2.2.2.1.2.2.2.2.1 _ q)) hi hst p1 (by rw [p3]; exact fun h => by cases h) p4 rfl rfl d kk
theorem z_ap (hX : zCT G C mc ms p l R s m args meth c H locs) {ci : Nat} {r : vw_C} (hc : zcl[ci]? = some r) : ∀ x y, x < r.2.2 → y < r.2.2 → x ≠ y → G.1.2 ci x ≠ G.1.2 ci y :=
  va_apart (own := C.1) hX.1.2.2.2.2 (zcl_in hc).1 (zty ci) (zcl_in hc).2.1 (zcl_in hc).2.2 (z_va hX) hc
theorem z_S (hX : zCT G C mc ms p l R s m args meth c H locs) {H' : Heap} {a k : Nat} (e2 : H'.size = H.size) (e3 : ∀ q, q ≠ a → H'[q]? = H[q]?) (ha : G.2.2.1 ≤ a) : zCT G C mc ms p l R s m args meth c H' (locs ++ [⟨a, k⟩]) := ⟨hX.1, hX.2.1, hX.2.2.1, hX.2.2.2.1, hX.2.2.2.2.put e2 e3 ha⟩
theorem z_put (hX : zCT G C mc ms p l R s m args meth c H locs) (hσ : zREL G σ H) {a ci k ix : Nat} {r : vw_C} {v : Value} (d : decode C.2.1 pc = .ok (.putfield ix, 3)) (hc : zcl[ci]? = some r) (hk : k < r.2.2) (hfin : (r.2.1 k).2.2.2 = false) (q : Cond.fieldLink C.1 ix (r.2.1 k).1 (r.2.1 k).2.1 (r.2.1 k).2.2.1 ∈ lw_all) (ha : sk σ a = ci + 1) (hn : narrow (zty ci k) v = v) (hf : fits (zty ci k) v = true) (hz : zis (ztg (zty ci k)) v)
    (kk : ∀ (H' : Heap) (locs' : List Loc), zCT G C mc ms p l R s m args meth c H' locs' → zREL G (wv (ztg (zty ci k)) σ a k v) H' → W p l e R s m args below meth c H' locs' cells slots Q (F0 m (pc + 3) ls rest)) : W p l e R s m args below meth c H locs cells slots Q (F0 m pc ls (v :: .ref a :: rest)) := by
  obtain ⟨cell, cf, kf, fi, f, p1, p2, p3, p4, hi, hst, hsl⟩ := z_slot hX hσ hc hk ha
  have hlay := hX.1.2.2.2.2 _ ((zcl_in hc).1 _ (u_in_lay hk))
  unfold u_lay at hlay
  rw [if_neg (by rw [hfin]; decide)] at hlay
  obtain ⟨hS, hfc, kC, hkC, hkind⟩ := hX.2.2.2.1.2.1 ci r hc
  have h6 := u_store hfc hkC hkind hlay hi ((zcl_in hc).2.1 k hk) hn hf
  refine W.putK hX.1.1 hX.1.2.1 (f := f) ⟨hX.1.2.2.2.1, hX.1.2.2.2.2 _ q, ⟨_, _, _, hi⟩, hst⟩ (by rw [p2]; exact h6) p1 p3 (k2_hasslot p4) rfl rfl d fun H' e1 e2 e3 => ?_
  rw [hsl] at e1
  exact kk H' _ (z_S hX e2 e3 (hσ.2.2 a (by omega)).1) (hσ.stf ha hc hk hz (z_ap hX hc) p1 e1 e2 e3)
theorem z_putF (hX : zCT G C mc ms p l R s m args meth c H locs) (hσ : zREL G σ H) {a ci k ix : Nat} {r : vw_C} {v : Value} (d : decode C.2.1 pc = .ok (.putfield ix, 3)) (hc : zcl[ci]? = some r) (hk : k < r.2.2) (hfin : (r.2.1 k).2.2.2 = true) (q : Cond.fieldLink C.1 ix (r.2.1 k).1 (r.2.1 k).2.1 (r.2.1 k).2.2.1 ∈ lw_all) (hini : C.2.2.2.2.2.1 = true) (hdecl : (r.2.1 k).1 = C.1) (ha : sk σ a = ci + 1) (hn : narrow (zty ci k) v = v) (hf : fits (zty ci k) v = true) (hz : zis (ztg (zty ci k)) v)
    (kk : ∀ (H' : Heap) (locs' : List Loc), zCT G C mc ms p l R s m args meth c H' locs' → zREL G (wv (ztg (zty ci k)) σ a k v) H' → W p l e R s m args below meth c H' locs' cells slots Q (F0 m (pc + 3) ls rest)) : W p l e R s m args below meth c H locs cells slots Q (F0 m pc ls (v :: .ref a :: rest)) := by
  obtain ⟨cell, cf, kf, fi, f, p1, p2, p3, p4, hi, hst, hsl⟩ := z_slot hX hσ hc hk ha
  have hlay := hX.1.2.2.2.2 _ ((zcl_in hc).1 _ (u_in_lay hk))
  unfold u_lay at hlay
  rw [if_pos hfin] at hlay
  obtain ⟨hS, hfc, kC, hkC, hkind⟩ := hX.2.2.2.1.2.1 ci r hc
  have hcf : m.cls = cf := by
    obtain ⟨_, _, c', _, _, _, -, -, hf', -, -, -, hown2, -⟩ := Cond.laysFinal_spec hlay
    have e1 : c' = cf := by have := hi.symm.trans hf'; simp at this; exact this.1.symm
    rw [hdecl] at hown2
    rw [← e1]; exact Option.some.inj (hX.1.2.2.2.1.symm.trans hown2)
  have h6 := u_fits hfc hkC hkind (Or.inr hlay) hi ((zcl_in hc).2.1 k hk) hn hf
  refine W.putFinK hX.1.1 hX.1.2.1 hX.1.2.2.2.1 (hX.1.2.2.2.2 _ q) hi hst hcf (hX.2.1.2.2.2.1 hini) (by rw [p2]; exact h6) p1 p3 (k2_hasslot p4) rfl rfl d fun H' e1 e2 e3 => ?_
  rw [hsl] at e1
  exact kk H' _ (z_S hX e2 e3 (hσ.2.2 a (by omega)).1) (hσ.stf ha hc hk hz (z_ap hX hc) p1 e1 e2 e3)
theorem z_putN (hX : zCT G C mc ms p l R s m args meth c H locs) (hσ : zREL G σ H) {a ci k ix : Nat} {r : vw_C} {v : Value} {host : String} (d : decode C.2.1 pc = .ok (.putfield ix, 3)) (hc : zcl[ci]? = some r) (hk : k < r.2.2) (hfin : (r.2.1 k).2.2.2 = false) (q : Cond.fieldLinkNest C.1 ix (r.2.1 k).1 (r.2.1 k).2.1 (r.2.1 k).2.2.1 host ∈ zNst) (ha : sk σ a = ci + 1) (hn : narrow (zty ci k) v = v) (hf : fits (zty ci k) v = true) (hz : zis (ztg (zty ci k)) v)
    (kk : ∀ (H' : Heap) (locs' : List Loc), zCT G C mc ms p l R s m args meth c H' locs' → zREL G (wv (ztg (zty ci k)) σ a k v) H' → W p l e R s m args below meth c H' locs' cells slots Q (F0 m (pc + 3) ls rest)) : W p l e R s m args below meth c H locs cells slots Q (F0 m pc ls (v :: .ref a :: rest)) := by
  obtain ⟨cell, cf, kf, fi, f, p1, p2, p3, p4, hi, hst, hsl⟩ := z_slot hX hσ hc hk ha
  have hlay := hX.1.2.2.2.2 _ ((zcl_in hc).1 _ (u_in_lay hk))
  unfold u_lay at hlay
  rw [if_neg (by rw [hfin]; decide)] at hlay
  obtain ⟨hS, hfc, kC, hkC, hkind⟩ := hX.2.2.2.1.2.1 ci r hc
  have h6 := u_store hfc hkC hkind hlay hi ((zcl_in hc).2.1 k hk) hn hf
  refine va_WputK hX.1.1 hX.1.2.1 (f := f) hX.1.2.2.2.1 (va_Nw.use rfl (hX.2.2.2.1.2.2.2.2.1 _ q)) hi hst (by rw [p2]; exact h6) p1 p3 (k2_hasslot p4) rfl rfl d fun H' e1 e2 e3 => ?_
  rw [hsl] at e1
  exact kk H' _ (z_S hX e2 e3 (hσ.2.2 a (by omega)).1) (hσ.stf ha hc hk hz (z_ap hX hc) p1 e1 e2 e3)
theorem z_arr (hX : zCT G C mc ms p l R s m args meth c H locs) (hσ : zREL G σ H) {a : Nat} (ha : 10 ≤ sk σ a) (ha2 : sk σ a < 24) : H[a]? = some (arrV (G.2.1 (sk σ a)) (sn σ a) (fun j => zv (ztg (zeT (sk σ a))) σ a j)) ∧ s.isArrayOf (arrV (G.2.1 (sk σ a)) (sn σ a) (fun j => zv (ztg (zeT (sk σ a))) σ a j)) (zeT (sk σ a)) ∧ G.2.2.1 ≤ a :=
  ⟨(hσ.2.2 a (by omega)).2.2.2 ha, (hX.2.2.2.1.2.2.1 _ ha ha2).1 _ _, (hσ.2.2 a (by omega)).1⟩
theorem z_in {i : Int32} {n : Nat} (h : vp_in i n) (cA : ClassId) (f : Nat → Value) : ¬ (i < 0 ∨ (arrV cA n f).slots.size ≤ i.toNatClampNeg) := by rw [arrV_size]; exact h
theorem z_rd {i : Int32} {n : Nat} (h : vp_in i n) (cA : ClassId) (f : Nat → Value) : (arrV cA n f).slots[i.toNatClampNeg]? = some (f i.toNatClampNeg) := arrV_read _ _ (Nat.not_le.mp fun q => h (Or.inr q))
/-- a field read -/
def gI (σ : ZS) (kd k : Nat) (x : Option Nat) (K : Int32 → Prop) : Prop := ∃ a, x = some a ∧ sk σ a = kd ∧ K (sI σ a k)
/-- a field written -/
def pI (σ : ZS) (kd k : Nat) (x : Option Nat) (v : Int32) (K : ZS → Prop) : Prop := ∃ a, x = some a ∧ sk σ a = kd ∧ K (wI σ a k v)
/-- a field read -/
def gL (σ : ZS) (kd k : Nat) (x : Option Nat) (K : Int64 → Prop) : Prop := ∃ a, x = some a ∧ sk σ a = kd ∧ K (sL σ a k)
/-- a field written -/
def pL (σ : ZS) (kd k : Nat) (x : Option Nat) (v : Int64) (K : ZS → Prop) : Prop := ∃ a, x = some a ∧ sk σ a = kd ∧ K (wL σ a k v)
/-- a field read -/
def gF (σ : ZS) (kd k : Nat) (x : Option Nat) (K : UInt32 → Prop) : Prop := ∃ a, x = some a ∧ sk σ a = kd ∧ K (sF σ a k)
/-- a field written -/
def pF (σ : ZS) (kd k : Nat) (x : Option Nat) (v : UInt32) (K : ZS → Prop) : Prop := ∃ a, x = some a ∧ sk σ a = kd ∧ K (wF σ a k v)
/-- a field read -/
def gD (σ : ZS) (kd k : Nat) (x : Option Nat) (K : UInt64 → Prop) : Prop := ∃ a, x = some a ∧ sk σ a = kd ∧ K (sD σ a k)
/-- a field written -/
def pD (σ : ZS) (kd k : Nat) (x : Option Nat) (v : UInt64) (K : ZS → Prop) : Prop := ∃ a, x = some a ∧ sk σ a = kd ∧ K (wD σ a k v)
/-- a field read -/
def gR (σ : ZS) (kd k : Nat) (x : Option Nat) (K : Option Nat → Prop) : Prop := ∃ a, x = some a ∧ sk σ a = kd ∧ K (sR σ a k)
/-- a field written -/
def pR (σ : ZS) (kd k : Nat) (x : Option Nat) (v : Option Nat) (K : ZS → Prop) : Prop := ∃ a, x = some a ∧ sk σ a = kd ∧ K (wR σ a k v)
/-- an element read, an element written; the array is there and the index in range -/
def aI (σ : ZS) (kd : Nat) (x : Option Nat) (i : Int32) (K : Int32 → Prop) : Prop := ∃ a, x = some a ∧ sk σ a = kd ∧ vp_in i (sn σ a) ∧ K (sI σ a i.toNatClampNeg)
def aL (σ : ZS) (x : Option Nat) (i : Int32) (K : Int64 → Prop) : Prop := ∃ a, x = some a ∧ sk σ a = 11 ∧ vp_in i (sn σ a) ∧ K (sL σ a i.toNatClampNeg)
def aF (σ : ZS) (x : Option Nat) (i : Int32) (K : UInt32 → Prop) : Prop := ∃ a, x = some a ∧ sk σ a = 12 ∧ vp_in i (sn σ a) ∧ K (sF σ a i.toNatClampNeg)
def aD (σ : ZS) (x : Option Nat) (i : Int32) (K : UInt64 → Prop) : Prop := ∃ a, x = some a ∧ sk σ a = 13 ∧ vp_in i (sn σ a) ∧ K (sD σ a i.toNatClampNeg)
def aR (σ : ZS) (x : Option Nat) (i : Int32) (K : Option Nat → Prop) : Prop := ∃ a, x = some a ∧ (18 ≤ sk σ a ∧ sk σ a < 24) ∧ vp_in i (sn σ a) ∧ K (sR σ a i.toNatClampNeg)
def qI (σ : ZS) (kd : Nat) (x : Option Nat) (i v : Int32) (K : ZS → Prop) : Prop := ∃ a, x = some a ∧ sk σ a = kd ∧ vp_in i (sn σ a) ∧ K (wI σ a i.toNatClampNeg v)
def qL (σ : ZS) (x : Option Nat) (i : Int32) (v : Int64) (K : ZS → Prop) : Prop := ∃ a, x = some a ∧ sk σ a = 11 ∧ vp_in i (sn σ a) ∧ K (wL σ a i.toNatClampNeg v)
def qF (σ : ZS) (x : Option Nat) (i : Int32) (v : UInt32) (K : ZS → Prop) : Prop := ∃ a, x = some a ∧ sk σ a = 12 ∧ vp_in i (sn σ a) ∧ K (wF σ a i.toNatClampNeg v)
def qD (σ : ZS) (x : Option Nat) (i : Int32) (v : UInt64) (K : ZS → Prop) : Prop := ∃ a, x = some a ∧ sk σ a = 13 ∧ vp_in i (sn σ a) ∧ K (wD σ a i.toNatClampNeg v)
def nlen (σ : ZS) (x : Option Nat) (K : Int32 → Prop) : Prop := ∃ a, x = some a ∧ (10 ≤ sk σ a ∧ sk σ a < 24) ∧ K (Int32.ofNat (sn σ a))
end ZH
section ZHR
variable {G : ZG} {C : AWC} {Q : Option Value → ZS → Prop} {X : String → Nat → ZS → Prop} {kc ks pc : Nat} {lo : List (Nat × Value)} {st : List Value} {σ : ZS}
theorem aw_getI {x : Option Nat} {ci k ix : Nat} {r : vw_C} {K : Int32 → Prop} (d : decode C.2.1 pc = .ok (.getfield ix, 3)) (hc : zcl[ci]? = some r) (hk : k < r.2.2) (q : Cond.fieldLink C.1 ix (r.2.1 k).1 (r.2.1 k).2.1 (r.2.1 k).2.2.1 ∈ lw_all) (ht : ztg (zty ci k) = 0) (h : gI σ (ci + 1) k x K) (kk : ∀ v, K v → AW G C Q X kc ks (pc + 3) lo (.int v :: st) σ) : AW G C Q X kc ks pc lo (va_rf x :: st) σ := by
  obtain ⟨a, rfl, ha, hK⟩ := h
  intro p l e R s m args below meth c H locs cells slots mc ms ls hX hσ hl hc9 hs
  refine z_get hX hσ d hc hk q ha ?_
  rw [ht]
  exact kk _ hK _ _ _ _ _ _ _ _ _ _ _ _ _ _ _ _ _ hX hσ hl (by omega) hs
theorem aw_putI {x : Option Nat} {v : Int32} {ci k ix : Nat} {r : vw_C} {K : ZS → Prop} (d : decode C.2.1 pc = .ok (.putfield ix, 3)) (hc : zcl[ci]? = some r) (hk : k < r.2.2) (hfin : (r.2.1 k).2.2.2 = false) (q : Cond.fieldLink C.1 ix (r.2.1 k).1 (r.2.1 k).2.1 (r.2.1 k).2.2.1 ∈ lw_all) (ht : ztg (zty ci k) = 0) (hn : narrow (zty ci k) (.int v) = .int v) (hf : fits (zty ci k) (.int v) = true) (h : pI σ (ci + 1) k x v K) (kk : ∀ σ, K σ → AW G C Q X kc ks (pc + 3) lo st σ) : AW G C Q X kc ks pc lo (.int v :: va_rf x :: st) σ := by
  obtain ⟨a, rfl, ha, hK⟩ := h
  intro p l e R s m args below meth c H locs cells slots mc ms ls hX hσ hl hc9 hs
  refine z_put hX hσ d hc hk hfin q ha hn hf (by rw [ht]; exact ⟨_, rfl⟩) (fun H1 locs1 hX hσ => ?_)
  rw [ht, (show wv 0 σ a k (.int v) = wI σ a k v from by rfl)] at hσ
  exact kk _ hK _ _ _ _ _ _ _ _ _ _ _ _ _ _ _ _ _ hX hσ hl (by omega) hs
theorem aw_putIF {x : Option Nat} {v : Int32} {ci k ix : Nat} {r : vw_C} {K : ZS → Prop} (d : decode C.2.1 pc = .ok (.putfield ix, 3)) (hc : zcl[ci]? = some r) (hk : k < r.2.2) (hfin : (r.2.1 k).2.2.2 = true) (q : Cond.fieldLink C.1 ix (r.2.1 k).1 (r.2.1 k).2.1 (r.2.1 k).2.2.1 ∈ lw_all) (hini : C.2.2.2.2.2.1 = true) (hdecl : (r.2.1 k).1 = C.1) (ht : ztg (zty ci k) = 0) (hn : narrow (zty ci k) (.int v) = .int v) (hf : fits (zty ci k) (.int v) = true) (h : pI σ (ci + 1) k x v K) (kk : ∀ σ, K σ → AW G C Q X kc ks (pc + 3) lo st σ) : AW G C Q X kc ks pc lo (.int v :: va_rf x :: st) σ := by
  obtain ⟨a, rfl, ha, hK⟩ := h
  intro p l e R s m args below meth c H locs cells slots mc ms ls hX hσ hl hc9 hs
  refine z_putF hX hσ d hc hk hfin q hini hdecl ha hn hf (by rw [ht]; exact ⟨_, rfl⟩) (fun H1 locs1 hX hσ => ?_)
  rw [ht, (show wv 0 σ a k (.int v) = wI σ a k v from by rfl)] at hσ
  exact kk _ hK _ _ _ _ _ _ _ _ _ _ _ _ _ _ _ _ _ hX hσ hl (by omega) hs
theorem aw_getL {x : Option Nat} {ci k ix : Nat} {r : vw_C} {K : Int64 → Prop} (d : decode C.2.1 pc = .ok (.getfield ix, 3)) (hc : zcl[ci]? = some r) (hk : k < r.2.2) (q : Cond.fieldLink C.1 ix (r.2.1 k).1 (r.2.1 k).2.1 (r.2.1 k).2.2.1 ∈ lw_all) (ht : ztg (zty ci k) = 1) (h : gL σ (ci + 1) k x K) (kk : ∀ v, K v → AW G C Q X kc ks (pc + 3) lo (.long v :: st) σ) : AW G C Q X kc ks pc lo (va_rf x :: st) σ := by
  obtain ⟨a, rfl, ha, hK⟩ := h
  intro p l e R s m args below meth c H locs cells slots mc ms ls hX hσ hl hc9 hs
  refine z_get hX hσ d hc hk q ha ?_
  rw [ht]
  exact kk _ hK _ _ _ _ _ _ _ _ _ _ _ _ _ _ _ _ _ hX hσ hl (by omega) hs
theorem aw_putL {x : Option Nat} {v : Int64} {ci k ix : Nat} {r : vw_C} {K : ZS → Prop} (d : decode C.2.1 pc = .ok (.putfield ix, 3)) (hc : zcl[ci]? = some r) (hk : k < r.2.2) (hfin : (r.2.1 k).2.2.2 = false) (q : Cond.fieldLink C.1 ix (r.2.1 k).1 (r.2.1 k).2.1 (r.2.1 k).2.2.1 ∈ lw_all) (ht : ztg (zty ci k) = 1) (hn : narrow (zty ci k) (.long v) = .long v) (hf : fits (zty ci k) (.long v) = true) (h : pL σ (ci + 1) k x v K) (kk : ∀ σ, K σ → AW G C Q X kc ks (pc + 3) lo st σ) : AW G C Q X kc ks pc lo (.long v :: va_rf x :: st) σ := by
  obtain ⟨a, rfl, ha, hK⟩ := h
  intro p l e R s m args below meth c H locs cells slots mc ms ls hX hσ hl hc9 hs
  refine z_put hX hσ d hc hk hfin q ha hn hf (by rw [ht]; exact ⟨_, rfl⟩) (fun H1 locs1 hX hσ => ?_)
  rw [ht, (show wv 1 σ a k (.long v) = wL σ a k v from by rfl)] at hσ
  exact kk _ hK _ _ _ _ _ _ _ _ _ _ _ _ _ _ _ _ _ hX hσ hl (by omega) hs
theorem aw_putLF {x : Option Nat} {v : Int64} {ci k ix : Nat} {r : vw_C} {K : ZS → Prop} (d : decode C.2.1 pc = .ok (.putfield ix, 3)) (hc : zcl[ci]? = some r) (hk : k < r.2.2) (hfin : (r.2.1 k).2.2.2 = true) (q : Cond.fieldLink C.1 ix (r.2.1 k).1 (r.2.1 k).2.1 (r.2.1 k).2.2.1 ∈ lw_all) (hini : C.2.2.2.2.2.1 = true) (hdecl : (r.2.1 k).1 = C.1) (ht : ztg (zty ci k) = 1) (hn : narrow (zty ci k) (.long v) = .long v) (hf : fits (zty ci k) (.long v) = true) (h : pL σ (ci + 1) k x v K) (kk : ∀ σ, K σ → AW G C Q X kc ks (pc + 3) lo st σ) : AW G C Q X kc ks pc lo (.long v :: va_rf x :: st) σ := by
  obtain ⟨a, rfl, ha, hK⟩ := h
  intro p l e R s m args below meth c H locs cells slots mc ms ls hX hσ hl hc9 hs
  refine z_putF hX hσ d hc hk hfin q hini hdecl ha hn hf (by rw [ht]; exact ⟨_, rfl⟩) (fun H1 locs1 hX hσ => ?_)
  rw [ht, (show wv 1 σ a k (.long v) = wL σ a k v from by rfl)] at hσ
  exact kk _ hK _ _ _ _ _ _ _ _ _ _ _ _ _ _ _ _ _ hX hσ hl (by omega) hs
theorem aw_getD {x : Option Nat} {ci k ix : Nat} {r : vw_C} {K : UInt64 → Prop} (d : decode C.2.1 pc = .ok (.getfield ix, 3)) (hc : zcl[ci]? = some r) (hk : k < r.2.2) (q : Cond.fieldLink C.1 ix (r.2.1 k).1 (r.2.1 k).2.1 (r.2.1 k).2.2.1 ∈ lw_all) (ht : ztg (zty ci k) = 3) (h : gD σ (ci + 1) k x K) (kk : ∀ v, K v → AW G C Q X kc ks (pc + 3) lo (.double v :: st) σ) : AW G C Q X kc ks pc lo (va_rf x :: st) σ := by
  obtain ⟨a, rfl, ha, hK⟩ := h
  intro p l e R s m args below meth c H locs cells slots mc ms ls hX hσ hl hc9 hs
  refine z_get hX hσ d hc hk q ha ?_
  rw [ht]
  exact kk _ hK _ _ _ _ _ _ _ _ _ _ _ _ _ _ _ _ _ hX hσ hl (by omega) hs
theorem aw_putD {x : Option Nat} {v : UInt64} {ci k ix : Nat} {r : vw_C} {K : ZS → Prop} (d : decode C.2.1 pc = .ok (.putfield ix, 3)) (hc : zcl[ci]? = some r) (hk : k < r.2.2) (hfin : (r.2.1 k).2.2.2 = false) (q : Cond.fieldLink C.1 ix (r.2.1 k).1 (r.2.1 k).2.1 (r.2.1 k).2.2.1 ∈ lw_all) (ht : ztg (zty ci k) = 3) (hn : narrow (zty ci k) (.double v) = .double v) (hf : fits (zty ci k) (.double v) = true) (h : pD σ (ci + 1) k x v K) (kk : ∀ σ, K σ → AW G C Q X kc ks (pc + 3) lo st σ) : AW G C Q X kc ks pc lo (.double v :: va_rf x :: st) σ := by
  obtain ⟨a, rfl, ha, hK⟩ := h
  intro p l e R s m args below meth c H locs cells slots mc ms ls hX hσ hl hc9 hs
  refine z_put hX hσ d hc hk hfin q ha hn hf (by rw [ht]; exact ⟨_, rfl⟩) (fun H1 locs1 hX hσ => ?_)
  rw [ht, (show wv 3 σ a k (.double v) = wD σ a k v from by rfl)] at hσ
  exact kk _ hK _ _ _ _ _ _ _ _ _ _ _ _ _ _ _ _ _ hX hσ hl (by omega) hs
theorem aw_putDF {x : Option Nat} {v : UInt64} {ci k ix : Nat} {r : vw_C} {K : ZS → Prop} (d : decode C.2.1 pc = .ok (.putfield ix, 3)) (hc : zcl[ci]? = some r) (hk : k < r.2.2) (hfin : (r.2.1 k).2.2.2 = true) (q : Cond.fieldLink C.1 ix (r.2.1 k).1 (r.2.1 k).2.1 (r.2.1 k).2.2.1 ∈ lw_all) (hini : C.2.2.2.2.2.1 = true) (hdecl : (r.2.1 k).1 = C.1) (ht : ztg (zty ci k) = 3) (hn : narrow (zty ci k) (.double v) = .double v) (hf : fits (zty ci k) (.double v) = true) (h : pD σ (ci + 1) k x v K) (kk : ∀ σ, K σ → AW G C Q X kc ks (pc + 3) lo st σ) : AW G C Q X kc ks pc lo (.double v :: va_rf x :: st) σ := by
  obtain ⟨a, rfl, ha, hK⟩ := h
  intro p l e R s m args below meth c H locs cells slots mc ms ls hX hσ hl hc9 hs
  refine z_putF hX hσ d hc hk hfin q hini hdecl ha hn hf (by rw [ht]; exact ⟨_, rfl⟩) (fun H1 locs1 hX hσ => ?_)
  rw [ht, (show wv 3 σ a k (.double v) = wD σ a k v from by rfl)] at hσ
  exact kk _ hK _ _ _ _ _ _ _ _ _ _ _ _ _ _ _ _ _ hX hσ hl (by omega) hs
theorem aw_getR {x : Option Nat} {ci k ix : Nat} {r : vw_C} {K : Option Nat → Prop} (d : decode C.2.1 pc = .ok (.getfield ix, 3)) (hc : zcl[ci]? = some r) (hk : k < r.2.2) (q : Cond.fieldLink C.1 ix (r.2.1 k).1 (r.2.1 k).2.1 (r.2.1 k).2.2.1 ∈ lw_all) (ht : ztg (zty ci k) = 4) (h : gR σ (ci + 1) k x K) (kk : ∀ v, K v → AW G C Q X kc ks (pc + 3) lo (va_rf v :: st) σ) : AW G C Q X kc ks pc lo (va_rf x :: st) σ := by
  obtain ⟨a, rfl, ha, hK⟩ := h
  intro p l e R s m args below meth c H locs cells slots mc ms ls hX hσ hl hc9 hs
  refine z_get hX hσ d hc hk q ha ?_
  rw [ht]
  exact kk _ hK _ _ _ _ _ _ _ _ _ _ _ _ _ _ _ _ _ hX hσ hl (by omega) hs
theorem aw_putR {x : Option Nat} {v : Option Nat} {ci k ix : Nat} {r : vw_C} {K : ZS → Prop} (d : decode C.2.1 pc = .ok (.putfield ix, 3)) (hc : zcl[ci]? = some r) (hk : k < r.2.2) (hfin : (r.2.1 k).2.2.2 = false) (q : Cond.fieldLink C.1 ix (r.2.1 k).1 (r.2.1 k).2.1 (r.2.1 k).2.2.1 ∈ lw_all) (ht : ztg (zty ci k) = 4) (hn : narrow (zty ci k) (va_rf v) = va_rf v) (hf : fits (zty ci k) (va_rf v) = true) (h : pR σ (ci + 1) k x v K) (kk : ∀ σ, K σ → AW G C Q X kc ks (pc + 3) lo st σ) : AW G C Q X kc ks pc lo (va_rf v :: va_rf x :: st) σ := by
  obtain ⟨a, rfl, ha, hK⟩ := h
  intro p l e R s m args below meth c H locs cells slots mc ms ls hX hσ hl hc9 hs
  refine z_put hX hσ d hc hk hfin q ha hn hf (by rw [ht]; exact ⟨_, rfl⟩) (fun H1 locs1 hX hσ => ?_)
  rw [ht, (show wv 4 σ a k (va_rf v) = wR σ a k v from by cases v <;> rfl)] at hσ
  exact kk _ hK _ _ _ _ _ _ _ _ _ _ _ _ _ _ _ _ _ hX hσ hl (by omega) hs
theorem aw_putRF {x : Option Nat} {v : Option Nat} {ci k ix : Nat} {r : vw_C} {K : ZS → Prop} (d : decode C.2.1 pc = .ok (.putfield ix, 3)) (hc : zcl[ci]? = some r) (hk : k < r.2.2) (hfin : (r.2.1 k).2.2.2 = true) (q : Cond.fieldLink C.1 ix (r.2.1 k).1 (r.2.1 k).2.1 (r.2.1 k).2.2.1 ∈ lw_all) (hini : C.2.2.2.2.2.1 = true) (hdecl : (r.2.1 k).1 = C.1) (ht : ztg (zty ci k) = 4) (hn : narrow (zty ci k) (va_rf v) = va_rf v) (hf : fits (zty ci k) (va_rf v) = true) (h : pR σ (ci + 1) k x v K) (kk : ∀ σ, K σ → AW G C Q X kc ks (pc + 3) lo st σ) : AW G C Q X kc ks pc lo (va_rf v :: va_rf x :: st) σ := by
  obtain ⟨a, rfl, ha, hK⟩ := h
  intro p l e R s m args below meth c H locs cells slots mc ms ls hX hσ hl hc9 hs
  refine z_putF hX hσ d hc hk hfin q hini hdecl ha hn hf (by rw [ht]; exact ⟨_, rfl⟩) (fun H1 locs1 hX hσ => ?_)
  rw [ht, (show wv 4 σ a k (va_rf v) = wR σ a k v from by cases v <;> rfl)] at hσ
  exact kk _ hK _ _ _ _ _ _ _ _ _ _ _ _ _ _ _ _ _ hX hσ hl (by omega) hs
theorem aw_getIN {x : Option Nat} {ci k ix : Nat} {r : vw_C} {host : String} {K : Int32 → Prop} (d : decode C.2.1 pc = .ok (.getfield ix, 3)) (hc : zcl[ci]? = some r) (hk : k < r.2.2) (q : Cond.fieldLinkNest C.1 ix (r.2.1 k).1 (r.2.1 k).2.1 (r.2.1 k).2.2.1 host ∈ zNst) (ht : ztg (zty ci k) = 0) (h : gI σ (ci + 1) k x K) (kk : ∀ v, K v → AW G C Q X kc ks (pc + 3) lo (.int v :: st) σ) : AW G C Q X kc ks pc lo (va_rf x :: st) σ := by
  obtain ⟨a, rfl, ha, hK⟩ := h
  intro p l e R s m args below meth c H locs cells slots mc ms ls hX hσ hl hc9 hs
  refine z_getN hX hσ d hc hk q ha ?_
  rw [ht]
  exact kk _ hK _ _ _ _ _ _ _ _ _ _ _ _ _ _ _ _ _ hX hσ hl (by omega) hs
theorem aw_putIN {x : Option Nat} {v : Int32} {ci k ix : Nat} {r : vw_C} {host : String} {K : ZS → Prop} (d : decode C.2.1 pc = .ok (.putfield ix, 3)) (hc : zcl[ci]? = some r) (hk : k < r.2.2) (hfin : (r.2.1 k).2.2.2 = false) (q : Cond.fieldLinkNest C.1 ix (r.2.1 k).1 (r.2.1 k).2.1 (r.2.1 k).2.2.1 host ∈ zNst) (ht : ztg (zty ci k) = 0) (hn : narrow (zty ci k) (.int v) = .int v) (hf : fits (zty ci k) (.int v) = true) (h : pI σ (ci + 1) k x v K) (kk : ∀ σ, K σ → AW G C Q X kc ks (pc + 3) lo st σ) : AW G C Q X kc ks pc lo (.int v :: va_rf x :: st) σ := by
  obtain ⟨a, rfl, ha, hK⟩ := h
  intro p l e R s m args below meth c H locs cells slots mc ms ls hX hσ hl hc9 hs
  refine z_putN hX hσ d hc hk hfin q ha hn hf (by rw [ht]; exact ⟨_, rfl⟩) (fun H1 locs1 hX hσ => ?_)
  rw [ht, (show wv 0 σ a k (.int v) = wI σ a k v from by rfl)] at hσ
  exact kk _ hK _ _ _ _ _ _ _ _ _ _ _ _ _ _ _ _ _ hX hσ hl (by omega) hs
theorem aw_getLN {x : Option Nat} {ci k ix : Nat} {r : vw_C} {host : String} {K : Int64 → Prop} (d : decode C.2.1 pc = .ok (.getfield ix, 3)) (hc : zcl[ci]? = some r) (hk : k < r.2.2) (q : Cond.fieldLinkNest C.1 ix (r.2.1 k).1 (r.2.1 k).2.1 (r.2.1 k).2.2.1 host ∈ zNst) (ht : ztg (zty ci k) = 1) (h : gL σ (ci + 1) k x K) (kk : ∀ v, K v → AW G C Q X kc ks (pc + 3) lo (.long v :: st) σ) : AW G C Q X kc ks pc lo (va_rf x :: st) σ := by
  obtain ⟨a, rfl, ha, hK⟩ := h
  intro p l e R s m args below meth c H locs cells slots mc ms ls hX hσ hl hc9 hs
  refine z_getN hX hσ d hc hk q ha ?_
  rw [ht]
  exact kk _ hK _ _ _ _ _ _ _ _ _ _ _ _ _ _ _ _ _ hX hσ hl (by omega) hs
theorem aw_putLN {x : Option Nat} {v : Int64} {ci k ix : Nat} {r : vw_C} {host : String} {K : ZS → Prop} (d : decode C.2.1 pc = .ok (.putfield ix, 3)) (hc : zcl[ci]? = some r) (hk : k < r.2.2) (hfin : (r.2.1 k).2.2.2 = false) (q : Cond.fieldLinkNest C.1 ix (r.2.1 k).1 (r.2.1 k).2.1 (r.2.1 k).2.2.1 host ∈ zNst) (ht : ztg (zty ci k) = 1) (hn : narrow (zty ci k) (.long v) = .long v) (hf : fits (zty ci k) (.long v) = true) (h : pL σ (ci + 1) k x v K) (kk : ∀ σ, K σ → AW G C Q X kc ks (pc + 3) lo st σ) : AW G C Q X kc ks pc lo (.long v :: va_rf x :: st) σ := by
  obtain ⟨a, rfl, ha, hK⟩ := h
  intro p l e R s m args below meth c H locs cells slots mc ms ls hX hσ hl hc9 hs
  refine z_putN hX hσ d hc hk hfin q ha hn hf (by rw [ht]; exact ⟨_, rfl⟩) (fun H1 locs1 hX hσ => ?_)
  rw [ht, (show wv 1 σ a k (.long v) = wL σ a k v from by rfl)] at hσ
  exact kk _ hK _ _ _ _ _ _ _ _ _ _ _ _ _ _ _ _ _ hX hσ hl (by omega) hs
theorem aw_getDN {x : Option Nat} {ci k ix : Nat} {r : vw_C} {host : String} {K : UInt64 → Prop} (d : decode C.2.1 pc = .ok (.getfield ix, 3)) (hc : zcl[ci]? = some r) (hk : k < r.2.2) (q : Cond.fieldLinkNest C.1 ix (r.2.1 k).1 (r.2.1 k).2.1 (r.2.1 k).2.2.1 host ∈ zNst) (ht : ztg (zty ci k) = 3) (h : gD σ (ci + 1) k x K) (kk : ∀ v, K v → AW G C Q X kc ks (pc + 3) lo (.double v :: st) σ) : AW G C Q X kc ks pc lo (va_rf x :: st) σ := by
  obtain ⟨a, rfl, ha, hK⟩ := h
  intro p l e R s m args below meth c H locs cells slots mc ms ls hX hσ hl hc9 hs
  refine z_getN hX hσ d hc hk q ha ?_
  rw [ht]
  exact kk _ hK _ _ _ _ _ _ _ _ _ _ _ _ _ _ _ _ _ hX hσ hl (by omega) hs
theorem aw_putDN {x : Option Nat} {v : UInt64} {ci k ix : Nat} {r : vw_C} {host : String} {K : ZS → Prop} (d : decode C.2.1 pc = .ok (.putfield ix, 3)) (hc : zcl[ci]? = some r) (hk : k < r.2.2) (hfin : (r.2.1 k).2.2.2 = false) (q : Cond.fieldLinkNest C.1 ix (r.2.1 k).1 (r.2.1 k).2.1 (r.2.1 k).2.2.1 host ∈ zNst) (ht : ztg (zty ci k) = 3) (hn : narrow (zty ci k) (.double v) = .double v) (hf : fits (zty ci k) (.double v) = true) (h : pD σ (ci + 1) k x v K) (kk : ∀ σ, K σ → AW G C Q X kc ks (pc + 3) lo st σ) : AW G C Q X kc ks pc lo (.double v :: va_rf x :: st) σ := by
  obtain ⟨a, rfl, ha, hK⟩ := h
  intro p l e R s m args below meth c H locs cells slots mc ms ls hX hσ hl hc9 hs
  refine z_putN hX hσ d hc hk hfin q ha hn hf (by rw [ht]; exact ⟨_, rfl⟩) (fun H1 locs1 hX hσ => ?_)
  rw [ht, (show wv 3 σ a k (.double v) = wD σ a k v from by rfl)] at hσ
  exact kk _ hK _ _ _ _ _ _ _ _ _ _ _ _ _ _ _ _ _ hX hσ hl (by omega) hs
theorem aw_getRN {x : Option Nat} {ci k ix : Nat} {r : vw_C} {host : String} {K : Option Nat → Prop} (d : decode C.2.1 pc = .ok (.getfield ix, 3)) (hc : zcl[ci]? = some r) (hk : k < r.2.2) (q : Cond.fieldLinkNest C.1 ix (r.2.1 k).1 (r.2.1 k).2.1 (r.2.1 k).2.2.1 host ∈ zNst) (ht : ztg (zty ci k) = 4) (h : gR σ (ci + 1) k x K) (kk : ∀ v, K v → AW G C Q X kc ks (pc + 3) lo (va_rf v :: st) σ) : AW G C Q X kc ks pc lo (va_rf x :: st) σ := by
  obtain ⟨a, rfl, ha, hK⟩ := h
  intro p l e R s m args below meth c H locs cells slots mc ms ls hX hσ hl hc9 hs
  refine z_getN hX hσ d hc hk q ha ?_
  rw [ht]
  exact kk _ hK _ _ _ _ _ _ _ _ _ _ _ _ _ _ _ _ _ hX hσ hl (by omega) hs
theorem aw_putRN {x : Option Nat} {v : Option Nat} {ci k ix : Nat} {r : vw_C} {host : String} {K : ZS → Prop} (d : decode C.2.1 pc = .ok (.putfield ix, 3)) (hc : zcl[ci]? = some r) (hk : k < r.2.2) (hfin : (r.2.1 k).2.2.2 = false) (q : Cond.fieldLinkNest C.1 ix (r.2.1 k).1 (r.2.1 k).2.1 (r.2.1 k).2.2.1 host ∈ zNst) (ht : ztg (zty ci k) = 4) (hn : narrow (zty ci k) (va_rf v) = va_rf v) (hf : fits (zty ci k) (va_rf v) = true) (h : pR σ (ci + 1) k x v K) (kk : ∀ σ, K σ → AW G C Q X kc ks (pc + 3) lo st σ) : AW G C Q X kc ks pc lo (va_rf v :: va_rf x :: st) σ := by
  obtain ⟨a, rfl, ha, hK⟩ := h
  intro p l e R s m args below meth c H locs cells slots mc ms ls hX hσ hl hc9 hs
  refine z_putN hX hσ d hc hk hfin q ha hn hf (by rw [ht]; exact ⟨_, rfl⟩) (fun H1 locs1 hX hσ => ?_)
  rw [ht, (show wv 4 σ a k (va_rf v) = wR σ a k v from by cases v <;> rfl)] at hσ
  exact kk _ hK _ _ _ _ _ _ _ _ _ _ _ _ _ _ _ _ _ hX hσ hl (by omega) hs
theorem aw_iald {x : Option Nat} {i : Int32} {K : Int32 → Prop} (d : decode C.2.1 pc = .ok (.iaload, 1)) (h : aI σ 10 x i K) (kk : ∀ v, K v → AW G C Q X kc ks (pc + 1) lo (.int v :: st) σ) : AW G C Q X kc ks pc lo (.int i :: va_rf x :: st) σ := by
  obtain ⟨a, rfl, ha, hi, hK⟩ := h
  intro p l e R s m args below meth c H locs cells slots mc ms ls hX hσ hl hc hs
  obtain ⟨h1, h2, h3⟩ := z_arr hX hσ (a := a) (by omega) (by omega)
  rw [ha] at h1 h2
  exact W.iald hX.1.1 hX.1.2.1 h1 h2 (fun z => by cases z) (z_in hi _ _) (z_rd hi _ _) rfl rfl d (kk _ hK _ _ _ _ _ _ _ _ _ _ _ _ _ _ _ _ _ hX hσ hl hc hs)
theorem aw_bald {x : Option Nat} {i : Int32} {K : Int32 → Prop} (d : decode C.2.1 pc = .ok (.baload, 1)) (h : aI σ 14 x i K) (kk : ∀ v, K v → AW G C Q X kc ks (pc + 1) lo (.int v :: st) σ) : AW G C Q X kc ks pc lo (.int i :: va_rf x :: st) σ := by
  obtain ⟨a, rfl, ha, hi, hK⟩ := h
  intro p l e R s m args below meth c H locs cells slots mc ms ls hX hσ hl hc hs
  obtain ⟨h1, h2, h3⟩ := z_arr hX hσ (a := a) (by omega) (by omega)
  rw [ha] at h1 h2
  exact W.bald hX.1.1 hX.1.2.1 h1 h2 (fun z => by cases z) (z_in hi _ _) (z_rd hi _ _) rfl rfl d (kk _ hK _ _ _ _ _ _ _ _ _ _ _ _ _ _ _ _ _ hX hσ hl hc hs)
theorem aw_zald {x : Option Nat} {i : Int32} {K : Int32 → Prop} (d : decode C.2.1 pc = .ok (.baload, 1)) (h : aI σ 15 x i K) (kk : ∀ v, K v → AW G C Q X kc ks (pc + 1) lo (.int v :: st) σ) : AW G C Q X kc ks pc lo (.int i :: va_rf x :: st) σ := by
  obtain ⟨a, rfl, ha, hi, hK⟩ := h
  intro p l e R s m args below meth c H locs cells slots mc ms ls hX hσ hl hc hs
  obtain ⟨h1, h2, h3⟩ := z_arr hX hσ (a := a) (by omega) (by omega)
  rw [ha] at h1 h2
  exact W.zald hX.1.1 hX.1.2.1 h1 h2 (fun z => by cases z) (z_in hi _ _) (z_rd hi _ _) rfl rfl d (kk _ hK _ _ _ _ _ _ _ _ _ _ _ _ _ _ _ _ _ hX hσ hl hc hs)
theorem aw_cald {x : Option Nat} {i : Int32} {K : Int32 → Prop} (d : decode C.2.1 pc = .ok (.caload, 1)) (h : aI σ 16 x i K) (kk : ∀ v, K v → AW G C Q X kc ks (pc + 1) lo (.int v :: st) σ) : AW G C Q X kc ks pc lo (.int i :: va_rf x :: st) σ := by
  obtain ⟨a, rfl, ha, hi, hK⟩ := h
  intro p l e R s m args below meth c H locs cells slots mc ms ls hX hσ hl hc hs
  obtain ⟨h1, h2, h3⟩ := z_arr hX hσ (a := a) (by omega) (by omega)
  rw [ha] at h1 h2
  exact W.cald hX.1.1 hX.1.2.1 h1 h2 (fun z => by cases z) (z_in hi _ _) (z_rd hi _ _) rfl rfl d (kk _ hK _ _ _ _ _ _ _ _ _ _ _ _ _ _ _ _ _ hX hσ hl hc hs)
theorem aw_sald {x : Option Nat} {i : Int32} {K : Int32 → Prop} (d : decode C.2.1 pc = .ok (.saload, 1)) (h : aI σ 17 x i K) (kk : ∀ v, K v → AW G C Q X kc ks (pc + 1) lo (.int v :: st) σ) : AW G C Q X kc ks pc lo (.int i :: va_rf x :: st) σ := by
  obtain ⟨a, rfl, ha, hi, hK⟩ := h
  intro p l e R s m args below meth c H locs cells slots mc ms ls hX hσ hl hc hs
  obtain ⟨h1, h2, h3⟩ := z_arr hX hσ (a := a) (by omega) (by omega)
  rw [ha] at h1 h2
  exact W.sald hX.1.1 hX.1.2.1 h1 h2 (fun z => by cases z) (z_in hi _ _) (z_rd hi _ _) rfl rfl d (kk _ hK _ _ _ _ _ _ _ _ _ _ _ _ _ _ _ _ _ hX hσ hl hc hs)
theorem aw_lald {x : Option Nat} {i : Int32} {K : Int64 → Prop} (d : decode C.2.1 pc = .ok (.laload, 1)) (h : aL σ x i K) (kk : ∀ v, K v → AW G C Q X kc ks (pc + 1) lo (.long v :: st) σ) : AW G C Q X kc ks pc lo (.int i :: va_rf x :: st) σ := by
  obtain ⟨a, rfl, ha, hi, hK⟩ := h
  intro p l e R s m args below meth c H locs cells slots mc ms ls hX hσ hl hc hs
  obtain ⟨h1, h2, h3⟩ := z_arr hX hσ (a := a) (by omega) (by omega)
  rw [ha] at h1 h2
  exact W.lald hX.1.1 hX.1.2.1 h1 h2 (fun z => by cases z) (z_in hi _ _) (z_rd hi _ _) rfl rfl d (kk _ hK _ _ _ _ _ _ _ _ _ _ _ _ _ _ _ _ _ hX hσ hl hc hs)
theorem aw_fald {x : Option Nat} {i : Int32} {K : UInt32 → Prop} (d : decode C.2.1 pc = .ok (.faload, 1)) (h : aF σ x i K) (kk : ∀ v, K v → AW G C Q X kc ks (pc + 1) lo (.float v :: st) σ) : AW G C Q X kc ks pc lo (.int i :: va_rf x :: st) σ := by
  obtain ⟨a, rfl, ha, hi, hK⟩ := h
  intro p l e R s m args below meth c H locs cells slots mc ms ls hX hσ hl hc hs
  obtain ⟨h1, h2, h3⟩ := z_arr hX hσ (a := a) (by omega) (by omega)
  rw [ha] at h1 h2
  exact W.fald hX.1.1 hX.1.2.1 h1 h2 (fun z => by cases z) (z_in hi _ _) (z_rd hi _ _) rfl rfl d (kk _ hK _ _ _ _ _ _ _ _ _ _ _ _ _ _ _ _ _ hX hσ hl hc hs)
theorem aw_dald {x : Option Nat} {i : Int32} {K : UInt64 → Prop} (d : decode C.2.1 pc = .ok (.daload, 1)) (h : aD σ x i K) (kk : ∀ v, K v → AW G C Q X kc ks (pc + 1) lo (.double v :: st) σ) : AW G C Q X kc ks pc lo (.int i :: va_rf x :: st) σ := by
  obtain ⟨a, rfl, ha, hi, hK⟩ := h
  intro p l e R s m args below meth c H locs cells slots mc ms ls hX hσ hl hc hs
  obtain ⟨h1, h2, h3⟩ := z_arr hX hσ (a := a) (by omega) (by omega)
  rw [ha] at h1 h2
  exact W.dald hX.1.1 hX.1.2.1 h1 h2 (fun z => by cases z) (z_in hi _ _) (z_rd hi _ _) rfl rfl d (kk _ hK _ _ _ _ _ _ _ _ _ _ _ _ _ _ _ _ _ hX hσ hl hc hs)
theorem aw_aald {x : Option Nat} {i : Int32} {K : Option Nat → Prop} (d : decode C.2.1 pc = .ok (.aaload, 1)) (h : aR σ x i K) (kk : ∀ v, K v → AW G C Q X kc ks (pc + 1) lo (va_rf v :: st) σ) : AW G C Q X kc ks pc lo (.int i :: va_rf x :: st) σ := by
  obtain ⟨a, rfl, ⟨ha, ha2⟩, hi, hK⟩ := h
  intro p l e R s m args below meth c H locs cells slots mc ms ls hX hσ hl hc hs
  obtain ⟨h1, h2, h3⟩ := z_arr hX hσ (a := a) (by omega) ha2
  have ht : (zeT (sk σ a)).isReference = true ∧ ztg (zeT (sk σ a)) = 4 := by
    have h9 : sk σ a = 18 ∨ sk σ a = 19 ∨ sk σ a = 20 ∨ sk σ a = 21 ∨ sk σ a = 22 ∨ sk σ a = 23 := by omega
    rcases h9 with e | e | e | e | e | e <;> rw [e] <;> exact ⟨rfl, rfl⟩
  refine W.aald hX.1.1 hX.1.2.1 h1 h2 ht.1 (fun z => by cases z) (z_in hi _ _) (z_rd hi _ _) rfl rfl d ?_
  rw [ht.2]
  exact kk _ hK _ _ _ _ _ _ _ _ _ _ _ _ _ _ _ _ _ hX hσ hl hc hs
theorem aw_iast {x : Option Nat} {i : Int32} {v : Int32} {K : ZS → Prop} (d : decode C.2.1 pc = .ok (.iastore, 1)) (h : qI σ 10 x i v K) (kk : ∀ σ, K σ → AW G C Q X kc ks (pc + 1) lo st σ) : AW G C Q X kc ks pc lo (.int v :: .int i :: va_rf x :: st) σ := by
  obtain ⟨a, rfl, ha, hi, hK⟩ := h
  intro p l e R s m args below meth c H locs cells slots mc ms ls hX hσ hl hc hs
  obtain ⟨h1, h2, h3⟩ := z_arr hX hσ (a := a) (by omega) (by omega)
  rw [ha] at h1 h2
  refine W.iast hX.1.1 hX.1.2.1 h1 h2 (fun z => by cases z) (z_in hi _ _) rfl rfl d (fun H1 e1 e2 e3 => ?_)
  have hσ2 := hσ.sta (a := a) (x := .int v) (by omega) (by rw [ha]; exact ⟨_, rfl⟩) h1 e1 e2 e3
  rw [ha] at hσ2
  exact kk _ hK _ _ _ _ _ _ _ _ _ _ _ _ _ _ _ _ _ (z_S hX e2 e3 h3) hσ2 hl hc hs
theorem aw_bast {x : Option Nat} {i : Int32} {v : Int32} {w : Int32} (hw : narrow .byte (.int v) = .int w) {K : ZS → Prop} (d : decode C.2.1 pc = .ok (.bastore, 1)) (h : qI σ 14 x i w K) (kk : ∀ σ, K σ → AW G C Q X kc ks (pc + 1) lo st σ) : AW G C Q X kc ks pc lo (.int v :: .int i :: va_rf x :: st) σ := by
  obtain ⟨a, rfl, ha, hi, hK⟩ := h
  intro p l e R s m args below meth c H locs cells slots mc ms ls hX hσ hl hc hs
  obtain ⟨h1, h2, h3⟩ := z_arr hX hσ (a := a) (by omega) (by omega)
  rw [ha] at h1 h2
  refine W.bast hX.1.1 hX.1.2.1 h1 h2 (fun z => by cases z) (z_in hi _ _) rfl rfl d (fun H1 e1 e2 e3 => ?_)
  rw [hw] at e1
  have hσ2 := hσ.sta (a := a) (x := .int w) (by omega) (by rw [ha]; exact ⟨_, rfl⟩) h1 e1 e2 e3
  rw [ha] at hσ2
  exact kk _ hK _ _ _ _ _ _ _ _ _ _ _ _ _ _ _ _ _ (z_S hX e2 e3 h3) hσ2 hl hc hs
theorem aw_zast {x : Option Nat} {i : Int32} {v : Int32} {w : Int32} (hw : narrow .boolean (.int v) = .int w) {K : ZS → Prop} (d : decode C.2.1 pc = .ok (.bastore, 1)) (h : qI σ 15 x i w K) (kk : ∀ σ, K σ → AW G C Q X kc ks (pc + 1) lo st σ) : AW G C Q X kc ks pc lo (.int v :: .int i :: va_rf x :: st) σ := by
  obtain ⟨a, rfl, ha, hi, hK⟩ := h
  intro p l e R s m args below meth c H locs cells slots mc ms ls hX hσ hl hc hs
  obtain ⟨h1, h2, h3⟩ := z_arr hX hσ (a := a) (by omega) (by omega)
  rw [ha] at h1 h2
  refine W.zast hX.1.1 hX.1.2.1 h1 h2 (fun z => by cases z) (z_in hi _ _) rfl rfl d (fun H1 e1 e2 e3 => ?_)
  rw [hw] at e1
  have hσ2 := hσ.sta (a := a) (x := .int w) (by omega) (by rw [ha]; exact ⟨_, rfl⟩) h1 e1 e2 e3
  rw [ha] at hσ2
  exact kk _ hK _ _ _ _ _ _ _ _ _ _ _ _ _ _ _ _ _ (z_S hX e2 e3 h3) hσ2 hl hc hs
theorem aw_cast {x : Option Nat} {i : Int32} {v : Int32} {w : Int32} (hw : narrow .char (.int v) = .int w) {K : ZS → Prop} (d : decode C.2.1 pc = .ok (.castore, 1)) (h : qI σ 16 x i w K) (kk : ∀ σ, K σ → AW G C Q X kc ks (pc + 1) lo st σ) : AW G C Q X kc ks pc lo (.int v :: .int i :: va_rf x :: st) σ := by
  obtain ⟨a, rfl, ha, hi, hK⟩ := h
  intro p l e R s m args below meth c H locs cells slots mc ms ls hX hσ hl hc hs
  obtain ⟨h1, h2, h3⟩ := z_arr hX hσ (a := a) (by omega) (by omega)
  rw [ha] at h1 h2
  refine W.cast hX.1.1 hX.1.2.1 h1 h2 (fun z => by cases z) (z_in hi _ _) rfl rfl d (fun H1 e1 e2 e3 => ?_)
  rw [hw] at e1
  have hσ2 := hσ.sta (a := a) (x := .int w) (by omega) (by rw [ha]; exact ⟨_, rfl⟩) h1 e1 e2 e3
  rw [ha] at hσ2
  exact kk _ hK _ _ _ _ _ _ _ _ _ _ _ _ _ _ _ _ _ (z_S hX e2 e3 h3) hσ2 hl hc hs
theorem aw_sast {x : Option Nat} {i : Int32} {v : Int32} {w : Int32} (hw : narrow .short (.int v) = .int w) {K : ZS → Prop} (d : decode C.2.1 pc = .ok (.sastore, 1)) (h : qI σ 17 x i w K) (kk : ∀ σ, K σ → AW G C Q X kc ks (pc + 1) lo st σ) : AW G C Q X kc ks pc lo (.int v :: .int i :: va_rf x :: st) σ := by
  obtain ⟨a, rfl, ha, hi, hK⟩ := h
  intro p l e R s m args below meth c H locs cells slots mc ms ls hX hσ hl hc hs
  obtain ⟨h1, h2, h3⟩ := z_arr hX hσ (a := a) (by omega) (by omega)
  rw [ha] at h1 h2
  refine W.sast hX.1.1 hX.1.2.1 h1 h2 (fun z => by cases z) (z_in hi _ _) rfl rfl d (fun H1 e1 e2 e3 => ?_)
  rw [hw] at e1
  have hσ2 := hσ.sta (a := a) (x := .int w) (by omega) (by rw [ha]; exact ⟨_, rfl⟩) h1 e1 e2 e3
  rw [ha] at hσ2
  exact kk _ hK _ _ _ _ _ _ _ _ _ _ _ _ _ _ _ _ _ (z_S hX e2 e3 h3) hσ2 hl hc hs
theorem aw_last {x : Option Nat} {i : Int32} {v : Int64} {K : ZS → Prop} (d : decode C.2.1 pc = .ok (.lastore, 1)) (h : qL σ x i v K) (kk : ∀ σ, K σ → AW G C Q X kc ks (pc + 1) lo st σ) : AW G C Q X kc ks pc lo (.long v :: .int i :: va_rf x :: st) σ := by
  obtain ⟨a, rfl, ha, hi, hK⟩ := h
  intro p l e R s m args below meth c H locs cells slots mc ms ls hX hσ hl hc hs
  obtain ⟨h1, h2, h3⟩ := z_arr hX hσ (a := a) (by omega) (by omega)
  rw [ha] at h1 h2
  refine W.last hX.1.1 hX.1.2.1 h1 h2 (fun z => by cases z) (z_in hi _ _) rfl rfl d (fun H1 e1 e2 e3 => ?_)
  have hσ2 := hσ.sta (a := a) (x := .long v) (by omega) (by rw [ha]; exact ⟨_, rfl⟩) h1 e1 e2 e3
  rw [ha] at hσ2
  exact kk _ hK _ _ _ _ _ _ _ _ _ _ _ _ _ _ _ _ _ (z_S hX e2 e3 h3) hσ2 hl hc hs
theorem aw_fast {x : Option Nat} {i : Int32} {v : UInt32} {K : ZS → Prop} (d : decode C.2.1 pc = .ok (.fastore, 1)) (h : qF σ x i v K) (kk : ∀ σ, K σ → AW G C Q X kc ks (pc + 1) lo st σ) : AW G C Q X kc ks pc lo (.float v :: .int i :: va_rf x :: st) σ := by
  obtain ⟨a, rfl, ha, hi, hK⟩ := h
  intro p l e R s m args below meth c H locs cells slots mc ms ls hX hσ hl hc hs
  obtain ⟨h1, h2, h3⟩ := z_arr hX hσ (a := a) (by omega) (by omega)
  rw [ha] at h1 h2
  refine W.fast hX.1.1 hX.1.2.1 h1 h2 (fun z => by cases z) (z_in hi _ _) rfl rfl d (fun H1 e1 e2 e3 => ?_)
  have hσ2 := hσ.sta (a := a) (x := .float v) (by omega) (by rw [ha]; exact ⟨_, rfl⟩) h1 e1 e2 e3
  rw [ha] at hσ2
  exact kk _ hK _ _ _ _ _ _ _ _ _ _ _ _ _ _ _ _ _ (z_S hX e2 e3 h3) hσ2 hl hc hs
theorem aw_dast {x : Option Nat} {i : Int32} {v : UInt64} {K : ZS → Prop} (d : decode C.2.1 pc = .ok (.dastore, 1)) (h : qD σ x i v K) (kk : ∀ σ, K σ → AW G C Q X kc ks (pc + 1) lo st σ) : AW G C Q X kc ks pc lo (.double v :: .int i :: va_rf x :: st) σ := by
  obtain ⟨a, rfl, ha, hi, hK⟩ := h
  intro p l e R s m args below meth c H locs cells slots mc ms ls hX hσ hl hc hs
  obtain ⟨h1, h2, h3⟩ := z_arr hX hσ (a := a) (by omega) (by omega)
  rw [ha] at h1 h2
  refine W.dast hX.1.1 hX.1.2.1 h1 h2 (fun z => by cases z) (z_in hi _ _) rfl rfl d (fun H1 e1 e2 e3 => ?_)
  have hσ2 := hσ.sta (a := a) (x := .double v) (by omega) (by rw [ha]; exact ⟨_, rfl⟩) h1 e1 e2 e3
  rw [ha] at hσ2
  exact kk _ hK _ _ _ _ _ _ _ _ _ _ _ _ _ _ _ _ _ (z_S hX e2 e3 h3) hσ2 hl hc hs
theorem aw_alen {x : Option Nat} {K : Int32 → Prop} (d : decode C.2.1 pc = .ok (.arraylength, 1)) (h : nlen σ x K) (kk : ∀ v, K v → AW G C Q X kc ks (pc + 1) lo (.int v :: st) σ) : AW G C Q X kc ks pc lo (va_rf x :: st) σ := by
  obtain ⟨a, rfl, ⟨ha, ha2⟩, hK⟩ := h
  intro p l e R s m args below meth c H locs cells slots mc ms ls hX hσ hl hc hs
  obtain ⟨h1, h2, h3⟩ := z_arr hX hσ (a := a) ha ha2
  exact W.alen hX.1.1 hX.1.2.1 h1 h2 (n := Int32.ofNat (sn σ a)) (by rw [arrV_size]) rfl rfl d (kk _ hK _ _ _ _ _ _ _ _ _ _ _ _ _ _ _ _ _ hX hσ hl hc hs)
end ZHR
