/-! L1l: aastore (printed by gen/mkrows4.py) -/
theorem zr_wpBad {Q : Unit → Pre} {E : CtlPost} {e : Env} {d0 : Bool} {acts : List Action} {s : State} {f : JFrame} {a v : Addr} {i : Int32} {rest : List Value} {c cv : Cell} {k kv kcomp : Class} {comp : ClassId} {t : FieldType}
    (hs : s.topJava?.isSome) (hstack : f.stack = .ref v :: .int i :: .ref a :: rest) (hcell : s.heap[a]? = some c) (hobj : ∀ x, c.vm ≠ .statics x) (hknown : c.vm ≠ .unknown)
    (hk : s.vm.classes[c.cls]? = some k) (hkind : k.kind = .array comp t) (hi : ¬ i < 0) (hlt : i.toNatClampNeg < c.slots.size)
    (hv : s.heap[v]? = some cv) (hvobj : ∀ x, cv.vm ≠ .statics x) (hkv : s.vm.classes[cv.cls]? = some kv) (hkcomp : s.vm.classes[comp]? = some kcomp)
    (hinst : s.vm.assignable cv.cls comp = false) :
    wp aastore.sem Q E e d0 acts (s.setTop f) ↔ E (.throwNew "java/lang/ArrayStoreException" (some kv.shown)) acts (s.setTop { f with stack := rest }) := by
  have harr : s.isArray c := ⟨hobj, k, hk, comp, t, hkind⟩
  simp [aastore.sem, hs, hstack, hcell, hobj, hknown, hk, hkind, hi, hlt, Nat.not_le.mpr hlt, harr, hv, hvobj, hkv, hkcomp, hinst]
theorem zr_aastBad {p : Program} {l : Launch} {e : Env} {R : Room} {s : State} {m : MethodId} {args : Array Value} {below : List Frame} {meth : Method} {c : Code} {T : State} {locs : List Loc} {cells slots : Nat} (X : Stand p l e R s m args below meth c T locs cells slots) (hexec : p.tables.exec = Jvm.exec)
    {a v : Addr} {cell cv : Cell} {j : Int32} {k kcomp : Class} {comp : ClassId} {t : FieldType} {nv : String}
    (hcell : T.heap[a]? = some cell) (hobj : ∀ q, cell.vm ≠ .statics q) (hknown : cell.vm ≠ .unknown)
    (hk : s.vm.classes[cell.cls]? = some k) (hkind : k.kind = .array comp t) (hkcomp : s.vm.classes[comp]? = some kcomp)
    (hin : ¬ j < 0 ∧ j.toNatClampNeg < cell.slots.size)
    (hv : T.heap[v]? = some cv) (hvobj : ∀ q, cv.vm ≠ .statics q) (hnv : s.vm.findClass nv = some cv.cls) (hinst : s.vm.assignable cv.cls comp = false)
    {g : JFrame} (hg : g.method = m) {rest : List Value} (hstack : g.stack = .ref v :: .int j :: .ref a :: rest) (hdg : decode c.code g.pc = .ok (.aastore, 1)) :
    ∀ target, Steps p.tables e below ((T.setTop { g with stack := rest }).pushFrame (.throwNew "java/lang/ArrayStoreException" (some (dotted nv)) none)) target → Steps p.tables e below (T.setTop g) target := by
  have hal : s.vm.Alike T.vm := X.warmed.alike
  obtain ⟨kv, hkv, e1, e2, e3, -⟩ := zr_found hnv
  obtain ⟨k₁, hk₁, hek⟩ := hal.2.2 _ _ hk
  have hkind₁ : k₁.kind = .array comp t := by rw [hek]; exact hkind
  obtain ⟨kcomp₁, hkcomp₁, -⟩ := hal.2.2 _ _ hkcomp
  obtain ⟨kv₁, hkv₁, hev⟩ := hal.2.2 _ _ hkv
  have hinst₁ : T.vm.assignable cv.cls comp = false := by rw [hal.assignable]; exact hinst
  have hsh : kv₁.shown = dotted nv := by rw [hev]; show Class.shown kv = _; unfold Class.shown; rw [e2]; show dotted kv.name = _; rw [e1]
  intro target hrest
  subst hg
  rw [← hsh] at hrest
  jvm_step X.here [hexec, hdg, zr_wpBad (e := e) (s := T) (f := g) X.here.top hstack hcell hobj hknown hk₁ hkind₁ hin.1 hin.2 hv hvobj hkv₁ hkcomp₁ hinst₁]
  exact hrest
/-- the kind of an array's elements, as a cast's target -/
def zec (k : Nat) : Nat := match k with
  | 18 => 3
  | 19 => 4
  | 20 => 25
  | 21 => 24
  | 22 => 8
  | _ => 10
def qR (σ : ZS) (x : Option Nat) (i : Int32) (v : Option Nat) (K : ZS → Prop) : Prop := ∃ a, x = some a ∧ (18 ≤ sk σ a ∧ sk σ a < 24) ∧ vp_in i (sn σ a) ∧ (∀ y, v = some y → (sk σ y, zec (sk σ a)) ∈ zckL ∧ zsub (sk σ y) (zec (sk σ a)) = true) ∧ K (wR σ a i.toNatClampNeg v)
def qRx (σ : ZS) (x : Option Nat) (i : Int32) (v : Option Nat) (K : ZS → Prop) (KN KB KS : Prop) : Prop := (x = none → KN) ∧ ∀ a, x = some a → (18 ≤ sk σ a ∧ sk σ a < 24) ∧ sn σ a < 2147483648 ∧ (∀ y, v = some y → (sk σ y, zec (sk σ a)) ∈ zckL) ∧ (¬ vp_in i (sn σ a) → KB) ∧ (vp_in i (sn σ a) → ((∃ y, v = some y ∧ zsub (sk σ y) (zec (sk σ a)) = false) → KS) ∧ ((∀ y, v = some y → zsub (sk σ y) (zec (sk σ a)) = true) → K (wR σ a i.toNatClampNeg v)))
section ZR5
variable {G : ZG} {C : AWC} {σ : ZS} {p : Program} {l : Launch} {e : Env} {R : Room} {s : State} {m : MethodId} {args : Array Value} {below : List Frame} {meth : Method} {c : Code} {H : Heap} {locs : List Loc} {cells slots mc ms : Nat}
/-- the class record of an array of references, of its elements -/
theorem z_elc (hX : zCT G C mc ms p l R s m args meth c H locs) {k : Nat} (h1 : 18 ≤ k) (h2 : k < 24) : ∃ (kA kc : Class) (comp : ClassId), s.vm.classes[G.2.1 k]? = some kA ∧ kA.kind = .array comp (zeT k) ∧ s.vm.classes[comp]? = some kc ∧ s.vm.findClass (znm (zec k)) = some comp := by
  obtain ⟨a1, a2, kA, kc, comp, a3, a4, a5, a6⟩ := hX.2.2.2.1.2.2.1 k (by omega) h2
  refine ⟨kA, kc, comp, a3, a4, a5, ?_⟩
  have h9 : k = 18 ∨ k = 19 ∨ k = 20 ∨ k = 21 ∨ k = 22 ∨ k = 23 := by omega
  rcases h9 with rfl | rfl | rfl | rfl | rfl | rfl
  · exact a6 _ rfl
  · exact a6 _ rfl
  · exact a6 _ rfl
  · exact a6 _ rfl
  · exact a6 _ rfl
  · obtain ⟨comp', c', k', b1, b2, b3, b4, b5⟩ := arrayOverA_spec hX.2.2.2.1.2.2.2.2.2.2.2.1.2.2.2.2.2.1
    have e1 : G.2.1 23 = c' := by
      have e2 : "[" ++ (zeT 23).toString = "[" ++ (FieldType.array .int).toString := rfl
      rw [e2] at a2
      exact Option.some.inj (a2.symm.trans b5)
    rw [e1] at a3
    cases a3.symm.trans b3
    have e3 := a4.symm.trans b4
    injection e3 with e4 e5
    subst e4
    have e6 : znm (zec 23) = (FieldType.array .int).toString := by decide +kernel
    rw [e6]
    exact b1
end ZR5
section ZR5B
variable {G : ZG} {C : AWC} {Q : Option Value → ZS → Prop} {X : String → Nat → ZS → Prop} {kc ks pc : Nat} {lo : List (Nat × Value)} {st : List Value} {σ : ZS}
theorem aw_aast {x v : Option Nat} {i : Int32} {K : ZS → Prop} (d : decode C.2.1 pc = .ok (.aastore, 1)) (h : qR σ x i v K) (kk : ∀ σ, K σ → AW G C Q X kc ks (pc + 1) lo st σ) : AW G C Q X kc ks pc lo (va_rf v :: .int i :: va_rf x :: st) σ := by
  obtain ⟨a, rfl, ⟨ha, ha2⟩, hi, hel, hK⟩ := h
  intro p l e R s m args below meth c H locs cells slots mc ms ls hX hσ hl hc hs
  obtain ⟨h1, h2, h3⟩ := z_arr hX hσ (a := a) (by omega) ha2
  obtain ⟨kA, kq, comp, c1, c2, c3, c4⟩ := z_elc hX ha ha2
  have ht : (zeT (sk σ a)).isReference = true ∧ ztg (zeT (sk σ a)) = 4 := by
    have h9 : sk σ a = 18 ∨ sk σ a = 19 ∨ sk σ a = 20 ∨ sk σ a = 21 ∨ sk σ a = 22 ∨ sk σ a = 23 := by omega
    rcases h9 with e | e | e | e | e | e <;> rw [e] <;> exact ⟨rfl, rfl⟩
  have hin := z_in hi (G.2.1 (sk σ a)) (fun j => zv (ztg (zeT (sk σ a))) σ a j)
  obtain ⟨cell, hcd⟩ : ∃ cell, cell = arrV (G.2.1 (sk σ a)) (sn σ a) (fun j => zv (ztg (zeT (sk σ a))) σ a j) := ⟨_, rfl⟩
  rw [← hcd] at h1 hin
  have hcls : cell.cls = G.2.1 (sk σ a) := by rw [hcd]; rfl
  have hvm : cell.vm = .none := by rw [hcd]; rfl
  have hin2 : ¬ i < 0 ∧ i.toNatClampNeg < cell.slots.size := ⟨fun q => hin (Or.inl q), Nat.not_le.mp fun q => hin (Or.inr q)⟩
  intro T hT Y
  have hcell : T.heap[a]? = some cell := by rw [hT]; exact h1
  have hstep : Stand p l e R s m args below meth c (T.setCell a (cell.setSlot i.toNatClampNeg (va_rf v))) (locs ++ [⟨a, i.toNatClampNeg⟩]) cells slots ∧ ∀ target, Steps p.tables e below ((T.setCell a (cell.setSlot i.toNatClampNeg (va_rf v))).setTop { (F0 m pc ls (va_rf v :: .int i :: .ref a :: st)) with pc := pc + 1, stack := st }) target → Steps p.tables e below (T.setTop (F0 m pc ls (va_rf v :: .int i :: .ref a :: st))) target := by
    cases v with
    | none => exact Y.aastoreNullInK hX.1.1 hcell (fun z hz => by rw [hvm] at hz; cases hz) (fun hz => by rw [hvm] at hz; cases hz) (by rw [hcls]; exact c1) c2 ht.1 hin2 (g := F0 m pc ls (.null :: .int i :: .ref a :: st)) rfl (rest := st) rfl (by rw [hX.1.2.1]; exact d)
    | some y =>
      obtain ⟨q1, q2⟩ := hel y rfl
      obtain ⟨cv, p1, p2, p3⟩ := z_cls hX hσ rfl (zck_rng q1)
      obtain ⟨ct, e1, e2⟩ := z_asg2 hX q1 p3
      cases e1.symm.trans c4
      obtain ⟨kv, hkv, -⟩ := Vm.findClass_spec p3
      exact Y.aastoreRefTK hX.1.1 hcell (fun z hz => by rw [hvm] at hz; cases hz) (fun hz => by rw [hvm] at hz; cases hz) (by rw [hcls]; exact c1) c2 ht.1 c3 hin2 (by rw [hT]; exact p1) (fun z hz => by rw [p2] at hz; cases hz) hkv (by rw [e2]; exact q2) (g := F0 m pc ls (.ref y :: .int i :: .ref a :: st)) rfl (rest := st) rfl (by rw [hX.1.2.1]; exact d)
  obtain ⟨Y', stp⟩ := hstep
  have hlt : a < T.heap.size := (Array.getElem?_eq_some_iff.mp hcell).1
  have e1 : (T.setCell a (cell.setSlot i.toNatClampNeg (va_rf v))).heap[a]? = some (cell.setSlot i.toNatClampNeg (va_rf v)) := heapAt_setCell_self _ hlt
  have e2 : (T.setCell a (cell.setSlot i.toNatClampNeg (va_rf v))).heap.size = H.size := by rw [← hT]; simp [State.setCell]
  have e3 : ∀ q, q ≠ a → (T.setCell a (cell.setSlot i.toNatClampNeg (va_rf v))).heap[q]? = H[q]? := fun q hq => by rw [← hT]; exact State.heap_setCell_other (Ne.symm hq)
  have hσ2 := hσ.sta (a := a) (x := va_rf v) (by omega) (by rw [ht.2]; exact ⟨_, rfl⟩) h1 e1 e2 e3
  rw [ht.2, (show wv 4 σ a i.toNatClampNeg (va_rf v) = wR σ a i.toNatClampNeg v from by cases v <;> rfl)] at hσ2
  obtain ⟨t, a1, b1⟩ := kk _ hK _ _ _ _ _ _ _ _ _ _ _ _ _ _ _ _ _ (z_S hX e2 e3 h3) hσ2 hl hc hs _ rfl Y'
  exact ⟨t, stp t a1, b1⟩
theorem zas_txt : [6, 7, 8, 3, 4, 10].all (fun k => !(dotted (znm k) == notModelled) && decide ((znm k).toList.length ≤ 40)) = true := by decide +kernel
theorem zas_in : ∀ k t, (k, t) ∈ zckL → t = 3 ∨ t = 4 ∨ t = 25 ∨ t = 24 ∨ t = 8 ∨ t = 10 → zsub k t = false → k ∈ [6, 7, 8, 3, 4, 10] ∨ 10 < k := by
  have h : zckL.all (fun q => [6, 7, 8, 3, 4, 10].contains q.1 || decide (10 < q.1)) = true := by decide +kernel
  intro k t h1 _ _
  have h2 := List.all_eq_true.mp h _ h1
  simp only [Bool.or_eq_true, decide_eq_true_eq, List.contains_iff_mem] at h2
  exact h2
theorem aw_aastx {x v : Option Nat} {i : Int32} {K : ZS → Prop} {KN KB KS : Prop} (d : decode C.2.1 pc = .ok (.aastore, 1)) (h : qRx σ x i v K KN KB ((∀ y, v = some y → sk σ y ∈ [6, 7, 8, 3, 4, 10]) ∧ KS)) (kk : ∀ σ, K σ → AW G C Q X kc ks (pc + 1) lo st σ) (kn : KN → ANn G C Q X kc ks pc lo st σ) (kb : KB → ANt G C Q X kc ks pc lo st σ eAIO) (kx : KS → ANt G C Q X kc ks pc lo st σ eASE) : AW G C Q X kc ks pc lo (va_rf v :: .int i :: va_rf x :: st) σ := by
  intro p l e R s m args below meth c H locs cells slots mc ms ls hX hσ hl hc hs
  have hvr : (va_rf v).isRef = true := by cases v <;> rfl
  cases x with
  | none =>
    intro T hT Y
    obtain ⟨t, a1, b1⟩ := kn (h.1 rfl) _ _ _ _ _ _ _ _ _ _ _ _ _ _ _ _ _ hX hσ hl hc hs T hT Y
    exact ⟨t, Y.aastoreNull hX.1.1 (g := F0 m pc ls (va_rf v :: .int i :: .null :: st)) rfl hvr rfl (by rw [hX.1.2.1]; exact d) t a1, b1⟩
  | some a =>
    obtain ⟨⟨ha, ha2⟩, hn, hel, hB, hI⟩ := h.2 a rfl
    obtain ⟨h1, h2, h3⟩ := z_arr hX hσ (a := a) (by omega) ha2
    by_cases hin : vp_in i (sn σ a)
    · obtain ⟨hS, hK⟩ := hI hin
      by_cases hbad : ∃ y, v = some y ∧ zsub (sk σ y) (zec (sk σ a)) = false
      · obtain ⟨hk6, hKS⟩ := hS hbad
        obtain ⟨y, rfl, hz⟩ := hbad
        obtain ⟨kA, kq, comp, c1, c2, c3, c4⟩ := z_elc hX ha ha2
        have q1 := hel y rfl
        obtain ⟨cv, p1, p2, p3⟩ := z_cls hX hσ rfl (zck_rng q1)
        obtain ⟨ct, e1, e2⟩ := z_asg2 hX q1 p3
        cases e1.symm.trans c4
        have htx := List.all_eq_true.mp zas_txt _ (hk6 y rfl)
        simp only [Bool.and_eq_true, Bool.not_eq_true', decide_eq_true_eq] at htx
        have hb9 : (stringBytes (stringToUtf16 (dotted (znm (sk σ y))))).size ≤ 900 := by
          have b1 := stringBytes_size_le (stringToUtf16 (dotted (znm (sk σ y))))
          have b2 := utf16_size_le (dotted (znm (sk σ y)))
          rw [zl_dot] at b2
          have b3 := htx.2
          omega
        intro T hT Y
        obtain ⟨t, a1, b1⟩ := kx hKS _ _ _ _ _ _ _ _ _ _ _ _ _ _ _ _ _ _ hX hσ hl hc hs htx.1 hb9 T hT Y
        have hi2 := z_in hin (G.2.1 (sk σ a)) (fun j => zv (ztg (zeT (sk σ a))) σ a j)
        exact ⟨t, zr_aastBad Y hX.1.1 (by rw [hT]; exact h1) (fun z hz => by cases hz) (fun hz => by cases hz) c1 c2 c3 ⟨fun q => hi2 (Or.inl q), Nat.not_le.mp fun q => hi2 (Or.inr q)⟩ (by rw [hT]; exact p1) (fun z hz => by rw [p2] at hz; cases hz) p3 (by rw [e2]; exact hz) (g := F0 m pc ls (.ref y :: .int i :: .ref a :: st)) rfl (rest := st) rfl (by rw [hX.1.2.1]; exact d) t a1, b1⟩
      · have hgood : ∀ y, v = some y → zsub (sk σ y) (zec (sk σ a)) = true := fun y hy => by
          cases hq : zsub (sk σ y) (zec (sk σ a))
          · exact absurd ⟨y, hy, hq⟩ hbad
          · rfl
        exact aw_aast d ⟨a, rfl, ⟨ha, ha2⟩, hin, fun y hy => ⟨hel y hy, hgood y hy⟩, hK hgood⟩ kk _ _ _ _ _ _ _ _ _ _ _ _ _ _ _ _ _ hX hσ hl hc hs
    · intro T hT Y
      obtain ⟨t, stp, q⟩ := awNi (n := sn σ a) (i := i) (kb (hB hin)) hX hσ hl hc hs hn T hT Y
      refine ⟨t, ?_, q⟩
      have h9 := Y.aastoreOut hX.1.1 hvr (by rw [hT]; exact h1) h2 (j := i) (zvp hin) (g := F0 m pc ls (va_rf v :: .int i :: .ref a :: st)) rfl (rest := st) rfl (by rw [hX.1.2.1]; exact d) t
      simp only [arrV_size] at h9
      exact h9 stp
end ZR5B
