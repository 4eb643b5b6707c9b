/-! L1a: THE TYPED HEAP. Kinds: 0 not ours; 1 ColumnHouse, 2 ColumnHouseModel, 3 Table, 4 Column, 5 Fault, 6 WholeBox, 7 RealBox, 8 TextBox; 10 int[], 11 long[], 12 float[], 13 double[], 14 byte[], 15 boolean[], 16 char[], 17 short[], 18 Table[], 19 Column[], 20 Box[], 21 NumberBox[], 22 TextBox[], 23 int[][] -/
abbrev ZS : Type := (Nat → Nat) × (Nat → Nat) × Nat × (Nat → Nat → Int32) × (Nat → Nat → Int64) × (Nat → Nat → UInt32) × (Nat → Nat → UInt64) × (Nat → Nat → Option Nat)
def sk (σ : ZS) : Nat → Nat := σ.1
def sn (σ : ZS) : Nat → Nat := σ.2.1
def sz (σ : ZS) : Nat := σ.2.2.1
def sI (σ : ZS) : Nat → Nat → Int32 := σ.2.2.2.1
def sL (σ : ZS) : Nat → Nat → Int64 := σ.2.2.2.2.1
def sF (σ : ZS) : Nat → Nat → UInt32 := σ.2.2.2.2.2.1
def sD (σ : ZS) : Nat → Nat → UInt64 := σ.2.2.2.2.2.2.1
def sR (σ : ZS) : Nat → Nat → Option Nat := σ.2.2.2.2.2.2.2
def u2 {α : Type} (f : Nat → Nat → α) (a k : Nat) (x : α) : Nat → Nat → α := fun b j => if b = a ∧ j = k then x else f b j
def wI (σ : ZS) (a k : Nat) (x : Int32) : ZS := (sk σ, sn σ, sz σ, u2 (sI σ) a k x, sL σ, sF σ, sD σ, sR σ)
def wL (σ : ZS) (a k : Nat) (x : Int64) : ZS := (sk σ, sn σ, sz σ, sI σ, u2 (sL σ) a k x, sF σ, sD σ, sR σ)
def wF (σ : ZS) (a k : Nat) (x : UInt32) : ZS := (sk σ, sn σ, sz σ, sI σ, sL σ, u2 (sF σ) a k x, sD σ, sR σ)
def wD (σ : ZS) (a k : Nat) (x : UInt64) : ZS := (sk σ, sn σ, sz σ, sI σ, sL σ, sF σ, u2 (sD σ) a k x, sR σ)
def wR (σ : ZS) (a k : Nat) (x : Option Nat) : ZS := (sk σ, sn σ, sz σ, sI σ, sL σ, sF σ, sD σ, u2 (sR σ) a k x)
/-- a row of a store put in the place of another one, whole (copies, clones) -/
def ur {α : Type} (f : Nat → Nat → α) (a : Nat) (g : Nat → α) : Nat → Nat → α := fun b j => if b = a then g j else f b j
/-- a new object or array at a, its fields and elements zero -/
def nw (σ : ZS) (a kd n : Nat) : ZS := ((fun b => if b = a then kd else sk σ b), (fun b => if b = a then n else sn σ b), a + 1, ur (sI σ) a (fun _ => 0), ur (sL σ) a (fun _ => 0), ur (sF σ) a (fun _ => 0), ur (sD σ) a (fun _ => 0), ur (sR σ) a (fun _ => none))
/-- room used by something that is not ours: the next new address is at least z -/
def wz (σ : ZS) (z : Nat) : ZS := (sk σ, sn σ, z, sI σ, sL σ, sF σ, sD σ, sR σ)
def ztg : FieldType → Nat
  | .long => 1
  | .float => 2
  | .double => 3
  | .object _ => 4
  | .array _ => 4
  | _ => 0
def zv (t : Nat) (σ : ZS) (a k : Nat) : Value := match t with
  | 0 => .int (sI σ a k)
  | 1 => .long (sL σ a k)
  | 2 => .float (sF σ a k)
  | 3 => .double (sD σ a k)
  | _ => va_rf (sR σ a k)
/-- the value x of type tag t written -/
def wv (t : Nat) (σ : ZS) (a k : Nat) (x : Value) : ZS := match t, x with
  | 0, .int v => wI σ a k v
  | 1, .long v => wL σ a k v
  | 2, .float v => wF σ a k v
  | 3, .double v => wD σ a k v
  | 4, .ref v => wR σ a k (some v)
  | 4, _ => wR σ a k none
  | _, _ => σ
/-- the value is one of type tag t -/
def zis (t : Nat) (x : Value) : Prop := match t with
  | 0 => ∃ v, x = .int v
  | 1 => ∃ v, x = .long v
  | 2 => ∃ v, x = .float v
  | 3 => ∃ v, x = .double v
  | 4 => ∃ r, x = va_rf r
  | _ => False
theorem zv_wv {t : Nat} {σ : ZS} {a k b j : Nat} {x : Value} (h : zis t x) : zv t (wv t σ a k x) b j = if b = a ∧ j = k then x else zv t σ b j := by
  match t, h with
  | 0, ⟨v, h⟩ => subst h; simp only [zv, wv, wI, sI, u2]; split <;> rfl
  | 1, ⟨v, h⟩ => subst h; simp only [zv, wv, wL, sL, u2]; split <;> rfl
  | 2, ⟨v, h⟩ => subst h; simp only [zv, wv, wF, sF, u2]; split <;> rfl
  | 3, ⟨v, h⟩ => subst h; simp only [zv, wv, wD, sD, u2]; split <;> rfl
  | 4, ⟨r, h⟩ =>
    subst h
    cases r with
    | none => by_cases hh : b = a ∧ j = k <;> simp [zv, wv, va_rf, wR, sR, u2, hh]
    | some r => by_cases hh : b = a ∧ j = k <;> simp [zv, wv, va_rf, wR, sR, u2, hh]
theorem zv_wv_ne {t u : Nat} {σ : ZS} {a k b j : Nat} {x : Value} (h : zis t x) (hb : b ≠ a ∨ j ≠ k) : zv u (wv t σ a k x) b j = zv u σ b j := by
  have hb' : ¬ (b = a ∧ j = k) := fun q => hb.elim (fun z => z q.1) (fun z => z q.2)
  match t, h with
  | 0, ⟨v, h⟩ => subst h; unfold zv; split <;> simp [wv, wI, sI, sL, sF, sD, sR, u2, hb']
  | 1, ⟨v, h⟩ => subst h; unfold zv; split <;> simp [wv, wL, sI, sL, sF, sD, sR, u2, hb']
  | 2, ⟨v, h⟩ => subst h; unfold zv; split <;> simp [wv, wF, sI, sL, sF, sD, sR, u2, hb']
  | 3, ⟨v, h⟩ => subst h; unfold zv; split <;> simp [wv, wD, sI, sL, sF, sD, sR, u2, hb']
  | 4, ⟨r, h⟩ =>
    subst h
    cases r with
    | none => unfold zv; split <;> simp [wv, va_rf, wR, sI, sL, sF, sD, sR, u2, hb']
    | some r => unfold zv; split <;> simp [wv, va_rf, wR, sI, sL, sF, sD, sR, u2, hb']
theorem sk_wv (t : Nat) (σ : ZS) (a k : Nat) (x : Value) : sk (wv t σ a k x) = sk σ := by unfold wv; split <;> rfl
theorem sn_wv (t : Nat) (σ : ZS) (a k : Nat) (x : Value) : sn (wv t σ a k x) = sn σ := by unfold wv; split <;> rfl
theorem sz_wv (t : Nat) (σ : ZS) (a k : Nat) (x : Value) : sz (wv t σ a k x) = sz σ := by unfold wv; split <;> rfl
theorem zv_wz (t : Nat) (σ : ZS) (z b j : Nat) : zv t (wz σ z) b j = zv t σ b j := by unfold zv; split <;> rfl
theorem zv_nw_ne (t : Nat) {σ : ZS} {a kd n b j : Nat} (h : b ≠ a) : zv t (nw σ a kd n) b j = zv t σ b j := by
  unfold zv; split <;> simp [nw, sI, sL, sF, sD, sR, ur, h]
theorem zv_nw_self (ty : FieldType) {σ : ZS} {a kd n j : Nat} : zv (ztg ty) (nw σ a kd n) a j = defaultValue ty := by
  cases ty <;> simp [ztg, zv, nw, sI, sL, sF, sD, sR, ur, va_rf, defaultValue]
/-! the classes -/
def zcl : List vw_C := [(RX0, TX0, 53), (RX3, TX3, 81), (RX2, TX2, 3), (RX4, TX4, 2), (RX1, TX1, 9), (RX6, TX6, 1), (RX7, TX7, 1), (RX8, TX8, 1)]
def zty (c : Nat) : Nat → FieldType := match c with
  | 0 => tyX0
  | 1 => tyX3
  | 2 => tyX2
  | 3 => tyX4
  | 4 => tyX1
  | 5 => tyX6
  | 6 => tyX7
  | _ => tyX8
def zeT (k : Nat) : FieldType := match k with
  | 10 => .int
  | 11 => .long
  | 12 => .float
  | 13 => .double
  | 14 => .byte
  | 15 => .boolean
  | 16 => .char
  | 17 => .short
  | 18 => .object RX2
  | 19 => .object RX4
  | 20 => .object RX9
  | 21 => .object RX5
  | 22 => .object RX8
  | _ => .array .int
theorem zcl_in {c : Nat} {r : vw_C} (h : zcl[c]? = some r) : (∀ w ∈ u_ws r.1 r.2.1 r.2.2, w ∈ lw_all) ∧ (∀ k, k < r.2.2 → parseFieldDescriptor (r.2.1 k).2.2.1 = some (zty c k)) ∧ (∀ a, a < r.2.2 → ∀ b, b < r.2.2 → a ≠ b → (r.2.1 a).2.1 ≠ (r.2.1 b).2.1) := by
  match c, h with
  | 0, h => cases h; exact ⟨in_X0, tyX0_ok, nmX0⟩
  | 1, h => cases h; exact ⟨in_X3, tyX3_ok, nmX3⟩
  | 2, h => cases h; exact ⟨in_X2, tyX2_ok, nmX2⟩
  | 3, h => cases h; exact ⟨in_X4, tyX4_ok, nmX4⟩
  | 4, h => cases h; exact ⟨in_X1, tyX1_ok, nmX1⟩
  | 5, h => cases h; exact ⟨in_X6, tyX6_ok, nmX6⟩
  | 6, h => cases h; exact ⟨in_X7, tyX7_ok, nmX7⟩
  | 7, h => cases h; exact ⟨in_X8, tyX8_ok, nmX8⟩
/-! the picture: G = ((class ids, slots of fields), array class ids by kind, the first address that is ours) -/
abbrev ZG : Type := va_G × (Nat → ClassId) × Nat × (Nat → Nat) × (Nat → Nat)
def zcell (G : ZG) (σ : ZS) (H : Heap) (a : Nat) : Prop :=
  (∀ (c : Nat) (r : vw_C), sk σ a = c + 1 → zcl[c]? = some r → t_OB a (G.1.1 c) r.2.2 (G.1.2 c) H (fun j => zv (ztg (zty c j)) σ a j)) ∧
  (10 ≤ sk σ a → H[a]? = some (arrV (G.2.1 (sk σ a)) (sn σ a) (fun j => zv (ztg (zeT (sk σ a))) σ a j)))
def zREL (G : ZG) (σ : ZS) (H : Heap) : Prop := G.2.2.1 ≤ sz σ ∧ sz σ ≤ H.size ∧ ∀ a, sk σ a ≠ 0 → G.2.2.1 ≤ a ∧ a < sz σ ∧ zcell G σ H a
theorem zREL.lt {G : ZG} {σ : ZS} {H : Heap} (h : zREL G σ H) {a : Nat} (ha : sk σ a ≠ 0) : a < H.size := Nat.lt_of_lt_of_le (h.2.2 a ha).2.1 h.2.1
theorem arrV_ext {cA : ClassId} {n : Nat} {f g : Nat → Value} (h : ∀ j, j < n → f j = g j) : arrV cA n f = arrV cA n g := by
  unfold arrV
  congr 1
  exact congrArg Array.ofFn (funext fun j => h j.1 j.2)
/-- the heap grows, old cells stay -/
theorem zREL.grow {G : ZG} {σ : ZS} {H H' : Heap} (h : zREL G σ H) (h1 : H.size ≤ H'.size) (h2 : ∀ q, q < H.size → H'[q]? = H[q]?) : zREL G (wz σ H'.size) H' := by
  refine ⟨Nat.le_trans h.1 (Nat.le_trans h.2.1 h1), Nat.le_refl _, fun a ha => ?_⟩
  have ha' : sk σ a ≠ 0 := ha
  obtain ⟨q1, q2, q3, q4⟩ := h.2.2 a ha'
  refine ⟨q1, Nat.lt_of_lt_of_le (h.lt ha') h1, fun c r hc hr => ?_, fun hk => ?_⟩
  · exact ((q3 c r hc hr).kept (h2 a (h.lt ha'))).to (fun k _ => (zv_wz _ σ _ a k).symm)
  · have hk' : 10 ≤ sk σ a := hk
    rw [h2 a (h.lt ha'), q4 hk']
    rfl
/-- one slot written -/
theorem zREL.stf {G : ZG} {σ : ZS} {H H' : Heap} {a c k : Nat} {r : vw_C} {x : Value} {cell : Cell} (h : zREL G σ H) (ha : sk σ a = c + 1) (hr : zcl[c]? = some r) (hk : k < r.2.2) (hx : zis (ztg (zty c k)) x) (hap : ∀ i j, i < r.2.2 → j < r.2.2 → i ≠ j → G.1.2 c i ≠ G.1.2 c j)
    (hcell : H[a]? = some cell) (e1 : H'[a]? = some (cell.setSlot (G.1.2 c k) x)) (e2 : H'.size = H.size) (e3 : ∀ q, q ≠ a → H'[q]? = H[q]?) : zREL G (wv (ztg (zty c k)) σ a k x) H' := by
  refine ⟨by rw [sz_wv]; exact h.1, by rw [sz_wv, e2]; exact h.2.1, fun b hb => ?_⟩
  rw [sk_wv] at hb
  obtain ⟨q1, q2, q3, q4⟩ := h.2.2 b hb
  refine ⟨q1, by rw [sz_wv]; exact q2, fun c' r' hc' hr' => ?_, fun hk' => ?_⟩
  · rw [sk_wv] at hc'
    by_cases hba : b = a
    · subst hba
      have hcc : c' = c := by omega
      subst hcc
      cases hr.symm.trans hr'
      obtain ⟨cell', p1, p2, p3, p4⟩ := q3 _ _ hc' hr'
      cases p1.symm.trans hcell
      refine t_OB.to (V := updV (fun j => zv (ztg (zty c' j)) σ b j) k x) ⟨_, e1, p2, p3, t_set p4 hap hk x⟩ (fun j hj => ?_)
      unfold updV
      by_cases hjk : j = k
      · subst hjk
        rw [zv_wv hx]; simp
      · rw [zv_wv_ne hx (Or.inr hjk)]; simp [hjk]
    · refine ((q3 _ _ hc' hr').kept (e3 b hba)).to (fun j _ => ?_)
      rw [zv_wv_ne hx (Or.inl hba)]
  · rw [sk_wv] at hk'
    have hba : b ≠ a := by
      intro hba; subst hba
      have : c < 8 := by
        have := (List.getElem?_eq_some_iff.mp hr).1
        exact this
      omega
    rw [e3 b hba, q4 hk', sk_wv, sn_wv]
    congr 1
    exact arrV_ext fun j _ => by rw [zv_wv_ne hx (Or.inl hba)]
theorem zREL.sta {G : ZG} {σ : ZS} {H H' : Heap} {a k : Nat} {x : Value} {cell : Cell} (h : zREL G σ H) (ha : 10 ≤ sk σ a) (hx : zis (ztg (zeT (sk σ a))) x)
    (hcell : H[a]? = some cell) (e1 : H'[a]? = some (cell.setSlot k x)) (e2 : H'.size = H.size) (e3 : ∀ q, q ≠ a → H'[q]? = H[q]?) : zREL G (wv (ztg (zeT (sk σ a))) σ a k x) H' := by
  refine ⟨by rw [sz_wv]; exact h.1, by rw [sz_wv, e2]; exact h.2.1, fun b hb => ?_⟩
  rw [sk_wv] at hb
  obtain ⟨q1, q2, q3, q4⟩ := h.2.2 b hb
  refine ⟨q1, by rw [sz_wv]; exact q2, fun c' r' hc' hr' => ?_, fun hk' => ?_⟩
  · rw [sk_wv] at hc'
    have hba : b ≠ a := by
      intro hba; subst hba
      have : c' < 8 := (List.getElem?_eq_some_iff.mp hr').1
      omega
    refine ((q3 _ _ hc' hr').kept (e3 b hba)).to (fun j _ => ?_)
    rw [zv_wv_ne hx (Or.inl hba)]
  · rw [sk_wv] at hk'
    rw [sk_wv, sn_wv]
    by_cases hba : b = a
    · subst hba
      have hc := q4 hk'
      cases hc.symm.trans hcell
      rw [e1, arrV_store]
      congr 1
      refine arrV_ext fun j _ => ?_
      unfold updV
      by_cases hjk : j = k
      · subst hjk
        rw [zv_wv hx]; simp
      · rw [zv_wv_ne hx (Or.inr hjk)]; simp [hjk]
    · rw [e3 b hba, q4 hk']
      congr 1
      exact arrV_ext fun j _ => by rw [zv_wv_ne hx (Or.inl hba)]
/-- a new cell -/
theorem zREL.new {G : ZG} {σ : ZS} {H H' : Heap} {kd n : Nat} (h : zREL G σ H) (e1 : zcell G (nw σ H.size kd n) H' H.size) (e2 : H'.size = H.size + 1) (e3 : ∀ q, q < H.size → H'[q]? = H[q]?) : zREL G (nw σ H.size kd n) H' := by
  refine ⟨Nat.le_trans h.1 (Nat.le_trans h.2.1 (Nat.le_succ _)), by rw [e2]; exact Nat.le_refl _, fun b hb => ?_⟩
  by_cases hba : b = H.size
  · subst hba
    exact ⟨Nat.le_trans h.1 h.2.1, Nat.lt_succ_self _, e1⟩
  · have hs : sk (nw σ H.size kd n) b = sk σ b := by simp [nw, sk, hba]
    have hn : sn (nw σ H.size kd n) b = sn σ b := by simp [nw, sn, hba]
    rw [hs] at hb
    obtain ⟨q1, q2, q3, q4⟩ := h.2.2 b hb
    have hl := h.lt hb
    refine ⟨q1, Nat.lt_succ_of_lt hl, fun c' r' hc' hr' => ?_, fun hk' => ?_⟩
    · rw [hs] at hc'
      refine ((q3 _ _ hc' hr').kept (e3 b hl)).to (fun j _ => ?_)
      rw [zv_nw_ne _ hba]
    · rw [hs] at hk' ⊢
      rw [hn, e3 b hl, q4 hk']
      congr 1
      exact arrV_ext fun j _ => by rw [zv_nw_ne _ hba]
