/-! L1c: rows of AW, an instruction a row (printed by gen/mkrows.py) -/
theorem aw_iload_n {G : ZG} {C : AWC} {Q : Option Value → ZS → Prop} {X : String → Nat → ZS → Prop} {kc ks pc : Nat} {lo : List (Nat × Value)} {st : List Value} {σ : ZS} {j : Nat} {n : Fin 4} {i : Nat} {x : Int32} (d : decode C.2.1 pc = .ok (.iload_n n, 1)) (hi : (n : Nat) = i) (hj : lo[j]? = some (i, .int x)) (k : AW G C Q X kc ks (pc + 1) lo (.int x :: st) σ) : AW G C Q X kc ks pc lo (st) σ := by
  intro p l e R s m args below meth c H locs cells slots mc ms ls hX hσ hl hc hs
  exact lv_iload_n hX.1.1 hX.1.2.1 d hi (lv_at hl j hj) (k _ _ _ _ _ _ _ _ _ _ _ _ _ _ _ _ _ hX hσ hl hc hs)

theorem aw_iload {G : ZG} {C : AWC} {Q : Option Value → ZS → Prop} {X : String → Nat → ZS → Prop} {kc ks pc : Nat} {lo : List (Nat × Value)} {st : List Value} {σ : ZS} {j i : Nat} {x : Int32} (d : decode C.2.1 pc = .ok (.iload i, 2)) (hj : lo[j]? = some (i, .int x)) (k : AW G C Q X kc ks (pc + 2) lo (.int x :: st) σ) : AW G C Q X kc ks pc lo (st) σ := by
  intro p l e R s m args below meth c H locs cells slots mc ms ls hX hσ hl hc hs
  exact lv_iload hX.1.1 hX.1.2.1 d (lv_at hl j hj) (k _ _ _ _ _ _ _ _ _ _ _ _ _ _ _ _ _ hX hσ hl hc hs)

theorem aw_lload_n {G : ZG} {C : AWC} {Q : Option Value → ZS → Prop} {X : String → Nat → ZS → Prop} {kc ks pc : Nat} {lo : List (Nat × Value)} {st : List Value} {σ : ZS} {j : Nat} {n : Fin 4} {i : Nat} {x : Int64} (d : decode C.2.1 pc = .ok (.lload_n n, 1)) (hi : (n : Nat) = i) (hj : lo[j]? = some (i, .long x)) (k : AW G C Q X kc ks (pc + 1) lo (.long x :: st) σ) : AW G C Q X kc ks pc lo (st) σ := by
  intro p l e R s m args below meth c H locs cells slots mc ms ls hX hσ hl hc hs
  exact lv_lload_n hX.1.1 hX.1.2.1 d hi (lv_at hl j hj) (k _ _ _ _ _ _ _ _ _ _ _ _ _ _ _ _ _ hX hσ hl hc hs)

theorem aw_lload {G : ZG} {C : AWC} {Q : Option Value → ZS → Prop} {X : String → Nat → ZS → Prop} {kc ks pc : Nat} {lo : List (Nat × Value)} {st : List Value} {σ : ZS} {j i : Nat} {x : Int64} (d : decode C.2.1 pc = .ok (.lload i, 2)) (hj : lo[j]? = some (i, .long x)) (k : AW G C Q X kc ks (pc + 2) lo (.long x :: st) σ) : AW G C Q X kc ks pc lo (st) σ := by
  intro p l e R s m args below meth c H locs cells slots mc ms ls hX hσ hl hc hs
  exact lv_lload hX.1.1 hX.1.2.1 d (lv_at hl j hj) (k _ _ _ _ _ _ _ _ _ _ _ _ _ _ _ _ _ hX hσ hl hc hs)

theorem aw_fload_n {G : ZG} {C : AWC} {Q : Option Value → ZS → Prop} {X : String → Nat → ZS → Prop} {kc ks pc : Nat} {lo : List (Nat × Value)} {st : List Value} {σ : ZS} {j : Nat} {n : Fin 4} {i : Nat} {x : UInt32} (d : decode C.2.1 pc = .ok (.fload_n n, 1)) (hi : (n : Nat) = i) (hj : lo[j]? = some (i, .float x)) (k : AW G C Q X kc ks (pc + 1) lo (.float x :: st) σ) : AW G C Q X kc ks pc lo (st) σ := by
  intro p l e R s m args below meth c H locs cells slots mc ms ls hX hσ hl hc hs
  exact lv_fload_n hX.1.1 hX.1.2.1 d hi (lv_at hl j hj) (k _ _ _ _ _ _ _ _ _ _ _ _ _ _ _ _ _ hX hσ hl hc hs)

theorem aw_fload {G : ZG} {C : AWC} {Q : Option Value → ZS → Prop} {X : String → Nat → ZS → Prop} {kc ks pc : Nat} {lo : List (Nat × Value)} {st : List Value} {σ : ZS} {j i : Nat} {x : UInt32} (d : decode C.2.1 pc = .ok (.fload i, 2)) (hj : lo[j]? = some (i, .float x)) (k : AW G C Q X kc ks (pc + 2) lo (.float x :: st) σ) : AW G C Q X kc ks pc lo (st) σ := by
  intro p l e R s m args below meth c H locs cells slots mc ms ls hX hσ hl hc hs
  exact lv_fload hX.1.1 hX.1.2.1 d (lv_at hl j hj) (k _ _ _ _ _ _ _ _ _ _ _ _ _ _ _ _ _ hX hσ hl hc hs)

theorem aw_dload_n {G : ZG} {C : AWC} {Q : Option Value → ZS → Prop} {X : String → Nat → ZS → Prop} {kc ks pc : Nat} {lo : List (Nat × Value)} {st : List Value} {σ : ZS} {j : Nat} {n : Fin 4} {i : Nat} {x : UInt64} (d : decode C.2.1 pc = .ok (.dload_n n, 1)) (hi : (n : Nat) = i) (hj : lo[j]? = some (i, .double x)) (k : AW G C Q X kc ks (pc + 1) lo (.double x :: st) σ) : AW G C Q X kc ks pc lo (st) σ := by
  intro p l e R s m args below meth c H locs cells slots mc ms ls hX hσ hl hc hs
  exact lv_dload_n hX.1.1 hX.1.2.1 d hi (lv_at hl j hj) (k _ _ _ _ _ _ _ _ _ _ _ _ _ _ _ _ _ hX hσ hl hc hs)

theorem aw_dload {G : ZG} {C : AWC} {Q : Option Value → ZS → Prop} {X : String → Nat → ZS → Prop} {kc ks pc : Nat} {lo : List (Nat × Value)} {st : List Value} {σ : ZS} {j i : Nat} {x : UInt64} (d : decode C.2.1 pc = .ok (.dload i, 2)) (hj : lo[j]? = some (i, .double x)) (k : AW G C Q X kc ks (pc + 2) lo (.double x :: st) σ) : AW G C Q X kc ks pc lo (st) σ := by
  intro p l e R s m args below meth c H locs cells slots mc ms ls hX hσ hl hc hs
  exact lv_dload hX.1.1 hX.1.2.1 d (lv_at hl j hj) (k _ _ _ _ _ _ _ _ _ _ _ _ _ _ _ _ _ hX hσ hl hc hs)

theorem aw_aload_n {G : ZG} {C : AWC} {Q : Option Value → ZS → Prop} {X : String → Nat → ZS → Prop} {kc ks pc : Nat} {lo : List (Nat × Value)} {st : List Value} {σ : ZS} {j : Nat} {n : Fin 4} {i : Nat} {x : Option Nat} (d : decode C.2.1 pc = .ok (.aload_n n, 1)) (hi : (n : Nat) = i) (hj : lo[j]? = some (i, va_rf x)) (k : AW G C Q X kc ks (pc + 1) lo (va_rf x :: st) σ) : AW G C Q X kc ks pc lo st σ := by
  intro p l e R s m args below meth c H locs cells slots mc ms ls hX hσ hl hc hs
  cases x with
  | none => exact lv_aload_nN hX.1.1 hX.1.2.1 d hi (lv_at hl j hj) (k _ _ _ _ _ _ _ _ _ _ _ _ _ _ _ _ _ hX hσ hl hc hs)
  | some x => exact lv_aload_n hX.1.1 hX.1.2.1 d hi (lv_at hl j hj) (k _ _ _ _ _ _ _ _ _ _ _ _ _ _ _ _ _ hX hσ hl hc hs)

theorem aw_aload {G : ZG} {C : AWC} {Q : Option Value → ZS → Prop} {X : String → Nat → ZS → Prop} {kc ks pc : Nat} {lo : List (Nat × Value)} {st : List Value} {σ : ZS} {j i : Nat} {x : Option Nat} (d : decode C.2.1 pc = .ok (.aload i, 2)) (hj : lo[j]? = some (i, va_rf x)) (k : AW G C Q X kc ks (pc + 2) lo (va_rf x :: st) σ) : AW G C Q X kc ks pc lo st σ := by
  intro p l e R s m args below meth c H locs cells slots mc ms ls hX hσ hl hc hs
  cases x with
  | none => exact lv_aloadN hX.1.1 hX.1.2.1 d (lv_at hl j hj) (k _ _ _ _ _ _ _ _ _ _ _ _ _ _ _ _ _ hX hσ hl hc hs)
  | some x => exact lv_aload hX.1.1 hX.1.2.1 d (lv_at hl j hj) (k _ _ _ _ _ _ _ _ _ _ _ _ _ _ _ _ _ hX hσ hl hc hs)

theorem aw_istore_n {G : ZG} {C : AWC} {Q : Option Value → ZS → Prop} {X : String → Nat → ZS → Prop} {kc ks pc : Nat} {lo lo2 : List (Nat × Value)} {st : List Value} {σ : ZS} {n : Fin 4} {i : Nat} {x : Int32} (d : decode C.2.1 pc = .ok (.istore_n n, 1)) (hi : (n : Nat) = i) (hn : i < C.2.2.1) (hl2 : (i, Value.int x) :: lo.filter (fun q => !(q.1 == i) && !(q.1 + 1 == i && q.2.category == 2)) = lo2) (k : AW G C Q X kc ks (pc + 1) lo2 st σ) : AW G C Q X kc ks pc lo (.int x :: st) σ := by
  intro p l e R s m args below meth c H locs cells slots mc ms ls hX hσ hl hc hs
  exact lv_istore_n hX.1.1 hX.1.2.1 d hi hl hn hl2 (fun ls hl => k _ _ _ _ _ _ _ _ _ _ _ _ _ _ _ _ _ hX hσ hl hc hs)

theorem aw_istore {G : ZG} {C : AWC} {Q : Option Value → ZS → Prop} {X : String → Nat → ZS → Prop} {kc ks pc : Nat} {lo lo2 : List (Nat × Value)} {st : List Value} {σ : ZS} {i : Nat} {x : Int32} (d : decode C.2.1 pc = .ok (.istore i, 2)) (hn : i < C.2.2.1) (hl2 : (i, Value.int x) :: lo.filter (fun q => !(q.1 == i) && !(q.1 + 1 == i && q.2.category == 2)) = lo2) (k : AW G C Q X kc ks (pc + 2) lo2 st σ) : AW G C Q X kc ks pc lo (.int x :: st) σ := by
  intro p l e R s m args below meth c H locs cells slots mc ms ls hX hσ hl hc hs
  exact lv_istore hX.1.1 hX.1.2.1 d hl hn hl2 (fun ls hl => k _ _ _ _ _ _ _ _ _ _ _ _ _ _ _ _ _ hX hσ hl hc hs)

theorem aw_lstore_n {G : ZG} {C : AWC} {Q : Option Value → ZS → Prop} {X : String → Nat → ZS → Prop} {kc ks pc : Nat} {lo lo2 : List (Nat × Value)} {st : List Value} {σ : ZS} {n : Fin 4} {i : Nat} {x : Int64} (d : decode C.2.1 pc = .ok (.lstore_n n, 1)) (hi : (n : Nat) = i) (hn : i + 1 < C.2.2.1) (hl2 : (i, Value.long x) :: lo.filter (fun q => !(q.1 == i) && (!(q.1 == i + 1) && !(q.1 + 1 == i && q.2.category == 2))) = lo2) (k : AW G C Q X kc ks (pc + 1) lo2 st σ) : AW G C Q X kc ks pc lo (.long x :: st) σ := by
  intro p l e R s m args below meth c H locs cells slots mc ms ls hX hσ hl hc hs
  exact lv_lstore_n hX.1.1 hX.1.2.1 d hi hl hn hl2 (fun ls hl => k _ _ _ _ _ _ _ _ _ _ _ _ _ _ _ _ _ hX hσ hl hc hs)

theorem aw_lstore {G : ZG} {C : AWC} {Q : Option Value → ZS → Prop} {X : String → Nat → ZS → Prop} {kc ks pc : Nat} {lo lo2 : List (Nat × Value)} {st : List Value} {σ : ZS} {i : Nat} {x : Int64} (d : decode C.2.1 pc = .ok (.lstore i, 2)) (hn : i + 1 < C.2.2.1) (hl2 : (i, Value.long x) :: lo.filter (fun q => !(q.1 == i) && (!(q.1 == i + 1) && !(q.1 + 1 == i && q.2.category == 2))) = lo2) (k : AW G C Q X kc ks (pc + 2) lo2 st σ) : AW G C Q X kc ks pc lo (.long x :: st) σ := by
  intro p l e R s m args below meth c H locs cells slots mc ms ls hX hσ hl hc hs
  exact lv_lstore hX.1.1 hX.1.2.1 d hl hn hl2 (fun ls hl => k _ _ _ _ _ _ _ _ _ _ _ _ _ _ _ _ _ hX hσ hl hc hs)

theorem aw_fstore_n {G : ZG} {C : AWC} {Q : Option Value → ZS → Prop} {X : String → Nat → ZS → Prop} {kc ks pc : Nat} {lo lo2 : List (Nat × Value)} {st : List Value} {σ : ZS} {n : Fin 4} {i : Nat} {x : UInt32} (d : decode C.2.1 pc = .ok (.fstore_n n, 1)) (hi : (n : Nat) = i) (hn : i < C.2.2.1) (hl2 : (i, Value.float x) :: lo.filter (fun q => !(q.1 == i) && !(q.1 + 1 == i && q.2.category == 2)) = lo2) (k : AW G C Q X kc ks (pc + 1) lo2 st σ) : AW G C Q X kc ks pc lo (.float x :: st) σ := by
  intro p l e R s m args below meth c H locs cells slots mc ms ls hX hσ hl hc hs
  exact lv_fstore_n hX.1.1 hX.1.2.1 d hi hl hn hl2 (fun ls hl => k _ _ _ _ _ _ _ _ _ _ _ _ _ _ _ _ _ hX hσ hl hc hs)

theorem aw_fstore {G : ZG} {C : AWC} {Q : Option Value → ZS → Prop} {X : String → Nat → ZS → Prop} {kc ks pc : Nat} {lo lo2 : List (Nat × Value)} {st : List Value} {σ : ZS} {i : Nat} {x : UInt32} (d : decode C.2.1 pc = .ok (.fstore i, 2)) (hn : i < C.2.2.1) (hl2 : (i, Value.float x) :: lo.filter (fun q => !(q.1 == i) && !(q.1 + 1 == i && q.2.category == 2)) = lo2) (k : AW G C Q X kc ks (pc + 2) lo2 st σ) : AW G C Q X kc ks pc lo (.float x :: st) σ := by
  intro p l e R s m args below meth c H locs cells slots mc ms ls hX hσ hl hc hs
  exact lv_fstore hX.1.1 hX.1.2.1 d hl hn hl2 (fun ls hl => k _ _ _ _ _ _ _ _ _ _ _ _ _ _ _ _ _ hX hσ hl hc hs)

theorem aw_dstore_n {G : ZG} {C : AWC} {Q : Option Value → ZS → Prop} {X : String → Nat → ZS → Prop} {kc ks pc : Nat} {lo lo2 : List (Nat × Value)} {st : List Value} {σ : ZS} {n : Fin 4} {i : Nat} {x : UInt64} (d : decode C.2.1 pc = .ok (.dstore_n n, 1)) (hi : (n : Nat) = i) (hn : i + 1 < C.2.2.1) (hl2 : (i, Value.double x) :: lo.filter (fun q => !(q.1 == i) && (!(q.1 == i + 1) && !(q.1 + 1 == i && q.2.category == 2))) = lo2) (k : AW G C Q X kc ks (pc + 1) lo2 st σ) : AW G C Q X kc ks pc lo (.double x :: st) σ := by
  intro p l e R s m args below meth c H locs cells slots mc ms ls hX hσ hl hc hs
  exact lv_dstore_n hX.1.1 hX.1.2.1 d hi hl hn hl2 (fun ls hl => k _ _ _ _ _ _ _ _ _ _ _ _ _ _ _ _ _ hX hσ hl hc hs)

theorem aw_dstore {G : ZG} {C : AWC} {Q : Option Value → ZS → Prop} {X : String → Nat → ZS → Prop} {kc ks pc : Nat} {lo lo2 : List (Nat × Value)} {st : List Value} {σ : ZS} {i : Nat} {x : UInt64} (d : decode C.2.1 pc = .ok (.dstore i, 2)) (hn : i + 1 < C.2.2.1) (hl2 : (i, Value.double x) :: lo.filter (fun q => !(q.1 == i) && (!(q.1 == i + 1) && !(q.1 + 1 == i && q.2.category == 2))) = lo2) (k : AW G C Q X kc ks (pc + 2) lo2 st σ) : AW G C Q X kc ks pc lo (.double x :: st) σ := by
  intro p l e R s m args below meth c H locs cells slots mc ms ls hX hσ hl hc hs
  exact lv_dstore hX.1.1 hX.1.2.1 d hl hn hl2 (fun ls hl => k _ _ _ _ _ _ _ _ _ _ _ _ _ _ _ _ _ hX hσ hl hc hs)

theorem aw_astore_n {G : ZG} {C : AWC} {Q : Option Value → ZS → Prop} {X : String → Nat → ZS → Prop} {kc ks pc : Nat} {lo lo2 : List (Nat × Value)} {st : List Value} {σ : ZS} {n : Fin 4} {i : Nat} {x : Option Nat} (d : decode C.2.1 pc = .ok (.astore_n n, 1)) (hi : (n : Nat) = i) (hn : i < C.2.2.1) (hl2 : (i, va_rf x) :: lo.filter (fun q => !(q.1 == i) && !(q.1 + 1 == i && q.2.category == 2)) = lo2) (k : AW G C Q X kc ks (pc + 1) lo2 st σ) : AW G C Q X kc ks pc lo (va_rf x :: st) σ := by
  intro p l e R s m args below meth c H locs cells slots mc ms ls hX hσ hl hc hs
  cases x with
  | none => exact lv_astore_nN hX.1.1 hX.1.2.1 d hi hl hn hl2 (fun ls hl => k _ _ _ _ _ _ _ _ _ _ _ _ _ _ _ _ _ hX hσ hl hc hs)
  | some x => exact lv_astore_n hX.1.1 hX.1.2.1 d hi hl hn hl2 (fun ls hl => k _ _ _ _ _ _ _ _ _ _ _ _ _ _ _ _ _ hX hσ hl hc hs)

theorem aw_astore {G : ZG} {C : AWC} {Q : Option Value → ZS → Prop} {X : String → Nat → ZS → Prop} {kc ks pc : Nat} {lo lo2 : List (Nat × Value)} {st : List Value} {σ : ZS} {i : Nat} {x : Option Nat} (d : decode C.2.1 pc = .ok (.astore i, 2)) (hn : i < C.2.2.1) (hl2 : (i, va_rf x) :: lo.filter (fun q => !(q.1 == i) && !(q.1 + 1 == i && q.2.category == 2)) = lo2) (k : AW G C Q X kc ks (pc + 2) lo2 st σ) : AW G C Q X kc ks pc lo (va_rf x :: st) σ := by
  intro p l e R s m args below meth c H locs cells slots mc ms ls hX hσ hl hc hs
  cases x with
  | none => exact lv_astoreN hX.1.1 hX.1.2.1 d hl hn hl2 (fun ls hl => k _ _ _ _ _ _ _ _ _ _ _ _ _ _ _ _ _ hX hσ hl hc hs)
  | some x => exact lv_astore hX.1.1 hX.1.2.1 d hl hn hl2 (fun ls hl => k _ _ _ _ _ _ _ _ _ _ _ _ _ _ _ _ _ hX hσ hl hc hs)

theorem aw_iconst {G : ZG} {C : AWC} {Q : Option Value → ZS → Prop} {X : String → Nat → ZS → Prop} {kc ks pc : Nat} {lo : List (Nat × Value)} {st : List Value} {σ : ZS} {n : Int} {v : Int32} (d : decode C.2.1 pc = .ok (.iconst n, 1)) (hv : Int32.ofInt n = v) (k : AW G C Q X kc ks (pc + 1) lo (.int v :: st) σ) : AW G C Q X kc ks pc lo (st) σ := by
  intro p l e R s m args below meth c H locs cells slots mc ms ls hX hσ hl hc hs
  exact lv_iconst hX.1.1 hX.1.2.1 d hv (k _ _ _ _ _ _ _ _ _ _ _ _ _ _ _ _ _ hX hσ hl hc hs)

theorem aw_bipush {G : ZG} {C : AWC} {Q : Option Value → ZS → Prop} {X : String → Nat → ZS → Prop} {kc ks pc : Nat} {lo : List (Nat × Value)} {st : List Value} {σ : ZS} {n : Int} {v : Int32} (d : decode C.2.1 pc = .ok (.bipush n, 2)) (hv : (Int8.ofInt n).toInt32 = v) (k : AW G C Q X kc ks (pc + 2) lo (.int v :: st) σ) : AW G C Q X kc ks pc lo (st) σ := by
  intro p l e R s m args below meth c H locs cells slots mc ms ls hX hσ hl hc hs
  exact lv_bipush hX.1.1 hX.1.2.1 d hv (k _ _ _ _ _ _ _ _ _ _ _ _ _ _ _ _ _ hX hσ hl hc hs)

theorem aw_sipush {G : ZG} {C : AWC} {Q : Option Value → ZS → Prop} {X : String → Nat → ZS → Prop} {kc ks pc : Nat} {lo : List (Nat × Value)} {st : List Value} {σ : ZS} {n : Int} {v : Int32} (d : decode C.2.1 pc = .ok (.sipush n, 3)) (hv : (Int16.ofInt n).toInt32 = v) (k : AW G C Q X kc ks (pc + 3) lo (.int v :: st) σ) : AW G C Q X kc ks pc lo (st) σ := by
  intro p l e R s m args below meth c H locs cells slots mc ms ls hX hσ hl hc hs
  exact lv_sipush hX.1.1 hX.1.2.1 d hv (k _ _ _ _ _ _ _ _ _ _ _ _ _ _ _ _ _ hX hσ hl hc hs)

theorem aw_lconst {G : ZG} {C : AWC} {Q : Option Value → ZS → Prop} {X : String → Nat → ZS → Prop} {kc ks pc : Nat} {lo : List (Nat × Value)} {st : List Value} {σ : ZS} {n : Fin 2} {v : Int64} (d : decode C.2.1 pc = .ok (.lconst n, 1)) (hv : Int64.ofNat (n : Nat) = v) (k : AW G C Q X kc ks (pc + 1) lo (.long v :: st) σ) : AW G C Q X kc ks pc lo (st) σ := by
  intro p l e R s m args below meth c H locs cells slots mc ms ls hX hσ hl hc hs
  exact lv_lconst hX.1.1 hX.1.2.1 d hv (k _ _ _ _ _ _ _ _ _ _ _ _ _ _ _ _ _ hX hσ hl hc hs)

theorem aw_fconst0 {G : ZG} {C : AWC} {Q : Option Value → ZS → Prop} {X : String → Nat → ZS → Prop} {kc ks pc : Nat} {lo : List (Nat × Value)} {st : List Value} {σ : ZS}  (d : decode C.2.1 pc = .ok (.fconst 0, 1))  (k : AW G C Q X kc ks (pc + 1) lo (.float FP.fconst0 :: st) σ) : AW G C Q X kc ks pc lo (st) σ := by
  intro p l e R s m args below meth c H locs cells slots mc ms ls hX hσ hl hc hs
  exact lv_fconst0 hX.1.1 hX.1.2.1 d (k _ _ _ _ _ _ _ _ _ _ _ _ _ _ _ _ _ hX hσ hl hc hs)

theorem aw_fconst1 {G : ZG} {C : AWC} {Q : Option Value → ZS → Prop} {X : String → Nat → ZS → Prop} {kc ks pc : Nat} {lo : List (Nat × Value)} {st : List Value} {σ : ZS}  (d : decode C.2.1 pc = .ok (.fconst 1, 1))  (k : AW G C Q X kc ks (pc + 1) lo (.float FP.fconst1 :: st) σ) : AW G C Q X kc ks pc lo (st) σ := by
  intro p l e R s m args below meth c H locs cells slots mc ms ls hX hσ hl hc hs
  exact lv_fconst1 hX.1.1 hX.1.2.1 d (k _ _ _ _ _ _ _ _ _ _ _ _ _ _ _ _ _ hX hσ hl hc hs)

theorem aw_dconst0 {G : ZG} {C : AWC} {Q : Option Value → ZS → Prop} {X : String → Nat → ZS → Prop} {kc ks pc : Nat} {lo : List (Nat × Value)} {st : List Value} {σ : ZS}  (d : decode C.2.1 pc = .ok (.dconst 0, 1))  (k : AW G C Q X kc ks (pc + 1) lo (.double FP.dconst0 :: st) σ) : AW G C Q X kc ks pc lo (st) σ := by
  intro p l e R s m args below meth c H locs cells slots mc ms ls hX hσ hl hc hs
  exact lv_dconst0 hX.1.1 hX.1.2.1 d (k _ _ _ _ _ _ _ _ _ _ _ _ _ _ _ _ _ hX hσ hl hc hs)

theorem aw_dconst1 {G : ZG} {C : AWC} {Q : Option Value → ZS → Prop} {X : String → Nat → ZS → Prop} {kc ks pc : Nat} {lo : List (Nat × Value)} {st : List Value} {σ : ZS}  (d : decode C.2.1 pc = .ok (.dconst 1, 1))  (k : AW G C Q X kc ks (pc + 1) lo (.double FP.dconst1 :: st) σ) : AW G C Q X kc ks pc lo (st) σ := by
  intro p l e R s m args below meth c H locs cells slots mc ms ls hX hσ hl hc hs
  exact lv_dconst1 hX.1.1 hX.1.2.1 d (k _ _ _ _ _ _ _ _ _ _ _ _ _ _ _ _ _ hX hσ hl hc hs)

theorem aw_null {G : ZG} {C : AWC} {Q : Option Value → ZS → Prop} {X : String → Nat → ZS → Prop} {kc ks pc : Nat} {lo : List (Nat × Value)} {st : List Value} {σ : ZS}  (d : decode C.2.1 pc = .ok (.aconst_null, 1))  (k : AW G C Q X kc ks (pc + 1) lo (va_rf none :: st) σ) : AW G C Q X kc ks pc lo (st) σ := by
  intro p l e R s m args below meth c H locs cells slots mc ms ls hX hσ hl hc hs
  exact lv_null hX.1.1 hX.1.2.1 d (k _ _ _ _ _ _ _ _ _ _ _ _ _ _ _ _ _ hX hσ hl hc hs)

theorem aw_ldc {G : ZG} {C : AWC} {Q : Option Value → ZS → Prop} {X : String → Nat → ZS → Prop} {kc ks pc : Nat} {lo : List (Nat × Value)} {st : List Value} {σ : ZS} {ix : Nat} {v : Int32} (d : decode C.2.1 pc = .ok (.ldc ix, 2)) (q : Cond.constant C.1 ix v ∈ lw_all) (k : AW G C Q X kc ks (pc + 2) lo (.int v :: st) σ) : AW G C Q X kc ks pc lo (st) σ := by
  intro p l e R s m args below meth c H locs cells slots mc ms ls hX hσ hl hc hs
  exact lv_ldc hX.1.1 hX.1.2.1 hX.1.2.2.2.1 (hX.1.2.2.2.2 _ q) d (k _ _ _ _ _ _ _ _ _ _ _ _ _ _ _ _ _ hX hσ hl hc hs)

theorem aw_ldcw {G : ZG} {C : AWC} {Q : Option Value → ZS → Prop} {X : String → Nat → ZS → Prop} {kc ks pc : Nat} {lo : List (Nat × Value)} {st : List Value} {σ : ZS} {ix : Nat} {v : Int32} (d : decode C.2.1 pc = .ok (.ldc_w ix, 3)) (q : Cond.constant C.1 ix v ∈ lw_all) (k : AW G C Q X kc ks (pc + 3) lo (.int v :: st) σ) : AW G C Q X kc ks pc lo (st) σ := by
  intro p l e R s m args below meth c H locs cells slots mc ms ls hX hσ hl hc hs
  exact lv_ldcw hX.1.1 hX.1.2.1 hX.1.2.2.2.1 (hX.1.2.2.2.2 _ q) d (k _ _ _ _ _ _ _ _ _ _ _ _ _ _ _ _ _ hX hσ hl hc hs)

theorem aw_ldc2 {G : ZG} {C : AWC} {Q : Option Value → ZS → Prop} {X : String → Nat → ZS → Prop} {kc ks pc : Nat} {lo : List (Nat × Value)} {st : List Value} {σ : ZS} {ix : Nat} {v : Int64} (d : decode C.2.1 pc = .ok (.ldc2_w ix, 3)) (q : Cond.constantLong C.1 ix v ∈ lw_all) (k : AW G C Q X kc ks (pc + 3) lo (.long v :: st) σ) : AW G C Q X kc ks pc lo (st) σ := by
  intro p l e R s m args below meth c H locs cells slots mc ms ls hX hσ hl hc hs
  exact lv_ldc2 hX.1.1 hX.1.2.1 hX.1.2.2.2.1 (hX.1.2.2.2.2 _ q) d (k _ _ _ _ _ _ _ _ _ _ _ _ _ _ _ _ _ hX hσ hl hc hs)

theorem aw_ldcf {G : ZG} {C : AWC} {Q : Option Value → ZS → Prop} {X : String → Nat → ZS → Prop} {kc ks pc : Nat} {lo : List (Nat × Value)} {st : List Value} {σ : ZS} {ix : Nat} {v : UInt32} (d : decode C.2.1 pc = .ok (.ldc ix, 2)) (q : Cond.constantFloat C.1 ix v ∈ lw_all) (k : AW G C Q X kc ks (pc + 2) lo (.float v :: st) σ) : AW G C Q X kc ks pc lo (st) σ := by
  intro p l e R s m args below meth c H locs cells slots mc ms ls hX hσ hl hc hs
  exact lv_ldcf hX.1.1 hX.1.2.1 hX.1.2.2.2.1 (hX.1.2.2.2.2 _ q) d (k _ _ _ _ _ _ _ _ _ _ _ _ _ _ _ _ _ hX hσ hl hc hs)

theorem aw_ldc2d {G : ZG} {C : AWC} {Q : Option Value → ZS → Prop} {X : String → Nat → ZS → Prop} {kc ks pc : Nat} {lo : List (Nat × Value)} {st : List Value} {σ : ZS} {ix : Nat} {v : UInt64} (d : decode C.2.1 pc = .ok (.ldc2_w ix, 3)) (q : Cond.constantDouble C.1 ix v ∈ lw_all) (k : AW G C Q X kc ks (pc + 3) lo (.double v :: st) σ) : AW G C Q X kc ks pc lo (st) σ := by
  intro p l e R s m args below meth c H locs cells slots mc ms ls hX hσ hl hc hs
  exact lv_ldc2d hX.1.1 hX.1.2.1 hX.1.2.2.2.1 (hX.1.2.2.2.2 _ q) d (k _ _ _ _ _ _ _ _ _ _ _ _ _ _ _ _ _ hX hσ hl hc hs)

theorem aw_iadd {G : ZG} {C : AWC} {Q : Option Value → ZS → Prop} {X : String → Nat → ZS → Prop} {kc ks pc : Nat} {lo : List (Nat × Value)} {st : List Value} {σ : ZS} {x y : Int32} (d : decode C.2.1 pc = .ok (.iadd, 1))  (k : AW G C Q X kc ks (pc + 1) lo (.int (x + y) :: st) σ) : AW G C Q X kc ks pc lo (.int y :: .int x :: st) σ := by
  intro p l e R s m args below meth c H locs cells slots mc ms ls hX hσ hl hc hs
  exact lv_iadd hX.1.1 hX.1.2.1 d (k _ _ _ _ _ _ _ _ _ _ _ _ _ _ _ _ _ hX hσ hl hc hs)

theorem aw_isub {G : ZG} {C : AWC} {Q : Option Value → ZS → Prop} {X : String → Nat → ZS → Prop} {kc ks pc : Nat} {lo : List (Nat × Value)} {st : List Value} {σ : ZS} {x y : Int32} (d : decode C.2.1 pc = .ok (.isub, 1))  (k : AW G C Q X kc ks (pc + 1) lo (.int (x - y) :: st) σ) : AW G C Q X kc ks pc lo (.int y :: .int x :: st) σ := by
  intro p l e R s m args below meth c H locs cells slots mc ms ls hX hσ hl hc hs
  exact lv_isub hX.1.1 hX.1.2.1 d (k _ _ _ _ _ _ _ _ _ _ _ _ _ _ _ _ _ hX hσ hl hc hs)

theorem aw_imul {G : ZG} {C : AWC} {Q : Option Value → ZS → Prop} {X : String → Nat → ZS → Prop} {kc ks pc : Nat} {lo : List (Nat × Value)} {st : List Value} {σ : ZS} {x y : Int32} (d : decode C.2.1 pc = .ok (.imul, 1))  (k : AW G C Q X kc ks (pc + 1) lo (.int (x * y) :: st) σ) : AW G C Q X kc ks pc lo (.int y :: .int x :: st) σ := by
  intro p l e R s m args below meth c H locs cells slots mc ms ls hX hσ hl hc hs
  exact lv_imul hX.1.1 hX.1.2.1 d (k _ _ _ _ _ _ _ _ _ _ _ _ _ _ _ _ _ hX hσ hl hc hs)

theorem aw_iand {G : ZG} {C : AWC} {Q : Option Value → ZS → Prop} {X : String → Nat → ZS → Prop} {kc ks pc : Nat} {lo : List (Nat × Value)} {st : List Value} {σ : ZS} {x y : Int32} (d : decode C.2.1 pc = .ok (.iand, 1))  (k : AW G C Q X kc ks (pc + 1) lo (.int (x &&& y) :: st) σ) : AW G C Q X kc ks pc lo (.int y :: .int x :: st) σ := by
  intro p l e R s m args below meth c H locs cells slots mc ms ls hX hσ hl hc hs
  exact lv_iand hX.1.1 hX.1.2.1 d (k _ _ _ _ _ _ _ _ _ _ _ _ _ _ _ _ _ hX hσ hl hc hs)

theorem aw_ior {G : ZG} {C : AWC} {Q : Option Value → ZS → Prop} {X : String → Nat → ZS → Prop} {kc ks pc : Nat} {lo : List (Nat × Value)} {st : List Value} {σ : ZS} {x y : Int32} (d : decode C.2.1 pc = .ok (.ior, 1))  (k : AW G C Q X kc ks (pc + 1) lo (.int (x ||| y) :: st) σ) : AW G C Q X kc ks pc lo (.int y :: .int x :: st) σ := by
  intro p l e R s m args below meth c H locs cells slots mc ms ls hX hσ hl hc hs
  exact lv_ior hX.1.1 hX.1.2.1 d (k _ _ _ _ _ _ _ _ _ _ _ _ _ _ _ _ _ hX hσ hl hc hs)

theorem aw_ixor {G : ZG} {C : AWC} {Q : Option Value → ZS → Prop} {X : String → Nat → ZS → Prop} {kc ks pc : Nat} {lo : List (Nat × Value)} {st : List Value} {σ : ZS} {x y : Int32} (d : decode C.2.1 pc = .ok (.ixor, 1))  (k : AW G C Q X kc ks (pc + 1) lo (.int (x ^^^ y) :: st) σ) : AW G C Q X kc ks pc lo (.int y :: .int x :: st) σ := by
  intro p l e R s m args below meth c H locs cells slots mc ms ls hX hσ hl hc hs
  exact lv_ixor hX.1.1 hX.1.2.1 d (k _ _ _ _ _ _ _ _ _ _ _ _ _ _ _ _ _ hX hσ hl hc hs)

theorem aw_ishl {G : ZG} {C : AWC} {Q : Option Value → ZS → Prop} {X : String → Nat → ZS → Prop} {kc ks pc : Nat} {lo : List (Nat × Value)} {st : List Value} {σ : ZS} {x y : Int32} (d : decode C.2.1 pc = .ok (.ishl, 1))  (k : AW G C Q X kc ks (pc + 1) lo (.int (x <<< (y &&& 31)) :: st) σ) : AW G C Q X kc ks pc lo (.int y :: .int x :: st) σ := by
  intro p l e R s m args below meth c H locs cells slots mc ms ls hX hσ hl hc hs
  exact lv_ishl hX.1.1 hX.1.2.1 d (k _ _ _ _ _ _ _ _ _ _ _ _ _ _ _ _ _ hX hσ hl hc hs)

theorem aw_ishr {G : ZG} {C : AWC} {Q : Option Value → ZS → Prop} {X : String → Nat → ZS → Prop} {kc ks pc : Nat} {lo : List (Nat × Value)} {st : List Value} {σ : ZS} {x y : Int32} (d : decode C.2.1 pc = .ok (.ishr, 1))  (k : AW G C Q X kc ks (pc + 1) lo (.int (x >>> (y &&& 31)) :: st) σ) : AW G C Q X kc ks pc lo (.int y :: .int x :: st) σ := by
  intro p l e R s m args below meth c H locs cells slots mc ms ls hX hσ hl hc hs
  exact lv_ishr hX.1.1 hX.1.2.1 d (k _ _ _ _ _ _ _ _ _ _ _ _ _ _ _ _ _ hX hσ hl hc hs)

theorem aw_idiv {G : ZG} {C : AWC} {Q : Option Value → ZS → Prop} {X : String → Nat → ZS → Prop} {kc ks pc : Nat} {lo : List (Nat × Value)} {st : List Value} {σ : ZS} {x y : Int32} (d : decode C.2.1 pc = .ok (.idiv, 1)) (hy : ¬ y = 0) (k : AW G C Q X kc ks (pc + 1) lo (.int (x / y) :: st) σ) : AW G C Q X kc ks pc lo (.int y :: .int x :: st) σ := by
  intro p l e R s m args below meth c H locs cells slots mc ms ls hX hσ hl hc hs
  exact lv_idiv hX.1.1 hX.1.2.1 d hy (k _ _ _ _ _ _ _ _ _ _ _ _ _ _ _ _ _ hX hσ hl hc hs)

theorem aw_irem {G : ZG} {C : AWC} {Q : Option Value → ZS → Prop} {X : String → Nat → ZS → Prop} {kc ks pc : Nat} {lo : List (Nat × Value)} {st : List Value} {σ : ZS} {x y : Int32} (d : decode C.2.1 pc = .ok (.irem, 1)) (hy : ¬ y = 0) (k : AW G C Q X kc ks (pc + 1) lo (.int (x - x / y * y) :: st) σ) : AW G C Q X kc ks pc lo (.int y :: .int x :: st) σ := by
  intro p l e R s m args below meth c H locs cells slots mc ms ls hX hσ hl hc hs
  exact lv_irem hX.1.1 hX.1.2.1 d hy (k _ _ _ _ _ _ _ _ _ _ _ _ _ _ _ _ _ hX hσ hl hc hs)

theorem aw_ineg {G : ZG} {C : AWC} {Q : Option Value → ZS → Prop} {X : String → Nat → ZS → Prop} {kc ks pc : Nat} {lo : List (Nat × Value)} {st : List Value} {σ : ZS} {x : Int32} (d : decode C.2.1 pc = .ok (.ineg, 1))  (k : AW G C Q X kc ks (pc + 1) lo (.int (-x) :: st) σ) : AW G C Q X kc ks pc lo (.int x :: st) σ := by
  intro p l e R s m args below meth c H locs cells slots mc ms ls hX hσ hl hc hs
  exact lv_ineg hX.1.1 hX.1.2.1 d (k _ _ _ _ _ _ _ _ _ _ _ _ _ _ _ _ _ hX hσ hl hc hs)

theorem aw_iushr {G : ZG} {C : AWC} {Q : Option Value → ZS → Prop} {X : String → Nat → ZS → Prop} {kc ks pc : Nat} {lo : List (Nat × Value)} {st : List Value} {σ : ZS} {x y : Int32} (d : decode C.2.1 pc = .ok (.iushr, 1))  (k : AW G C Q X kc ks (pc + 1) lo (.int ((x.toUInt32 >>> (y.toUInt32 &&& Int32.toUInt32 31)).toInt32) :: st) σ) : AW G C Q X kc ks pc lo (.int y :: .int x :: st) σ := by
  intro p l e R s m args below meth c H locs cells slots mc ms ls hX hσ hl hc hs
  exact lv_iushr hX.1.1 hX.1.2.1 d rfl (k _ _ _ _ _ _ _ _ _ _ _ _ _ _ _ _ _ hX hσ hl hc hs)

theorem aw_ladd {G : ZG} {C : AWC} {Q : Option Value → ZS → Prop} {X : String → Nat → ZS → Prop} {kc ks pc : Nat} {lo : List (Nat × Value)} {st : List Value} {σ : ZS} {x y : Int64} (d : decode C.2.1 pc = .ok (.ladd, 1))  (k : AW G C Q X kc ks (pc + 1) lo (.long (x + y) :: st) σ) : AW G C Q X kc ks pc lo (.long y :: .long x :: st) σ := by
  intro p l e R s m args below meth c H locs cells slots mc ms ls hX hσ hl hc hs
  exact lv_ladd hX.1.1 hX.1.2.1 d (k _ _ _ _ _ _ _ _ _ _ _ _ _ _ _ _ _ hX hσ hl hc hs)

theorem aw_lsub {G : ZG} {C : AWC} {Q : Option Value → ZS → Prop} {X : String → Nat → ZS → Prop} {kc ks pc : Nat} {lo : List (Nat × Value)} {st : List Value} {σ : ZS} {x y : Int64} (d : decode C.2.1 pc = .ok (.lsub, 1))  (k : AW G C Q X kc ks (pc + 1) lo (.long (x - y) :: st) σ) : AW G C Q X kc ks pc lo (.long y :: .long x :: st) σ := by
  intro p l e R s m args below meth c H locs cells slots mc ms ls hX hσ hl hc hs
  exact lv_lsub hX.1.1 hX.1.2.1 d (k _ _ _ _ _ _ _ _ _ _ _ _ _ _ _ _ _ hX hσ hl hc hs)

theorem aw_lmul {G : ZG} {C : AWC} {Q : Option Value → ZS → Prop} {X : String → Nat → ZS → Prop} {kc ks pc : Nat} {lo : List (Nat × Value)} {st : List Value} {σ : ZS} {x y : Int64} (d : decode C.2.1 pc = .ok (.lmul, 1))  (k : AW G C Q X kc ks (pc + 1) lo (.long (x * y) :: st) σ) : AW G C Q X kc ks pc lo (.long y :: .long x :: st) σ := by
  intro p l e R s m args below meth c H locs cells slots mc ms ls hX hσ hl hc hs
  exact lv_lmul hX.1.1 hX.1.2.1 d (k _ _ _ _ _ _ _ _ _ _ _ _ _ _ _ _ _ hX hσ hl hc hs)

theorem aw_land {G : ZG} {C : AWC} {Q : Option Value → ZS → Prop} {X : String → Nat → ZS → Prop} {kc ks pc : Nat} {lo : List (Nat × Value)} {st : List Value} {σ : ZS} {x y : Int64} (d : decode C.2.1 pc = .ok (.land, 1))  (k : AW G C Q X kc ks (pc + 1) lo (.long (x &&& y) :: st) σ) : AW G C Q X kc ks pc lo (.long y :: .long x :: st) σ := by
  intro p l e R s m args below meth c H locs cells slots mc ms ls hX hσ hl hc hs
  exact lv_land hX.1.1 hX.1.2.1 d (k _ _ _ _ _ _ _ _ _ _ _ _ _ _ _ _ _ hX hσ hl hc hs)

theorem aw_lor {G : ZG} {C : AWC} {Q : Option Value → ZS → Prop} {X : String → Nat → ZS → Prop} {kc ks pc : Nat} {lo : List (Nat × Value)} {st : List Value} {σ : ZS} {x y : Int64} (d : decode C.2.1 pc = .ok (.lor, 1))  (k : AW G C Q X kc ks (pc + 1) lo (.long (x ||| y) :: st) σ) : AW G C Q X kc ks pc lo (.long y :: .long x :: st) σ := by
  intro p l e R s m args below meth c H locs cells slots mc ms ls hX hσ hl hc hs
  exact lv_lor hX.1.1 hX.1.2.1 d (k _ _ _ _ _ _ _ _ _ _ _ _ _ _ _ _ _ hX hσ hl hc hs)

theorem aw_lxor {G : ZG} {C : AWC} {Q : Option Value → ZS → Prop} {X : String → Nat → ZS → Prop} {kc ks pc : Nat} {lo : List (Nat × Value)} {st : List Value} {σ : ZS} {x y : Int64} (d : decode C.2.1 pc = .ok (.lxor, 1))  (k : AW G C Q X kc ks (pc + 1) lo (.long (x ^^^ y) :: st) σ) : AW G C Q X kc ks pc lo (.long y :: .long x :: st) σ := by
  intro p l e R s m args below meth c H locs cells slots mc ms ls hX hσ hl hc hs
  exact lv_lxor hX.1.1 hX.1.2.1 d (k _ _ _ _ _ _ _ _ _ _ _ _ _ _ _ _ _ hX hσ hl hc hs)

theorem aw_ldiv {G : ZG} {C : AWC} {Q : Option Value → ZS → Prop} {X : String → Nat → ZS → Prop} {kc ks pc : Nat} {lo : List (Nat × Value)} {st : List Value} {σ : ZS} {x y : Int64} (d : decode C.2.1 pc = .ok (.ldiv, 1)) (hy : ¬ y = 0) (k : AW G C Q X kc ks (pc + 1) lo (.long (x / y) :: st) σ) : AW G C Q X kc ks pc lo (.long y :: .long x :: st) σ := by
  intro p l e R s m args below meth c H locs cells slots mc ms ls hX hσ hl hc hs
  exact lv_ldiv hX.1.1 hX.1.2.1 d hy (k _ _ _ _ _ _ _ _ _ _ _ _ _ _ _ _ _ hX hσ hl hc hs)

theorem aw_lrem {G : ZG} {C : AWC} {Q : Option Value → ZS → Prop} {X : String → Nat → ZS → Prop} {kc ks pc : Nat} {lo : List (Nat × Value)} {st : List Value} {σ : ZS} {x y : Int64} (d : decode C.2.1 pc = .ok (.lrem, 1)) (hy : ¬ y = 0) (k : AW G C Q X kc ks (pc + 1) lo (.long (x - x / y * y) :: st) σ) : AW G C Q X kc ks pc lo (.long y :: .long x :: st) σ := by
  intro p l e R s m args below meth c H locs cells slots mc ms ls hX hσ hl hc hs
  exact lv_lrem hX.1.1 hX.1.2.1 d hy (k _ _ _ _ _ _ _ _ _ _ _ _ _ _ _ _ _ hX hσ hl hc hs)

theorem aw_lneg {G : ZG} {C : AWC} {Q : Option Value → ZS → Prop} {X : String → Nat → ZS → Prop} {kc ks pc : Nat} {lo : List (Nat × Value)} {st : List Value} {σ : ZS} {x : Int64} (d : decode C.2.1 pc = .ok (.lneg, 1))  (k : AW G C Q X kc ks (pc + 1) lo (.long (-x) :: st) σ) : AW G C Q X kc ks pc lo (.long x :: st) σ := by
  intro p l e R s m args below meth c H locs cells slots mc ms ls hX hσ hl hc hs
  exact lv_lneg hX.1.1 hX.1.2.1 d (k _ _ _ _ _ _ _ _ _ _ _ _ _ _ _ _ _ hX hσ hl hc hs)

theorem aw_lshl {G : ZG} {C : AWC} {Q : Option Value → ZS → Prop} {X : String → Nat → ZS → Prop} {kc ks pc : Nat} {lo : List (Nat × Value)} {st : List Value} {σ : ZS} {x : Int64} {y : Int32} (d : decode C.2.1 pc = .ok (.lshl, 1))  (k : AW G C Q X kc ks (pc + 1) lo (.long (x <<< (y.toInt64 &&& 63)) :: st) σ) : AW G C Q X kc ks pc lo (.int y :: .long x :: st) σ := by
  intro p l e R s m args below meth c H locs cells slots mc ms ls hX hσ hl hc hs
  exact lv_lshl hX.1.1 hX.1.2.1 d rfl (k _ _ _ _ _ _ _ _ _ _ _ _ _ _ _ _ _ hX hσ hl hc hs)

theorem aw_lshr {G : ZG} {C : AWC} {Q : Option Value → ZS → Prop} {X : String → Nat → ZS → Prop} {kc ks pc : Nat} {lo : List (Nat × Value)} {st : List Value} {σ : ZS} {x : Int64} {y : Int32} (d : decode C.2.1 pc = .ok (.lshr, 1))  (k : AW G C Q X kc ks (pc + 1) lo (.long (x >>> (y.toInt64 &&& 63)) :: st) σ) : AW G C Q X kc ks pc lo (.int y :: .long x :: st) σ := by
  intro p l e R s m args below meth c H locs cells slots mc ms ls hX hσ hl hc hs
  exact lv_lshr hX.1.1 hX.1.2.1 d rfl (k _ _ _ _ _ _ _ _ _ _ _ _ _ _ _ _ _ hX hσ hl hc hs)

theorem aw_lushr {G : ZG} {C : AWC} {Q : Option Value → ZS → Prop} {X : String → Nat → ZS → Prop} {kc ks pc : Nat} {lo : List (Nat × Value)} {st : List Value} {σ : ZS} {x : Int64} {y : Int32} (d : decode C.2.1 pc = .ok (.lushr, 1))  (k : AW G C Q X kc ks (pc + 1) lo (.long ((x.toUInt64 >>> (y.toInt64.toUInt64 &&& Int64.toUInt64 63)).toInt64) :: st) σ) : AW G C Q X kc ks pc lo (.int y :: .long x :: st) σ := by
  intro p l e R s m args below meth c H locs cells slots mc ms ls hX hσ hl hc hs
  exact lv_lushr hX.1.1 hX.1.2.1 d rfl (k _ _ _ _ _ _ _ _ _ _ _ _ _ _ _ _ _ hX hσ hl hc hs)

theorem aw_lcmp {G : ZG} {C : AWC} {Q : Option Value → ZS → Prop} {X : String → Nat → ZS → Prop} {kc ks pc : Nat} {lo : List (Nat × Value)} {st : List Value} {σ : ZS} {x y : Int64} (d : decode C.2.1 pc = .ok (.lcmp, 1))  (k : AW G C Q X kc ks (pc + 1) lo (.int (lg_cmp x y) :: st) σ) : AW G C Q X kc ks pc lo (.long y :: .long x :: st) σ := by
  intro p l e R s m args below meth c H locs cells slots mc ms ls hX hσ hl hc hs
  exact W.lcmp hX.1.1 hX.1.2.1 d (k _ _ _ _ _ _ _ _ _ _ _ _ _ _ _ _ _ hX hσ hl hc hs)

theorem aw_i2l {G : ZG} {C : AWC} {Q : Option Value → ZS → Prop} {X : String → Nat → ZS → Prop} {kc ks pc : Nat} {lo : List (Nat × Value)} {st : List Value} {σ : ZS} {x : Int32} (d : decode C.2.1 pc = .ok (.i2l, 1))  (k : AW G C Q X kc ks (pc + 1) lo (.long (x.toInt64) :: st) σ) : AW G C Q X kc ks pc lo (.int x :: st) σ := by
  intro p l e R s m args below meth c H locs cells slots mc ms ls hX hσ hl hc hs
  exact lv_i2l hX.1.1 hX.1.2.1 d rfl (k _ _ _ _ _ _ _ _ _ _ _ _ _ _ _ _ _ hX hσ hl hc hs)

theorem aw_l2i {G : ZG} {C : AWC} {Q : Option Value → ZS → Prop} {X : String → Nat → ZS → Prop} {kc ks pc : Nat} {lo : List (Nat × Value)} {st : List Value} {σ : ZS} {x : Int64} (d : decode C.2.1 pc = .ok (.l2i, 1))  (k : AW G C Q X kc ks (pc + 1) lo (.int (x.toInt32) :: st) σ) : AW G C Q X kc ks pc lo (.long x :: st) σ := by
  intro p l e R s m args below meth c H locs cells slots mc ms ls hX hσ hl hc hs
  exact lv_l2i hX.1.1 hX.1.2.1 d rfl (k _ _ _ _ _ _ _ _ _ _ _ _ _ _ _ _ _ hX hσ hl hc hs)

theorem aw_i2b {G : ZG} {C : AWC} {Q : Option Value → ZS → Prop} {X : String → Nat → ZS → Prop} {kc ks pc : Nat} {lo : List (Nat × Value)} {st : List Value} {σ : ZS} {x : Int32} (d : decode C.2.1 pc = .ok (.i2b, 1))  (k : AW G C Q X kc ks (pc + 1) lo (.int (x.toInt8.toInt32) :: st) σ) : AW G C Q X kc ks pc lo (.int x :: st) σ := by
  intro p l e R s m args below meth c H locs cells slots mc ms ls hX hσ hl hc hs
  exact lv_i2b hX.1.1 hX.1.2.1 d rfl (k _ _ _ _ _ _ _ _ _ _ _ _ _ _ _ _ _ hX hσ hl hc hs)

theorem aw_i2s {G : ZG} {C : AWC} {Q : Option Value → ZS → Prop} {X : String → Nat → ZS → Prop} {kc ks pc : Nat} {lo : List (Nat × Value)} {st : List Value} {σ : ZS} {x : Int32} (d : decode C.2.1 pc = .ok (.i2s, 1))  (k : AW G C Q X kc ks (pc + 1) lo (.int (x.toInt16.toInt32) :: st) σ) : AW G C Q X kc ks pc lo (.int x :: st) σ := by
  intro p l e R s m args below meth c H locs cells slots mc ms ls hX hσ hl hc hs
  exact lv_i2s hX.1.1 hX.1.2.1 d rfl (k _ _ _ _ _ _ _ _ _ _ _ _ _ _ _ _ _ hX hσ hl hc hs)

theorem aw_i2c {G : ZG} {C : AWC} {Q : Option Value → ZS → Prop} {X : String → Nat → ZS → Prop} {kc ks pc : Nat} {lo : List (Nat × Value)} {st : List Value} {σ : ZS} {x : Int32} (d : decode C.2.1 pc = .ok (.i2c, 1))  (k : AW G C Q X kc ks (pc + 1) lo (.int ((x.toUInt32 % 65536).toInt32) :: st) σ) : AW G C Q X kc ks pc lo (.int x :: st) σ := by
  intro p l e R s m args below meth c H locs cells slots mc ms ls hX hσ hl hc hs
  exact lv_i2c hX.1.1 hX.1.2.1 d rfl (k _ _ _ _ _ _ _ _ _ _ _ _ _ _ _ _ _ hX hσ hl hc hs)

theorem aw_i2f {G : ZG} {C : AWC} {Q : Option Value → ZS → Prop} {X : String → Nat → ZS → Prop} {kc ks pc : Nat} {lo : List (Nat × Value)} {st : List Value} {σ : ZS} {x : Int32} (d : decode C.2.1 pc = .ok (.i2f, 1))  (k : AW G C Q X kc ks (pc + 1) lo (.float (FP.i2f x) :: st) σ) : AW G C Q X kc ks pc lo (.int x :: st) σ := by
  intro p l e R s m args below meth c H locs cells slots mc ms ls hX hσ hl hc hs
  exact lv_i2f hX.1.1 hX.1.2.1 d (k _ _ _ _ _ _ _ _ _ _ _ _ _ _ _ _ _ hX hσ hl hc hs)

theorem aw_l2f {G : ZG} {C : AWC} {Q : Option Value → ZS → Prop} {X : String → Nat → ZS → Prop} {kc ks pc : Nat} {lo : List (Nat × Value)} {st : List Value} {σ : ZS} {x : Int64} (d : decode C.2.1 pc = .ok (.l2f, 1))  (k : AW G C Q X kc ks (pc + 1) lo (.float (FP.l2f x) :: st) σ) : AW G C Q X kc ks pc lo (.long x :: st) σ := by
  intro p l e R s m args below meth c H locs cells slots mc ms ls hX hσ hl hc hs
  exact lv_l2f hX.1.1 hX.1.2.1 d (k _ _ _ _ _ _ _ _ _ _ _ _ _ _ _ _ _ hX hσ hl hc hs)

theorem aw_f2i {G : ZG} {C : AWC} {Q : Option Value → ZS → Prop} {X : String → Nat → ZS → Prop} {kc ks pc : Nat} {lo : List (Nat × Value)} {st : List Value} {σ : ZS} {x : UInt32} (d : decode C.2.1 pc = .ok (.f2i, 1))  (k : AW G C Q X kc ks (pc + 1) lo (.int (FP.f2i x) :: st) σ) : AW G C Q X kc ks pc lo (.float x :: st) σ := by
  intro p l e R s m args below meth c H locs cells slots mc ms ls hX hσ hl hc hs
  exact lv_f2i hX.1.1 hX.1.2.1 d (k _ _ _ _ _ _ _ _ _ _ _ _ _ _ _ _ _ hX hσ hl hc hs)

theorem aw_f2l {G : ZG} {C : AWC} {Q : Option Value → ZS → Prop} {X : String → Nat → ZS → Prop} {kc ks pc : Nat} {lo : List (Nat × Value)} {st : List Value} {σ : ZS} {x : UInt32} (d : decode C.2.1 pc = .ok (.f2l, 1))  (k : AW G C Q X kc ks (pc + 1) lo (.long (FP.f2l x) :: st) σ) : AW G C Q X kc ks pc lo (.float x :: st) σ := by
  intro p l e R s m args below meth c H locs cells slots mc ms ls hX hσ hl hc hs
  exact lv_f2l hX.1.1 hX.1.2.1 d (k _ _ _ _ _ _ _ _ _ _ _ _ _ _ _ _ _ hX hσ hl hc hs)

theorem aw_i2d {G : ZG} {C : AWC} {Q : Option Value → ZS → Prop} {X : String → Nat → ZS → Prop} {kc ks pc : Nat} {lo : List (Nat × Value)} {st : List Value} {σ : ZS} {x : Int32} (d : decode C.2.1 pc = .ok (.i2d, 1))  (k : AW G C Q X kc ks (pc + 1) lo (.double (FP.i2d x) :: st) σ) : AW G C Q X kc ks pc lo (.int x :: st) σ := by
  intro p l e R s m args below meth c H locs cells slots mc ms ls hX hσ hl hc hs
  exact lv_i2d hX.1.1 hX.1.2.1 d (k _ _ _ _ _ _ _ _ _ _ _ _ _ _ _ _ _ hX hσ hl hc hs)

theorem aw_l2d {G : ZG} {C : AWC} {Q : Option Value → ZS → Prop} {X : String → Nat → ZS → Prop} {kc ks pc : Nat} {lo : List (Nat × Value)} {st : List Value} {σ : ZS} {x : Int64} (d : decode C.2.1 pc = .ok (.l2d, 1))  (k : AW G C Q X kc ks (pc + 1) lo (.double (FP.l2d x) :: st) σ) : AW G C Q X kc ks pc lo (.long x :: st) σ := by
  intro p l e R s m args below meth c H locs cells slots mc ms ls hX hσ hl hc hs
  exact lv_l2d hX.1.1 hX.1.2.1 d (k _ _ _ _ _ _ _ _ _ _ _ _ _ _ _ _ _ hX hσ hl hc hs)

theorem aw_d2i {G : ZG} {C : AWC} {Q : Option Value → ZS → Prop} {X : String → Nat → ZS → Prop} {kc ks pc : Nat} {lo : List (Nat × Value)} {st : List Value} {σ : ZS} {x : UInt64} (d : decode C.2.1 pc = .ok (.d2i, 1))  (k : AW G C Q X kc ks (pc + 1) lo (.int (FP.d2i x) :: st) σ) : AW G C Q X kc ks pc lo (.double x :: st) σ := by
  intro p l e R s m args below meth c H locs cells slots mc ms ls hX hσ hl hc hs
  exact lv_d2i hX.1.1 hX.1.2.1 d (k _ _ _ _ _ _ _ _ _ _ _ _ _ _ _ _ _ hX hσ hl hc hs)

theorem aw_d2l {G : ZG} {C : AWC} {Q : Option Value → ZS → Prop} {X : String → Nat → ZS → Prop} {kc ks pc : Nat} {lo : List (Nat × Value)} {st : List Value} {σ : ZS} {x : UInt64} (d : decode C.2.1 pc = .ok (.d2l, 1))  (k : AW G C Q X kc ks (pc + 1) lo (.long (FP.d2l x) :: st) σ) : AW G C Q X kc ks pc lo (.double x :: st) σ := by
  intro p l e R s m args below meth c H locs cells slots mc ms ls hX hσ hl hc hs
  exact lv_d2l hX.1.1 hX.1.2.1 d (k _ _ _ _ _ _ _ _ _ _ _ _ _ _ _ _ _ hX hσ hl hc hs)

theorem aw_f2d {G : ZG} {C : AWC} {Q : Option Value → ZS → Prop} {X : String → Nat → ZS → Prop} {kc ks pc : Nat} {lo : List (Nat × Value)} {st : List Value} {σ : ZS} {x : UInt32} (d : decode C.2.1 pc = .ok (.f2d, 1)) (hn : vf_n64 (FP.f2d x)) (k : AW G C Q X kc ks (pc + 1) lo (.double (FP.f2d x) :: st) σ) : AW G C Q X kc ks pc lo (.float x :: st) σ := by
  intro p l e R s m args below meth c H locs cells slots mc ms ls hX hσ hl hc hs
  exact lv_f2d hX.1.1 hX.1.2.1 d hn (k _ _ _ _ _ _ _ _ _ _ _ _ _ _ _ _ _ hX hσ hl hc hs)

theorem aw_d2f {G : ZG} {C : AWC} {Q : Option Value → ZS → Prop} {X : String → Nat → ZS → Prop} {kc ks pc : Nat} {lo : List (Nat × Value)} {st : List Value} {σ : ZS} {x : UInt64} (d : decode C.2.1 pc = .ok (.d2f, 1)) (hn : vf_n32 (FP.d2f x)) (k : AW G C Q X kc ks (pc + 1) lo (.float (FP.d2f x) :: st) σ) : AW G C Q X kc ks pc lo (.double x :: st) σ := by
  intro p l e R s m args below meth c H locs cells slots mc ms ls hX hσ hl hc hs
  exact lv_d2f hX.1.1 hX.1.2.1 d hn (k _ _ _ _ _ _ _ _ _ _ _ _ _ _ _ _ _ hX hσ hl hc hs)

theorem aw_fadd {G : ZG} {C : AWC} {Q : Option Value → ZS → Prop} {X : String → Nat → ZS → Prop} {kc ks pc : Nat} {lo : List (Nat × Value)} {st : List Value} {σ : ZS} {x y : UInt32} (d : decode C.2.1 pc = .ok (.fadd, 1)) (hn : vf_n32 (FP.fadd x y)) (k : AW G C Q X kc ks (pc + 1) lo (.float (FP.fadd x y) :: st) σ) : AW G C Q X kc ks pc lo (.float y :: .float x :: st) σ := by
  intro p l e R s m args below meth c H locs cells slots mc ms ls hX hσ hl hc hs
  exact lv_fadd hX.1.1 hX.1.2.1 d hn (k _ _ _ _ _ _ _ _ _ _ _ _ _ _ _ _ _ hX hσ hl hc hs)

theorem aw_fsub {G : ZG} {C : AWC} {Q : Option Value → ZS → Prop} {X : String → Nat → ZS → Prop} {kc ks pc : Nat} {lo : List (Nat × Value)} {st : List Value} {σ : ZS} {x y : UInt32} (d : decode C.2.1 pc = .ok (.fsub, 1)) (hn : vf_n32 (FP.fsub x y)) (k : AW G C Q X kc ks (pc + 1) lo (.float (FP.fsub x y) :: st) σ) : AW G C Q X kc ks pc lo (.float y :: .float x :: st) σ := by
  intro p l e R s m args below meth c H locs cells slots mc ms ls hX hσ hl hc hs
  exact lv_fsub hX.1.1 hX.1.2.1 d hn (k _ _ _ _ _ _ _ _ _ _ _ _ _ _ _ _ _ hX hσ hl hc hs)

theorem aw_fmul {G : ZG} {C : AWC} {Q : Option Value → ZS → Prop} {X : String → Nat → ZS → Prop} {kc ks pc : Nat} {lo : List (Nat × Value)} {st : List Value} {σ : ZS} {x y : UInt32} (d : decode C.2.1 pc = .ok (.fmul, 1)) (hn : vf_n32 (FP.fmul x y)) (k : AW G C Q X kc ks (pc + 1) lo (.float (FP.fmul x y) :: st) σ) : AW G C Q X kc ks pc lo (.float y :: .float x :: st) σ := by
  intro p l e R s m args below meth c H locs cells slots mc ms ls hX hσ hl hc hs
  exact lv_fmul hX.1.1 hX.1.2.1 d hn (k _ _ _ _ _ _ _ _ _ _ _ _ _ _ _ _ _ hX hσ hl hc hs)

theorem aw_fdiv {G : ZG} {C : AWC} {Q : Option Value → ZS → Prop} {X : String → Nat → ZS → Prop} {kc ks pc : Nat} {lo : List (Nat × Value)} {st : List Value} {σ : ZS} {x y : UInt32} (d : decode C.2.1 pc = .ok (.fdiv, 1)) (hn : vf_n32 (FP.fdiv x y)) (k : AW G C Q X kc ks (pc + 1) lo (.float (FP.fdiv x y) :: st) σ) : AW G C Q X kc ks pc lo (.float y :: .float x :: st) σ := by
  intro p l e R s m args below meth c H locs cells slots mc ms ls hX hσ hl hc hs
  exact lv_fdiv hX.1.1 hX.1.2.1 d hn (k _ _ _ _ _ _ _ _ _ _ _ _ _ _ _ _ _ hX hσ hl hc hs)

theorem aw_frem {G : ZG} {C : AWC} {Q : Option Value → ZS → Prop} {X : String → Nat → ZS → Prop} {kc ks pc : Nat} {lo : List (Nat × Value)} {st : List Value} {σ : ZS} {x y : UInt32} (d : decode C.2.1 pc = .ok (.frem, 1)) (hn : vf_n32 (FP.frem x y)) (k : AW G C Q X kc ks (pc + 1) lo (.float (FP.frem x y) :: st) σ) : AW G C Q X kc ks pc lo (.float y :: .float x :: st) σ := by
  intro p l e R s m args below meth c H locs cells slots mc ms ls hX hσ hl hc hs
  exact lv_frem hX.1.1 hX.1.2.1 d hn (k _ _ _ _ _ _ _ _ _ _ _ _ _ _ _ _ _ hX hσ hl hc hs)

theorem aw_fneg {G : ZG} {C : AWC} {Q : Option Value → ZS → Prop} {X : String → Nat → ZS → Prop} {kc ks pc : Nat} {lo : List (Nat × Value)} {st : List Value} {σ : ZS} {x : UInt32} (d : decode C.2.1 pc = .ok (.fneg, 1))  (k : AW G C Q X kc ks (pc + 1) lo (.float (FP.fneg x) :: st) σ) : AW G C Q X kc ks pc lo (.float x :: st) σ := by
  intro p l e R s m args below meth c H locs cells slots mc ms ls hX hσ hl hc hs
  exact lv_fneg hX.1.1 hX.1.2.1 d (k _ _ _ _ _ _ _ _ _ _ _ _ _ _ _ _ _ hX hσ hl hc hs)

theorem aw_fcmp {G : ZG} {C : AWC} {Q : Option Value → ZS → Prop} {X : String → Nat → ZS → Prop} {kc ks pc : Nat} {lo : List (Nat × Value)} {st : List Value} {σ : ZS} {x y : UInt32} {op : CmpOp} (d : decode C.2.1 pc = .ok (.fcmp op, 1))  (k : AW G C Q X kc ks (pc + 1) lo (.int (Op.cmpValue (FP.fcmp x y) op) :: st) σ) : AW G C Q X kc ks pc lo (.float y :: .float x :: st) σ := by
  intro p l e R s m args below meth c H locs cells slots mc ms ls hX hσ hl hc hs
  exact lv_fcmp hX.1.1 hX.1.2.1 d (k _ _ _ _ _ _ _ _ _ _ _ _ _ _ _ _ _ hX hσ hl hc hs)

theorem aw_dadd {G : ZG} {C : AWC} {Q : Option Value → ZS → Prop} {X : String → Nat → ZS → Prop} {kc ks pc : Nat} {lo : List (Nat × Value)} {st : List Value} {σ : ZS} {x y : UInt64} (d : decode C.2.1 pc = .ok (.dadd, 1)) (hn : vf_n64 (FP.dadd x y)) (k : AW G C Q X kc ks (pc + 1) lo (.double (FP.dadd x y) :: st) σ) : AW G C Q X kc ks pc lo (.double y :: .double x :: st) σ := by
  intro p l e R s m args below meth c H locs cells slots mc ms ls hX hσ hl hc hs
  exact lv_dadd hX.1.1 hX.1.2.1 d hn (k _ _ _ _ _ _ _ _ _ _ _ _ _ _ _ _ _ hX hσ hl hc hs)

theorem aw_dsub {G : ZG} {C : AWC} {Q : Option Value → ZS → Prop} {X : String → Nat → ZS → Prop} {kc ks pc : Nat} {lo : List (Nat × Value)} {st : List Value} {σ : ZS} {x y : UInt64} (d : decode C.2.1 pc = .ok (.dsub, 1)) (hn : vf_n64 (FP.dsub x y)) (k : AW G C Q X kc ks (pc + 1) lo (.double (FP.dsub x y) :: st) σ) : AW G C Q X kc ks pc lo (.double y :: .double x :: st) σ := by
  intro p l e R s m args below meth c H locs cells slots mc ms ls hX hσ hl hc hs
  exact lv_dsub hX.1.1 hX.1.2.1 d hn (k _ _ _ _ _ _ _ _ _ _ _ _ _ _ _ _ _ hX hσ hl hc hs)

theorem aw_dmul {G : ZG} {C : AWC} {Q : Option Value → ZS → Prop} {X : String → Nat → ZS → Prop} {kc ks pc : Nat} {lo : List (Nat × Value)} {st : List Value} {σ : ZS} {x y : UInt64} (d : decode C.2.1 pc = .ok (.dmul, 1)) (hn : vf_n64 (FP.dmul x y)) (k : AW G C Q X kc ks (pc + 1) lo (.double (FP.dmul x y) :: st) σ) : AW G C Q X kc ks pc lo (.double y :: .double x :: st) σ := by
  intro p l e R s m args below meth c H locs cells slots mc ms ls hX hσ hl hc hs
  exact lv_dmul hX.1.1 hX.1.2.1 d hn (k _ _ _ _ _ _ _ _ _ _ _ _ _ _ _ _ _ hX hσ hl hc hs)

theorem aw_ddiv {G : ZG} {C : AWC} {Q : Option Value → ZS → Prop} {X : String → Nat → ZS → Prop} {kc ks pc : Nat} {lo : List (Nat × Value)} {st : List Value} {σ : ZS} {x y : UInt64} (d : decode C.2.1 pc = .ok (.ddiv, 1)) (hn : vf_n64 (FP.ddiv x y)) (k : AW G C Q X kc ks (pc + 1) lo (.double (FP.ddiv x y) :: st) σ) : AW G C Q X kc ks pc lo (.double y :: .double x :: st) σ := by
  intro p l e R s m args below meth c H locs cells slots mc ms ls hX hσ hl hc hs
  exact lv_ddiv hX.1.1 hX.1.2.1 d hn (k _ _ _ _ _ _ _ _ _ _ _ _ _ _ _ _ _ hX hσ hl hc hs)

theorem aw_drem {G : ZG} {C : AWC} {Q : Option Value → ZS → Prop} {X : String → Nat → ZS → Prop} {kc ks pc : Nat} {lo : List (Nat × Value)} {st : List Value} {σ : ZS} {x y : UInt64} (d : decode C.2.1 pc = .ok (.drem, 1)) (hn : vf_n64 (FP.drem x y)) (k : AW G C Q X kc ks (pc + 1) lo (.double (FP.drem x y) :: st) σ) : AW G C Q X kc ks pc lo (.double y :: .double x :: st) σ := by
  intro p l e R s m args below meth c H locs cells slots mc ms ls hX hσ hl hc hs
  exact lv_drem hX.1.1 hX.1.2.1 d hn (k _ _ _ _ _ _ _ _ _ _ _ _ _ _ _ _ _ hX hσ hl hc hs)

theorem aw_dneg {G : ZG} {C : AWC} {Q : Option Value → ZS → Prop} {X : String → Nat → ZS → Prop} {kc ks pc : Nat} {lo : List (Nat × Value)} {st : List Value} {σ : ZS} {x : UInt64} (d : decode C.2.1 pc = .ok (.dneg, 1))  (k : AW G C Q X kc ks (pc + 1) lo (.double (FP.dneg x) :: st) σ) : AW G C Q X kc ks pc lo (.double x :: st) σ := by
  intro p l e R s m args below meth c H locs cells slots mc ms ls hX hσ hl hc hs
  exact lv_dneg hX.1.1 hX.1.2.1 d (k _ _ _ _ _ _ _ _ _ _ _ _ _ _ _ _ _ hX hσ hl hc hs)

theorem aw_dcmp {G : ZG} {C : AWC} {Q : Option Value → ZS → Prop} {X : String → Nat → ZS → Prop} {kc ks pc : Nat} {lo : List (Nat × Value)} {st : List Value} {σ : ZS} {x y : UInt64} {op : CmpOp} (d : decode C.2.1 pc = .ok (.dcmp op, 1))  (k : AW G C Q X kc ks (pc + 1) lo (.int (Op.cmpValue (FP.dcmp x y) op) :: st) σ) : AW G C Q X kc ks pc lo (.double y :: .double x :: st) σ := by
  intro p l e R s m args below meth c H locs cells slots mc ms ls hX hσ hl hc hs
  exact lv_dcmp hX.1.1 hX.1.2.1 d (k _ _ _ _ _ _ _ _ _ _ _ _ _ _ _ _ _ hX hσ hl hc hs)

theorem aw_dup {G : ZG} {C : AWC} {Q : Option Value → ZS → Prop} {X : String → Nat → ZS → Prop} {kc ks pc : Nat} {lo : List (Nat × Value)} {st : List Value} {σ : ZS} {v : Value} (d : decode C.2.1 pc = .ok (.dup, 1)) (hv : v.category = 1) (k : AW G C Q X kc ks (pc + 1) lo (v :: v :: st) σ) : AW G C Q X kc ks pc lo (v :: st) σ := by
  intro p l e R s m args below meth c H locs cells slots mc ms ls hX hσ hl hc hs
  exact lv_dup hX.1.1 hX.1.2.1 d hv (k _ _ _ _ _ _ _ _ _ _ _ _ _ _ _ _ _ hX hσ hl hc hs)

theorem aw_dup2_11 {G : ZG} {C : AWC} {Q : Option Value → ZS → Prop} {X : String → Nat → ZS → Prop} {kc ks pc : Nat} {lo : List (Nat × Value)} {st : List Value} {σ : ZS} {v w : Value} (d : decode C.2.1 pc = .ok (.dup2, 1)) (hv : v.category = 1) (hw : w.category = 1) (k : AW G C Q X kc ks (pc + 1) lo (v :: w :: v :: w :: st) σ) : AW G C Q X kc ks pc lo (v :: w :: st) σ := by
  intro p l e R s m args below meth c H locs cells slots mc ms ls hX hσ hl hc hs
  exact lv_dup2_11 hX.1.1 hX.1.2.1 d hv hw (k _ _ _ _ _ _ _ _ _ _ _ _ _ _ _ _ _ hX hσ hl hc hs)

theorem aw_dup2_2 {G : ZG} {C : AWC} {Q : Option Value → ZS → Prop} {X : String → Nat → ZS → Prop} {kc ks pc : Nat} {lo : List (Nat × Value)} {st : List Value} {σ : ZS} {v : Value} (d : decode C.2.1 pc = .ok (.dup2, 1)) (hv : v.category = 2) (k : AW G C Q X kc ks (pc + 1) lo (v :: v :: st) σ) : AW G C Q X kc ks pc lo (v :: st) σ := by
  intro p l e R s m args below meth c H locs cells slots mc ms ls hX hσ hl hc hs
  exact lv_dup2_2 hX.1.1 hX.1.2.1 d hv (k _ _ _ _ _ _ _ _ _ _ _ _ _ _ _ _ _ hX hσ hl hc hs)

theorem aw_dup_x1 {G : ZG} {C : AWC} {Q : Option Value → ZS → Prop} {X : String → Nat → ZS → Prop} {kc ks pc : Nat} {lo : List (Nat × Value)} {st : List Value} {σ : ZS} {v w : Value} (d : decode C.2.1 pc = .ok (.dup_x1, 1)) (hv : v.category = 1) (hw : w.category = 1) (k : AW G C Q X kc ks (pc + 1) lo (v :: w :: v :: st) σ) : AW G C Q X kc ks pc lo (v :: w :: st) σ := by
  intro p l e R s m args below meth c H locs cells slots mc ms ls hX hσ hl hc hs
  exact lv_dup_x1 hX.1.1 hX.1.2.1 d hv hw (k _ _ _ _ _ _ _ _ _ _ _ _ _ _ _ _ _ hX hσ hl hc hs)

theorem aw_pop {G : ZG} {C : AWC} {Q : Option Value → ZS → Prop} {X : String → Nat → ZS → Prop} {kc ks pc : Nat} {lo : List (Nat × Value)} {st : List Value} {σ : ZS} {v : Value} (d : decode C.2.1 pc = .ok (.pop, 1)) (hv : v.category = 1) (k : AW G C Q X kc ks (pc + 1) lo (st) σ) : AW G C Q X kc ks pc lo (v :: st) σ := by
  intro p l e R s m args below meth c H locs cells slots mc ms ls hX hσ hl hc hs
  exact lv_pop hX.1.1 hX.1.2.1 d hv (k _ _ _ _ _ _ _ _ _ _ _ _ _ _ _ _ _ hX hσ hl hc hs)

theorem aw_pop2_2 {G : ZG} {C : AWC} {Q : Option Value → ZS → Prop} {X : String → Nat → ZS → Prop} {kc ks pc : Nat} {lo : List (Nat × Value)} {st : List Value} {σ : ZS} {v : Value} (d : decode C.2.1 pc = .ok (.pop2, 1)) (hv : v.category = 2) (k : AW G C Q X kc ks (pc + 1) lo (st) σ) : AW G C Q X kc ks pc lo (v :: st) σ := by
  intro p l e R s m args below meth c H locs cells slots mc ms ls hX hσ hl hc hs
  exact lv_pop2_2 hX.1.1 hX.1.2.1 d hv (k _ _ _ _ _ _ _ _ _ _ _ _ _ _ _ _ _ hX hσ hl hc hs)

theorem aw_iinc {G : ZG} {C : AWC} {Q : Option Value → ZS → Prop} {X : String → Nat → ZS → Prop} {kc ks pc : Nat} {lo lo2 : List (Nat × Value)} {st : List Value} {σ : ZS} {j i : Nat} {n : Int} {x v : Int32} (d : decode C.2.1 pc = .ok (.iinc i n, 3)) (hj : lo[j]? = some (i, .int x)) (hv : x + Int32.ofInt n = v) (hn : i < C.2.2.1) (hl2 : (i, Value.int v) :: lo.filter (fun q => !(q.1 == i) && !(q.1 + 1 == i && q.2.category == 2)) = lo2) (k : AW G C Q X kc ks (pc + 3) lo2 st σ) : AW G C Q X kc ks pc lo st σ := by
  intro p l e R s m args below meth c H locs cells slots mc ms ls hX hσ hl hc hs
  exact lv_iinc hX.1.1 hX.1.2.1 d hl hj hv hn hl2 (fun ls hl => k _ _ _ _ _ _ _ _ _ _ _ _ _ _ _ _ _ hX hσ hl hc hs)

theorem aw_if_eq {G : ZG} {C : AWC} {Q : Option Value → ZS → Prop} {X : String → Nat → ZS → Prop} {kc ks pc : Nat} {lo : List (Nat × Value)} {st : List Value} {σ : ZS} {x : Int32} {off : Int} {tgt : Nat} (d : decode C.2.1 pc = .ok (.ifCond .eq off, 3)) (ht : (pc : Int) + off = (tgt : Int)) (kt : x = 0 → AW G C Q X kc ks tgt lo st σ) (kf : ¬ x = 0 → AW G C Q X kc ks (pc + 3) lo st σ) : AW G C Q X kc ks pc lo (.int x :: st) σ := by
  intro p l e R s m args below meth c H locs cells slots mc ms ls hX hσ hl hc hs
  exact lv_if_eq hX.1.1 hX.1.2.1 d ht (fun z => kt z _ _ _ _ _ _ _ _ _ _ _ _ _ _ _ _ _ hX hσ hl hc hs) (fun z => kf z _ _ _ _ _ _ _ _ _ _ _ _ _ _ _ _ _ hX hσ hl hc hs)

theorem aw_icmp_eq {G : ZG} {C : AWC} {Q : Option Value → ZS → Prop} {X : String → Nat → ZS → Prop} {kc ks pc : Nat} {lo : List (Nat × Value)} {st : List Value} {σ : ZS} {x y : Int32} {off : Int} {tgt : Nat} (d : decode C.2.1 pc = .ok (.if_icmp .eq off, 3)) (ht : (pc : Int) + off = (tgt : Int)) (kt : x = y → AW G C Q X kc ks tgt lo st σ) (kf : ¬ x = y → AW G C Q X kc ks (pc + 3) lo st σ) : AW G C Q X kc ks pc lo (.int y :: .int x :: st) σ := by
  intro p l e R s m args below meth c H locs cells slots mc ms ls hX hσ hl hc hs
  exact lv_icmp_eq hX.1.1 hX.1.2.1 d ht (fun z => kt z _ _ _ _ _ _ _ _ _ _ _ _ _ _ _ _ _ hX hσ hl hc hs) (fun z => kf z _ _ _ _ _ _ _ _ _ _ _ _ _ _ _ _ _ hX hσ hl hc hs)

theorem aw_if_lt {G : ZG} {C : AWC} {Q : Option Value → ZS → Prop} {X : String → Nat → ZS → Prop} {kc ks pc : Nat} {lo : List (Nat × Value)} {st : List Value} {σ : ZS} {x : Int32} {off : Int} {tgt : Nat} (d : decode C.2.1 pc = .ok (.ifCond .lt off, 3)) (ht : (pc : Int) + off = (tgt : Int)) (kt : x < 0 → AW G C Q X kc ks tgt lo st σ) (kf : ¬ x < 0 → AW G C Q X kc ks (pc + 3) lo st σ) : AW G C Q X kc ks pc lo (.int x :: st) σ := by
  intro p l e R s m args below meth c H locs cells slots mc ms ls hX hσ hl hc hs
  exact lv_if_lt hX.1.1 hX.1.2.1 d ht (fun z => kt z _ _ _ _ _ _ _ _ _ _ _ _ _ _ _ _ _ hX hσ hl hc hs) (fun z => kf z _ _ _ _ _ _ _ _ _ _ _ _ _ _ _ _ _ hX hσ hl hc hs)

theorem aw_icmp_lt {G : ZG} {C : AWC} {Q : Option Value → ZS → Prop} {X : String → Nat → ZS → Prop} {kc ks pc : Nat} {lo : List (Nat × Value)} {st : List Value} {σ : ZS} {x y : Int32} {off : Int} {tgt : Nat} (d : decode C.2.1 pc = .ok (.if_icmp .lt off, 3)) (ht : (pc : Int) + off = (tgt : Int)) (kt : x < y → AW G C Q X kc ks tgt lo st σ) (kf : ¬ x < y → AW G C Q X kc ks (pc + 3) lo st σ) : AW G C Q X kc ks pc lo (.int y :: .int x :: st) σ := by
  intro p l e R s m args below meth c H locs cells slots mc ms ls hX hσ hl hc hs
  exact lv_icmp_lt hX.1.1 hX.1.2.1 d ht (fun z => kt z _ _ _ _ _ _ _ _ _ _ _ _ _ _ _ _ _ hX hσ hl hc hs) (fun z => kf z _ _ _ _ _ _ _ _ _ _ _ _ _ _ _ _ _ hX hσ hl hc hs)

theorem aw_if_ge {G : ZG} {C : AWC} {Q : Option Value → ZS → Prop} {X : String → Nat → ZS → Prop} {kc ks pc : Nat} {lo : List (Nat × Value)} {st : List Value} {σ : ZS} {x : Int32} {off : Int} {tgt : Nat} (d : decode C.2.1 pc = .ok (.ifCond .ge off, 3)) (ht : (pc : Int) + off = (tgt : Int)) (kt : 0 ≤ x → AW G C Q X kc ks tgt lo st σ) (kf : ¬ 0 ≤ x → AW G C Q X kc ks (pc + 3) lo st σ) : AW G C Q X kc ks pc lo (.int x :: st) σ := by
  intro p l e R s m args below meth c H locs cells slots mc ms ls hX hσ hl hc hs
  exact lv_if_ge hX.1.1 hX.1.2.1 d ht (fun z => kt z _ _ _ _ _ _ _ _ _ _ _ _ _ _ _ _ _ hX hσ hl hc hs) (fun z => kf z _ _ _ _ _ _ _ _ _ _ _ _ _ _ _ _ _ hX hσ hl hc hs)

theorem aw_icmp_ge {G : ZG} {C : AWC} {Q : Option Value → ZS → Prop} {X : String → Nat → ZS → Prop} {kc ks pc : Nat} {lo : List (Nat × Value)} {st : List Value} {σ : ZS} {x y : Int32} {off : Int} {tgt : Nat} (d : decode C.2.1 pc = .ok (.if_icmp .ge off, 3)) (ht : (pc : Int) + off = (tgt : Int)) (kt : y ≤ x → AW G C Q X kc ks tgt lo st σ) (kf : ¬ y ≤ x → AW G C Q X kc ks (pc + 3) lo st σ) : AW G C Q X kc ks pc lo (.int y :: .int x :: st) σ := by
  intro p l e R s m args below meth c H locs cells slots mc ms ls hX hσ hl hc hs
  exact lv_icmp_ge hX.1.1 hX.1.2.1 d ht (fun z => kt z _ _ _ _ _ _ _ _ _ _ _ _ _ _ _ _ _ hX hσ hl hc hs) (fun z => kf z _ _ _ _ _ _ _ _ _ _ _ _ _ _ _ _ _ hX hσ hl hc hs)

theorem aw_if_gt {G : ZG} {C : AWC} {Q : Option Value → ZS → Prop} {X : String → Nat → ZS → Prop} {kc ks pc : Nat} {lo : List (Nat × Value)} {st : List Value} {σ : ZS} {x : Int32} {off : Int} {tgt : Nat} (d : decode C.2.1 pc = .ok (.ifCond .gt off, 3)) (ht : (pc : Int) + off = (tgt : Int)) (kt : 0 < x → AW G C Q X kc ks tgt lo st σ) (kf : ¬ 0 < x → AW G C Q X kc ks (pc + 3) lo st σ) : AW G C Q X kc ks pc lo (.int x :: st) σ := by
  intro p l e R s m args below meth c H locs cells slots mc ms ls hX hσ hl hc hs
  exact lv_if_gt hX.1.1 hX.1.2.1 d ht (fun z => kt z _ _ _ _ _ _ _ _ _ _ _ _ _ _ _ _ _ hX hσ hl hc hs) (fun z => kf z _ _ _ _ _ _ _ _ _ _ _ _ _ _ _ _ _ hX hσ hl hc hs)

theorem aw_icmp_gt {G : ZG} {C : AWC} {Q : Option Value → ZS → Prop} {X : String → Nat → ZS → Prop} {kc ks pc : Nat} {lo : List (Nat × Value)} {st : List Value} {σ : ZS} {x y : Int32} {off : Int} {tgt : Nat} (d : decode C.2.1 pc = .ok (.if_icmp .gt off, 3)) (ht : (pc : Int) + off = (tgt : Int)) (kt : y < x → AW G C Q X kc ks tgt lo st σ) (kf : ¬ y < x → AW G C Q X kc ks (pc + 3) lo st σ) : AW G C Q X kc ks pc lo (.int y :: .int x :: st) σ := by
  intro p l e R s m args below meth c H locs cells slots mc ms ls hX hσ hl hc hs
  exact lv_icmp_gt hX.1.1 hX.1.2.1 d ht (fun z => kt z _ _ _ _ _ _ _ _ _ _ _ _ _ _ _ _ _ hX hσ hl hc hs) (fun z => kf z _ _ _ _ _ _ _ _ _ _ _ _ _ _ _ _ _ hX hσ hl hc hs)

theorem aw_if_le {G : ZG} {C : AWC} {Q : Option Value → ZS → Prop} {X : String → Nat → ZS → Prop} {kc ks pc : Nat} {lo : List (Nat × Value)} {st : List Value} {σ : ZS} {x : Int32} {off : Int} {tgt : Nat} (d : decode C.2.1 pc = .ok (.ifCond .le off, 3)) (ht : (pc : Int) + off = (tgt : Int)) (kt : x ≤ 0 → AW G C Q X kc ks tgt lo st σ) (kf : ¬ x ≤ 0 → AW G C Q X kc ks (pc + 3) lo st σ) : AW G C Q X kc ks pc lo (.int x :: st) σ := by
  intro p l e R s m args below meth c H locs cells slots mc ms ls hX hσ hl hc hs
  exact lv_if_le hX.1.1 hX.1.2.1 d ht (fun z => kt z _ _ _ _ _ _ _ _ _ _ _ _ _ _ _ _ _ hX hσ hl hc hs) (fun z => kf z _ _ _ _ _ _ _ _ _ _ _ _ _ _ _ _ _ hX hσ hl hc hs)

theorem aw_icmp_le {G : ZG} {C : AWC} {Q : Option Value → ZS → Prop} {X : String → Nat → ZS → Prop} {kc ks pc : Nat} {lo : List (Nat × Value)} {st : List Value} {σ : ZS} {x y : Int32} {off : Int} {tgt : Nat} (d : decode C.2.1 pc = .ok (.if_icmp .le off, 3)) (ht : (pc : Int) + off = (tgt : Int)) (kt : x ≤ y → AW G C Q X kc ks tgt lo st σ) (kf : ¬ x ≤ y → AW G C Q X kc ks (pc + 3) lo st σ) : AW G C Q X kc ks pc lo (.int y :: .int x :: st) σ := by
  intro p l e R s m args below meth c H locs cells slots mc ms ls hX hσ hl hc hs
  exact lv_icmp_le hX.1.1 hX.1.2.1 d ht (fun z => kt z _ _ _ _ _ _ _ _ _ _ _ _ _ _ _ _ _ hX hσ hl hc hs) (fun z => kf z _ _ _ _ _ _ _ _ _ _ _ _ _ _ _ _ _ hX hσ hl hc hs)

theorem aw_if_ne {G : ZG} {C : AWC} {Q : Option Value → ZS → Prop} {X : String → Nat → ZS → Prop} {kc ks pc : Nat} {lo : List (Nat × Value)} {st : List Value} {σ : ZS} {x : Int32} {off : Int} {tgt : Nat} (d : decode C.2.1 pc = .ok (.ifCond .ne off, 3)) (ht : (pc : Int) + off = (tgt : Int)) (kt : ¬ x = 0 → AW G C Q X kc ks tgt lo st σ) (kf : x = 0 → AW G C Q X kc ks (pc + 3) lo st σ) : AW G C Q X kc ks pc lo (.int x :: st) σ := by
  intro p l e R s m args below meth c H locs cells slots mc ms ls hX hσ hl hc hs
  exact lv_if_ne hX.1.1 hX.1.2.1 d ht (fun z => kt z _ _ _ _ _ _ _ _ _ _ _ _ _ _ _ _ _ hX hσ hl hc hs) (fun z => kf z _ _ _ _ _ _ _ _ _ _ _ _ _ _ _ _ _ hX hσ hl hc hs)

theorem aw_icmp_ne {G : ZG} {C : AWC} {Q : Option Value → ZS → Prop} {X : String → Nat → ZS → Prop} {kc ks pc : Nat} {lo : List (Nat × Value)} {st : List Value} {σ : ZS} {x y : Int32} {off : Int} {tgt : Nat} (d : decode C.2.1 pc = .ok (.if_icmp .ne off, 3)) (ht : (pc : Int) + off = (tgt : Int)) (kt : ¬ x = y → AW G C Q X kc ks tgt lo st σ) (kf : x = y → AW G C Q X kc ks (pc + 3) lo st σ) : AW G C Q X kc ks pc lo (.int y :: .int x :: st) σ := by
  intro p l e R s m args below meth c H locs cells slots mc ms ls hX hσ hl hc hs
  exact lv_icmp_ne hX.1.1 hX.1.2.1 d ht (fun z => kt z _ _ _ _ _ _ _ _ _ _ _ _ _ _ _ _ _ hX hσ hl hc hs) (fun z => kf z _ _ _ _ _ _ _ _ _ _ _ _ _ _ _ _ _ hX hσ hl hc hs)

theorem aw_acmp_ne {G : ZG} {C : AWC} {Q : Option Value → ZS → Prop} {X : String → Nat → ZS → Prop} {kc ks pc : Nat} {lo : List (Nat × Value)} {st : List Value} {σ : ZS} {x y : Option Nat} {off : Int} {tgt : Nat} (d : decode C.2.1 pc = .ok (.if_acmp .ne off, 3)) (ht : (pc : Int) + off = (tgt : Int)) (kt : ¬ x = y → AW G C Q X kc ks tgt lo st σ) (kf : x = y → AW G C Q X kc ks (pc + 3) lo st σ) : AW G C Q X kc ks pc lo (va_rf y :: va_rf x :: st) σ := by
  intro p l e R s m args below meth c H locs cells slots mc ms ls hX hσ hl hc hs
  exact lv_acmp_ne hX.1.1 hX.1.2.1 d ht (fun z => kt z _ _ _ _ _ _ _ _ _ _ _ _ _ _ _ _ _ hX hσ hl hc hs) (fun z => kf z _ _ _ _ _ _ _ _ _ _ _ _ _ _ _ _ _ hX hσ hl hc hs)

theorem aw_acmp_eq {G : ZG} {C : AWC} {Q : Option Value → ZS → Prop} {X : String → Nat → ZS → Prop} {kc ks pc : Nat} {lo : List (Nat × Value)} {st : List Value} {σ : ZS} {x y : Option Nat} {off : Int} {tgt : Nat} (d : decode C.2.1 pc = .ok (.if_acmp .eq off, 3)) (ht : (pc : Int) + off = (tgt : Int)) (kt : x = y → AW G C Q X kc ks tgt lo st σ) (kf : ¬ x = y → AW G C Q X kc ks (pc + 3) lo st σ) : AW G C Q X kc ks pc lo (va_rf y :: va_rf x :: st) σ := by
  intro p l e R s m args below meth c H locs cells slots mc ms ls hX hσ hl hc hs
  exact lv_acmp_eq hX.1.1 hX.1.2.1 d ht (fun z => kt z _ _ _ _ _ _ _ _ _ _ _ _ _ _ _ _ _ hX hσ hl hc hs) (fun z => kf z _ _ _ _ _ _ _ _ _ _ _ _ _ _ _ _ _ hX hσ hl hc hs)

theorem aw_ifnull {G : ZG} {C : AWC} {Q : Option Value → ZS → Prop} {X : String → Nat → ZS → Prop} {kc ks pc : Nat} {lo : List (Nat × Value)} {st : List Value} {σ : ZS} {x : Option Nat} {off : Int} {tgt : Nat} (d : decode C.2.1 pc = .ok (.ifnull off, 3)) (ht : (pc : Int) + off = (tgt : Int)) (kt : x = none → AW G C Q X kc ks tgt lo st σ) (kf : ¬ x = none → AW G C Q X kc ks (pc + 3) lo st σ) : AW G C Q X kc ks pc lo (va_rf x :: st) σ := by
  intro p l e R s m args below meth c H locs cells slots mc ms ls hX hσ hl hc hs
  cases x with
  | none => exact lv_ifnullN hX.1.1 hX.1.2.1 d ht (kt rfl _ _ _ _ _ _ _ _ _ _ _ _ _ _ _ _ _ hX hσ hl hc hs)
  | some x => exact lv_ifnull hX.1.1 hX.1.2.1 d (kf (fun z => nomatch z) _ _ _ _ _ _ _ _ _ _ _ _ _ _ _ _ _ hX hσ hl hc hs)

theorem aw_ifnonnull {G : ZG} {C : AWC} {Q : Option Value → ZS → Prop} {X : String → Nat → ZS → Prop} {kc ks pc : Nat} {lo : List (Nat × Value)} {st : List Value} {σ : ZS} {x : Option Nat} {off : Int} {tgt : Nat} (d : decode C.2.1 pc = .ok (.ifnonnull off, 3)) (ht : (pc : Int) + off = (tgt : Int)) (kt : ¬ x = none → AW G C Q X kc ks tgt lo st σ) (kf : x = none → AW G C Q X kc ks (pc + 3) lo st σ) : AW G C Q X kc ks pc lo (va_rf x :: st) σ := by
  intro p l e R s m args below meth c H locs cells slots mc ms ls hX hσ hl hc hs
  cases x with
  | none => exact lv_ifnonnullN hX.1.1 hX.1.2.1 d (kf rfl _ _ _ _ _ _ _ _ _ _ _ _ _ _ _ _ _ hX hσ hl hc hs)
  | some x => exact lv_ifnonnull hX.1.1 hX.1.2.1 d ht (kt (fun z => nomatch z) _ _ _ _ _ _ _ _ _ _ _ _ _ _ _ _ _ hX hσ hl hc hs)

theorem aw_goto {G : ZG} {C : AWC} {Q : Option Value → ZS → Prop} {X : String → Nat → ZS → Prop} {kc ks pc : Nat} {lo : List (Nat × Value)} {st : List Value} {σ : ZS} {off : Int} {tgt : Nat} (d : decode C.2.1 pc = .ok (.goto off, 3)) (ht : (pc : Int) + off = (tgt : Int)) (k : AW G C Q X kc ks tgt lo st σ) : AW G C Q X kc ks pc lo st σ := by
  intro p l e R s m args below meth c H locs cells slots mc ms ls hX hσ hl hc hs
  exact lv_goto hX.1.1 hX.1.2.1 d ht (k _ _ _ _ _ _ _ _ _ _ _ _ _ _ _ _ _ hX hσ hl hc hs)

theorem aw_tin {G : ZG} {C : AWC} {Q : Option Value → ZS → Prop} {X : String → Nat → ZS → Prop} {kc ks pc : Nat} {lo : List (Nat × Value)} {st : List Value} {σ : ZS} {dflt lo9 hi9 : Int} {offs : Array Int} {len : Nat} {x : Int32} {off : Int} {tgt : Nat} (d : decode C.2.1 pc = .ok (.tableswitch dflt lo9 hi9 offs, len)) (h1 : ¬ x.toInt < lo9) (h2 : ¬ hi9 < x.toInt) (ho : offs[(x.toInt - lo9).toNat]? = some off) (ht : (pc : Int) + off = (tgt : Int)) (k : AW G C Q X kc ks tgt lo st σ) : AW G C Q X kc ks pc lo (.int x :: st) σ := by
  intro p l e R s m args below meth c H locs cells slots mc ms ls hX hσ hl hc hs
  exact lv_tableIn hX.1.1 hX.1.2.1 d h1 h2 ho ht (k _ _ _ _ _ _ _ _ _ _ _ _ _ _ _ _ _ hX hσ hl hc hs)

theorem aw_tout {G : ZG} {C : AWC} {Q : Option Value → ZS → Prop} {X : String → Nat → ZS → Prop} {kc ks pc : Nat} {lo : List (Nat × Value)} {st : List Value} {σ : ZS} {dflt lo9 hi9 : Int} {offs : Array Int} {len : Nat} {x : Int32} {tgt : Nat} (d : decode C.2.1 pc = .ok (.tableswitch dflt lo9 hi9 offs, len)) (h : x.toInt < lo9 ∨ hi9 < x.toInt) (ht : (pc : Int) + dflt = (tgt : Int)) (k : AW G C Q X kc ks tgt lo st σ) : AW G C Q X kc ks pc lo (.int x :: st) σ := by
  intro p l e R s m args below meth c H locs cells slots mc ms ls hX hσ hl hc hs
  exact lv_tableOut hX.1.1 hX.1.2.1 d h ht (k _ _ _ _ _ _ _ _ _ _ _ _ _ _ _ _ _ hX hσ hl hc hs)

theorem aw_lsw {G : ZG} {C : AWC} {Q : Option Value → ZS → Prop} {X : String → Nat → ZS → Prop} {kc ks pc : Nat} {lo : List (Nat × Value)} {st : List Value} {σ : ZS} {dflt : Int} {ps : Array (Int × Int)} {len : Nat} {x : Int32} {off : Int} {tgt : Nat} (d : decode C.2.1 pc = .ok (.lookupswitch dflt ps, len)) (hp : (ps.toList.zip (ps.toList.drop 1)).all (fun (a, next) => a.1 < next.1) = true) (ho : Op.lookupswitch.offset ps.toList dflt x.toInt = off) (ht : (pc : Int) + off = (tgt : Int)) (k : AW G C Q X kc ks tgt lo st σ) : AW G C Q X kc ks pc lo (.int x :: st) σ := by
  intro p l e R s m args below meth c H locs cells slots mc ms ls hX hσ hl hc hs
  exact lv_lookup hX.1.1 hX.1.2.1 d hp ho ht (k _ _ _ _ _ _ _ _ _ _ _ _ _ _ _ _ _ hX hσ hl hc hs)

theorem aw_iret {G : ZG} {C : AWC} {Q : Option Value → ZS → Prop} {X : String → Nat → ZS → Prop} {kc ks pc : Nat} {lo : List (Nat × Value)} {σ : ZS} {v : Int32} {ty : FieldType} (d : decode C.2.1 pc = .ok (.ireturn, 1)) (hr : C.2.2.2.1 = some ty) (hn : narrow ty (.int v) = .int v) (h : Q (some (.int v)) σ) : AW G C Q X kc ks pc lo [.int v] σ := by
  intro p l e R s m args below meth c H locs cells slots mc ms ls hX hσ hl hc hs
  refine zx_ret (W.widen (k := mc) (n := ms) (by omega) (by omega) ?_)
  exact W.zret hX.1.1 hX.1.2.1 (hX.2.1.2.1.trans hr) hn (fun t ht hW => ⟨_, σ, rfl, h, by rw [ht]; exact hσ, hX.2.2.2.2.F ht⟩) hX.2.2.2.2.2.2 d hX.2.1.1

theorem aw_lret {G : ZG} {C : AWC} {Q : Option Value → ZS → Prop} {X : String → Nat → ZS → Prop} {kc ks pc : Nat} {lo : List (Nat × Value)} {σ : ZS} {v : Int64} (d : decode C.2.1 pc = .ok (.lreturn, 1)) (hr : C.2.2.2.1 = some .long) (h : Q (some (.long v)) σ) : AW G C Q X kc ks pc lo [.long v] σ := by
  intro p l e R s m args below meth c H locs cells slots mc ms ls hX hσ hl hc hs
  refine zx_ret (W.widen (k := mc) (n := ms) (by omega) (by omega) ?_)
  exact W.lret hX.1.1 hX.1.2.1 (hX.2.1.2.1.trans hr) (fun t ht hW => ⟨_, σ, rfl, h, by rw [ht]; exact hσ, hX.2.2.2.2.F ht⟩) hX.2.2.2.2.2.2 d hX.2.1.1

theorem aw_fret {G : ZG} {C : AWC} {Q : Option Value → ZS → Prop} {X : String → Nat → ZS → Prop} {kc ks pc : Nat} {lo : List (Nat × Value)} {σ : ZS} {v : UInt32} (d : decode C.2.1 pc = .ok (.freturn, 1)) (hr : C.2.2.2.1 = some .float) (h : Q (some (.float v)) σ) : AW G C Q X kc ks pc lo [.float v] σ := by
  intro p l e R s m args below meth c H locs cells slots mc ms ls hX hσ hl hc hs
  refine zx_ret (W.widen (k := mc) (n := ms) (by omega) (by omega) ?_)
  exact W.fret hX.1.1 hX.1.2.1 (hX.2.1.2.1.trans hr) (fun t ht hW => ⟨_, σ, rfl, h, by rw [ht]; exact hσ, hX.2.2.2.2.F ht⟩) hX.2.2.2.2.2.2 d hX.2.1.1

theorem aw_dret {G : ZG} {C : AWC} {Q : Option Value → ZS → Prop} {X : String → Nat → ZS → Prop} {kc ks pc : Nat} {lo : List (Nat × Value)} {σ : ZS} {v : UInt64} (d : decode C.2.1 pc = .ok (.dreturn, 1)) (hr : C.2.2.2.1 = some .double) (h : Q (some (.double v)) σ) : AW G C Q X kc ks pc lo [.double v] σ := by
  intro p l e R s m args below meth c H locs cells slots mc ms ls hX hσ hl hc hs
  refine zx_ret (W.widen (k := mc) (n := ms) (by omega) (by omega) ?_)
  exact W.dret hX.1.1 hX.1.2.1 (hX.2.1.2.1.trans hr) (fun t ht hW => ⟨_, σ, rfl, h, by rw [ht]; exact hσ, hX.2.2.2.2.F ht⟩) hX.2.2.2.2.2.2 d hX.2.1.1

theorem aw_aret {G : ZG} {C : AWC} {Q : Option Value → ZS → Prop} {X : String → Nat → ZS → Prop} {kc ks pc : Nat} {lo : List (Nat × Value)} {σ : ZS} {v : Option Nat} {ty : FieldType} (d : decode C.2.1 pc = .ok (.areturn, 1)) (hr : C.2.2.2.1 = some ty) (hty : (∃ n, ty = .object n) ∨ ∃ t, ty = .array t) (h : Q (some (va_rf v)) σ) : AW G C Q X kc ks pc lo [va_rf v] σ := by
  intro p l e R s m args below meth c H locs cells slots mc ms ls hX hσ hl hc hs
  refine zx_ret (W.widen (k := mc) (n := ms) (by omega) (by omega) ?_)
  exact W.aret hX.1.1 hX.1.2.1 (hX.2.1.2.1.trans hr) hty (by cases v with | none => exact Or.inl rfl | some a => exact Or.inr ⟨a, rfl⟩) (fun t ht hW => ⟨_, σ, rfl, h, by rw [ht]; exact hσ, hX.2.2.2.2.F ht⟩) hX.2.2.2.2.2.2 d hX.2.1.1

theorem aw_vret {G : ZG} {C : AWC} {Q : Option Value → ZS → Prop} {X : String → Nat → ZS → Prop} {kc ks pc : Nat} {lo : List (Nat × Value)} {σ : ZS}  (d : decode C.2.1 pc = .ok (.return_, 1)) (hr : C.2.2.2.1 = none) (h : Q (none) σ) : AW G C Q X kc ks pc lo [] σ := by
  intro p l e R s m args below meth c H locs cells slots mc ms ls hX hσ hl hc hs
  refine zx_ret (W.widen (k := mc) (n := ms) (by omega) (by omega) ?_)
  exact W.vret hX.1.1 hX.1.2.1 (hX.2.1.2.1.trans hr) (fun t ht hW => ⟨_, σ, rfl, h, by rw [ht]; exact hσ, hX.2.2.2.2.F ht⟩) hX.2.2.2.2.2.2 d hX.2.1.1

theorem aw_sub {G : ZG} {C : AWC} {Q : Option Value → ZS → Prop} {X : String → Nat → ZS → Prop} {kc ks pc : Nat} {lo lo2 : List (Nat × Value)} {st : List Value} {σ : ZS} (ks2 : List Nat) (hl2 : lv_pick lo ks2 = lo2) (k : AW G C Q X kc ks pc lo2 st σ) : AW G C Q X kc ks pc lo st σ := by
  intro p l e R s m args below meth c H locs cells slots mc ms ls hX hσ hl hc hs
  exact k _ _ _ _ _ _ _ _ _ _ _ _ _ _ _ _ _ hX hσ (lv_sub hl ks2 hl2) hc hs

theorem aw_room {G : ZG} {C : AWC} {Q : Option Value → ZS → Prop} {X : String → Nat → ZS → Prop} {kc ks pc : Nat} {lo : List (Nat × Value)} {st : List Value} {σ : ZS} {kc2 ks2 : Nat} (h1 : kc2 ≤ kc) (h2 : ks2 ≤ ks) (k : AW G C Q X kc2 ks2 pc lo st σ) : AW G C Q X kc ks pc lo st σ := by
  intro p l e R s m args below meth c H locs cells slots mc ms ls hX hσ hl hc hs
  exact k _ _ _ _ _ _ _ _ _ _ _ _ _ _ _ _ _ hX hσ hl (by omega) (by omega)

