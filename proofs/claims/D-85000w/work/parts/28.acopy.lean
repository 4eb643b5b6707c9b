/-! L1o: System.arraycopy: texts (printed by hand) -/
theorem zt_mod {s : String} {c : Char} {l : List Char} (h : s.toList = c :: l) (hc : c ≠ Char.ofNat 0) : (s == notModelled) = false := by
  rw [beq_eq_false_iff_ne]
  intro he
  have h1 : s.toList.head? = notModelled.toList.head? := congrArg (fun z : String => z.toList.head?) he
  have e2 : notModelled.toList.head? = some (Char.ofNat 0) := by decide +kernel
  rw [h, e2] at h1
  exact hc (Option.some.inj h1)
theorem zt_len {s : String} (h : s.toList.length ≤ 225) : (stringBytes (stringToUtf16 s)).size ≤ 900 := by
  have b1 := stringBytes_size_le (stringToUtf16 s)
  have b2 := utf16_size_le s
  omega
theorem zt_kn (ty : FieldType) : (Native.java_lang_System.arraycopy.kindName ty).toList.length ≤ 12 := by
  cases ty <;> first | decide +kernel | (show ("object array" : String).toList.length ≤ 12; decide +kernel)
theorem zt_int {z : Int} (h1 : -(2 : Int) ^ 33 < z) (h2 : z < (2 : Int) ^ 33) : (toString z).toList.length ≤ 11 := by
  show (Int.repr z).toList.length ≤ 11
  cases h : z with
  | ofNat m =>
    rw [h] at h2
    have h1' : (m : Int) < 2 ^ 33 := h2
    have := nat_print (n := m) (by omega)
    show (toString m).toList.length ≤ 11
    omega
  | negSucc m =>
    rw [h] at h1
    have h2' : -(2 : Int) ^ 33 < -((m : Int) + 1) := by simpa [Int.negSucc_eq] using h1
    have := nat_print (n := m.succ) (by omega)
    show ("-" ++ toString m.succ).toList.length ≤ 11
    rw [String.toList_append, List.length_append]
    have h0 : "-".toList.length = 1 := by decide
    omega
theorem zt_a (s : String) : ∃ l, ("arraycopy: " ++ s).toList = 'a' :: l := ⟨"rraycopy: ".toList ++ s.toList, by rw [String.toList_append]; rfl⟩
theorem zt_fault {tS tD : FieldType} {nS nD : Nat} {sp dp n : Int32} {what : String} (h : copyFault tS tD nS nD sp dp n = some what) (hS : nS < 2 ^ 31) (hD : nD < 2 ^ 31) : (("arraycopy: " ++ what) == notModelled) = false ∧ (stringBytes (stringToUtf16 ("arraycopy: " ++ what))).size ≤ 900 := by
  obtain ⟨l, hl⟩ := zt_a what
  refine ⟨zt_mod hl (by decide), zt_len ?_⟩
  rw [zl_app]
  have e0 : "arraycopy: ".toList.length = 11 := by decide +kernel
  have k1 := zt_kn tS
  have k2 := zt_kn tD
  have i1 := int32_print sp
  have i2 := int32_print dp
  have i3 := int32_print n
  have n1 := nat_print (n := nS) (by omega)
  have n2 := nat_print (n := nD) (by omega)
  have u1 := Int32.toInt_lt sp
  have u2 := Int32.le_toInt sp
  have u3 := Int32.toInt_lt dp
  have u4 := Int32.le_toInt dp
  have u5 := Int32.toInt_lt n
  have u6 := Int32.le_toInt n
  have i4 := zt_int (z := sp.toInt + n.toInt) (by omega) (by omega)
  have i5 := zt_int (z := dp.toInt + n.toInt) (by omega) (by omega)
  have t1 : (toString "source index ").toList.length = 13 := by decide +kernel
  have t2 : (toString " out of bounds for ").toList.length = 19 := by decide +kernel
  have t3 : (toString "[").toList.length = 1 := by decide +kernel
  have t4 : (toString "]").toList.length = 1 := by decide +kernel
  have t5 : (toString "destination index ").toList.length = 18 := by decide +kernel
  have t6 : (toString "length ").toList.length = 7 := by decide +kernel
  have t7 : (toString " is negative").toList.length = 12 := by decide +kernel
  have t8 : (toString "last source index ").toList.length = 18 := by decide +kernel
  have t9 : (toString "last destination index ").toList.length = 23 := by decide +kernel
  have tt : ∀ x : String, toString x = x := fun _ => rfl
  unfold copyFault at h
  split at h
  · cases h
    simp only [zl_app, tt] at *
    omega
  · split at h
    · cases h
      simp only [zl_app, tt] at *
      omega
    · split at h
      · cases h
        simp only [zl_app, tt] at *
        omega
      · split at h
        · cases h
          simp only [zl_app, tt] at *
          omega
        · split at h
          · cases h
            simp only [zl_app, tt] at *
            omega
          · cases h
theorem zt_types (tS tD : FieldType) : ((toString "arraycopy: type mismatch: can not copy " ++ toString (Native.java_lang_System.arraycopy.kindName tS) ++ toString "[] into " ++ toString (Native.java_lang_System.arraycopy.kindName tD) ++ toString "[]") == notModelled) = false ∧ (stringBytes (stringToUtf16 (toString "arraycopy: type mismatch: can not copy " ++ toString (Native.java_lang_System.arraycopy.kindName tS) ++ toString "[] into " ++ toString (Native.java_lang_System.arraycopy.kindName tD) ++ toString "[]"))).size ≤ 900 := by
  have k1 := zt_kn tS
  have k2 := zt_kn tD
  have tt : ∀ x : String, toString x = x := fun _ => rfl
  have t1 : ("arraycopy: type mismatch: can not copy ").toList.length = 39 := by decide +kernel
  have t2 : ("[] into ").toList.length = 8 := by decide +kernel
  have t3 : ("[]").toList.length = 2 := by decide +kernel
  refine ⟨zt_mod (c := 'a') (l := "rraycopy: type mismatch: can not copy ".toList ++ (Native.java_lang_System.arraycopy.kindName tS).toList ++ "[] into ".toList ++ (Native.java_lang_System.arraycopy.kindName tD).toList ++ "[]".toList) ?_ (by decide), zt_len ?_⟩
  · simp only [tt, String.toList_append]
    rfl
  · simp only [zl_app, tt]
    omega
