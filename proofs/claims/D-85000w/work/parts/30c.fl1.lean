/-! L3f: floats: fields -/
theorem q_and63 (a : UInt64) : (a &&& 0x7fffffffffffffff).toNat = a.toNat % 9223372036854775808 := by
  rw [UInt64.toNat_and]
  exact Nat.and_two_pow_sub_one_eq_mod a.toNat 63
theorem q_and31 (a : UInt32) : (a &&& 0x7fffffff).toNat = a.toNat % 2147483648 := by
  rw [UInt32.toNat_and]
  exact Nat.and_two_pow_sub_one_eq_mod a.toNat 31
theorem n64_iff (a : UInt64) : vf_n64 a ↔ a.toNat % 9223372036854775808 ≤ 9218868437227405312 := by
  unfold vf_n64
  rw [UInt64.le_iff_toNat_le, q_and63]
  exact Iff.rfl
theorem n32_iff (a : UInt32) : vf_n32 a ↔ a.toNat % 2147483648 ≤ 2139095040 := by
  unfold vf_n32
  rw [UInt32.le_iff_toNat_le, q_and31]
  exact Iff.rfl
theorem t_b64 : FP.Core.b64.tails = 4503599627370496 := by decide
theorem e_b64 : FP.Core.b64.exps = 2048 := by decide
theorem t_b32 : FP.Core.b32.tails = 8388608 := by decide
theorem e_b32 : FP.Core.b32.exps = 256 := by decide
theorem dec64_nan (n : Nat) (hn : n < 18446744073709551616) : FP.Core.decode FP.Core.b64 n = .nan ↔ 9218868437227405312 < n % 9223372036854775808 := by
  unfold FP.Core.decode FP.Core.fieldE FP.Core.fieldT
  rw [t_b64, e_b64]
  split
  · split
    · simp only [reduceCtorEq, false_iff]; omega
    · simp only [true_iff]; omega
  · split <;> (simp only [reduceCtorEq, false_iff]; omega)
theorem dec32_nan (n : Nat) (hn : n < 4294967296) : FP.Core.decode FP.Core.b32 n = .nan ↔ 2139095040 < n % 2147483648 := by
  unfold FP.Core.decode FP.Core.fieldE FP.Core.fieldT
  rw [t_b32, e_b32]
  split
  · split
    · simp only [reduceCtorEq, false_iff]; omega
    · simp only [true_iff]; omega
  · split <;> (simp only [reduceCtorEq, false_iff]; omega)
def v64 (a : UInt64) : FP.Core.Datum := FP.Core.decode FP.Core.b64 a.toNat
def v32 (a : UInt32) : FP.Core.Datum := FP.Core.decode FP.Core.b32 a.toNat
theorem n64_v (a : UInt64) : vf_n64 a ↔ v64 a ≠ .nan := by
  rw [n64_iff, v64, Ne, dec64_nan _ a.toNat_lt]
  omega
theorem n32_v (a : UInt32) : vf_n32 a ↔ v32 a ≠ .nan := by
  rw [n32_iff, v32, Ne, dec32_nan _ a.toNat_lt]
  omega
theorem cmp_self_int (x : Int) : compare x x = .eq := by simp
theorem ord_self (x : FP.Core.Datum) : FP.Core.order x x = if x = .nan then none else some .eq := by
  cases x <;> simp [FP.Core.order]
theorem ord_none (x y : FP.Core.Datum) : FP.Core.order x y = none ↔ x = .nan ∨ y = .nan := by
  cases x <;> cases y <;> simp [FP.Core.order]
theorem d_self (a : UInt64) : (Op.cmpValue (FP.dcmp a a) .l = 0) ↔ vf_n64 a := by
  rw [n64_v]
  show (Op.cmpValue (FP.Core.order (v64 a) (v64 a)) .l = 0) ↔ _
  rw [ord_self]
  by_cases h : v64 a = .nan
  · simp [h, Op.cmpValue]
  · simp [h, Op.cmpValue]
theorem f_self (a : UInt32) : (Op.cmpValue (FP.fcmp a a) .l = 0) ↔ vf_n32 a := by
  rw [n32_v]
  show (Op.cmpValue (FP.Core.order (v32 a) (v32 a)) .l = 0) ↔ _
  rw [ord_self]
  by_cases h : v32 a = .nan
  · simp [h, Op.cmpValue]
  · simp [h, Op.cmpValue]
/-! bits to numbers and back -/
def fl_cD (b : Int64) : UInt64 := if b.toUInt64.toNat % 9223372036854775808 ≤ 9218868437227405312 then b.toUInt64 else 9221120237041090560
def fl_cF (b : Int32) : UInt32 := if b.toUInt32.toNat % 2147483648 ≤ 2139095040 then b.toUInt32 else 2143289344
def fl_wD (x : UInt32) : UInt64 := if x.toNat % 2147483648 ≤ 2139095040 then FP.f2d x else 9221120237041090560
def fl_nF (x : UInt64) : UInt32 := if x.toNat % 9223372036854775808 ≤ 9218868437227405312 then FP.d2f x else 2143289344
def fl_dL (x : UInt64) : Int64 := if x.toNat % 9223372036854775808 ≤ 9218868437227405312 then x.toInt64 else 9221120237041090560
def fl_fI (x : UInt32) : Int32 := if x.toNat % 2147483648 ≤ 2139095040 then x.toInt32 else 2143289344
theorem lg_le0 (x y : Int64) : (lg_cmp x y ≤ 0) ↔ x ≤ y := by
  unfold lg_cmp
  by_cases h1 : x > y
  · simp only [h1, if_true]; exact ⟨fun h => absurd h (by decide), fun h => absurd h1 (Int64.not_lt.mpr h)⟩
  · by_cases h2 : x = y
    · simp [h1, h2]
    · simp only [h1, h2, if_false]; exact ⟨fun _ => Int64.not_lt.mp h1, fun _ => by decide⟩
theorem lg_ge0 (x y : Int64) : (0 ≤ lg_cmp x y) ↔ y ≤ x := by
  unfold lg_cmp
  by_cases h1 : x > y
  · simp only [h1, if_true]; exact ⟨fun _ => Int64.le_of_lt h1, fun h => by decide⟩
  · by_cases h2 : x = y
    · simp [h2]
    · simp only [h1, h2, if_false]
      exact ⟨fun h => absurd h (by decide), fun h => absurd (Int64.le_antisymm (Int64.not_lt.mp h1) h) h2⟩
theorem lg_lt0 (x y : Int64) : (lg_cmp x y < 0) ↔ x < y := by
  rw [← Int32.not_le, lg_ge0, Int64.not_le]
theorem lg_gt0 (x y : Int64) : (0 < lg_cmp x y) ↔ y < x := by
  rw [← Int32.not_le, lg_le0, Int64.not_le]
theorem lg_eq0 (x y : Int64) : (lg_cmp x y = 0) ↔ x = y := by
  unfold lg_cmp
  by_cases h1 : x > y
  · simp only [h1, if_true]
    exact ⟨fun h => absurd h (by decide), fun h => by subst h; exact absurd h1 Int64.lt_irrefl⟩
  · by_cases h2 : x = y
    · simp [h2]
    · simp only [h1, h2, if_false]
      exact ⟨fun h => absurd h (by decide), fun h => h.elim⟩
theorem and63_toInt (b : Int64) : (b &&& 9223372036854775807).toInt = ((b.toUInt64.toNat % 9223372036854775808 : Nat) : Int) := by
  have e : (b &&& 9223372036854775807).toUInt64.toNat = b.toUInt64.toNat % 9223372036854775808 := by
    have := q_and63 b.toUInt64
    exact this
  have h1 : (b &&& 9223372036854775807).toUInt64.toNat < 9223372036854775808 := by omega
  have h2 := Int64.toInt_lt (b &&& 9223372036854775807)
  have h3 := Int64.le_toInt (b &&& 9223372036854775807)
  rw [← e]
  have h4 : (b &&& 9223372036854775807).toInt = (b &&& 9223372036854775807).toUInt64.toBitVec.toInt := rfl
  rw [h4, BitVec.toInt_eq_toNat_of_lt]
  · rfl
  · show 2 * (b &&& 9223372036854775807).toUInt64.toNat < 2 ^ 64
    omega
theorem and31_toInt (b : Int32) : (b &&& 2147483647).toInt = ((b.toUInt32.toNat % 2147483648 : Nat) : Int) := by
  have e : (b &&& 2147483647).toUInt32.toNat = b.toUInt32.toNat % 2147483648 := q_and31 b.toUInt32
  have h1 : (b &&& 2147483647).toUInt32.toNat < 2147483648 := by omega
  rw [← e]
  have h4 : (b &&& 2147483647).toInt = (b &&& 2147483647).toUInt32.toBitVec.toInt := rfl
  rw [h4, BitVec.toInt_eq_toNat_of_lt]
  · rfl
  · show 2 * (b &&& 2147483647).toUInt32.toNat < 2 ^ 32
    omega
theorem lim64 (b : Int64) : (b &&& 9223372036854775807 ≤ 9218868437227405312) ↔ b.toUInt64.toNat % 9223372036854775808 ≤ 9218868437227405312 := by
  rw [Int64.le_iff_toInt_le, and63_toInt]
  have e : (9218868437227405312 : Int64).toInt = 9218868437227405312 := by decide
  rw [e]
  omega
theorem lim32 (b : Int32) : (b &&& 2147483647 ≤ 2139095040) ↔ b.toUInt32.toNat % 2147483648 ≤ 2139095040 := by
  rw [Int32.le_iff_toInt_le, and31_toInt]
  have e : (2139095040 : Int32).toInt = 2139095040 := by decide
  rw [e]
  omega
theorem snl_of {b : Int64} (h : b.toUInt64.toNat % 9223372036854775808 ≤ 9218868437227405312) : vn_snl2d b = false := by
  unfold vn_snl2d
  have e : ¬ (b.toUInt64 &&& 9223372036854775807 > 9218868437227405312) := by
    rw [gt_iff_lt, UInt64.lt_iff_toNat_lt, q_and63]
    show ¬ (9218868437227405312 < _)
    omega
  simp [e]
theorem sni_of {b : Int32} (h : b.toUInt32.toNat % 2147483648 ≤ 2139095040) : vn_sni2f b = false := by
  unfold vn_sni2f
  have e : ¬ (b.toUInt32 &&& 2147483647 > 2139095040) := by
    rw [gt_iff_lt, UInt32.lt_iff_toNat_lt, q_and31]
    show ¬ (2139095040 < _)
    omega
  simp [e]
