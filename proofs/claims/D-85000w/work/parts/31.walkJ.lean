theorem yh_J10_abs_3 : yJ10_abs_3.cls ≠ "java/lang/invoke/MethodHandle" ∧ yJ10_abs_3.cls ≠ "java/lang/invoke/VarHandle" := by decide +kernel
theorem yl_J10_abs_3 : (parseMethodDescriptor yJ10_abs_3.desc).map (fun d => d.parameters.length) = some 1 := by decide +kernel
theorem yh_J10_abs_4 : yJ10_abs_4.cls ≠ "java/lang/invoke/MethodHandle" ∧ yJ10_abs_4.cls ≠ "java/lang/invoke/VarHandle" := by decide +kernel
theorem yl_J10_abs_4 : (parseMethodDescriptor yJ10_abs_4.desc).map (fun d => d.parameters.length) = some 1 := by decide +kernel
theorem yh_J10_copySign : yJ10_copySign.cls ≠ "java/lang/invoke/MethodHandle" ∧ yJ10_copySign.cls ≠ "java/lang/invoke/VarHandle" := by decide +kernel
theorem yl_J10_copySign : (parseMethodDescriptor yJ10_copySign.desc).map (fun d => d.parameters.length) = some 2 := by decide +kernel
theorem yh_J10_copySign_2 : yJ10_copySign_2.cls ≠ "java/lang/invoke/MethodHandle" ∧ yJ10_copySign_2.cls ≠ "java/lang/invoke/VarHandle" := by decide +kernel
theorem yl_J10_copySign_2 : (parseMethodDescriptor yJ10_copySign_2.desc).map (fun d => d.parameters.length) = some 2 := by decide +kernel
theorem yh_J10_getExponent : yJ10_getExponent.cls ≠ "java/lang/invoke/MethodHandle" ∧ yJ10_getExponent.cls ≠ "java/lang/invoke/VarHandle" := by decide +kernel
theorem yl_J10_getExponent : (parseMethodDescriptor yJ10_getExponent.desc).map (fun d => d.parameters.length) = some 1 := by decide +kernel
theorem yh_J10_getExponent_2 : yJ10_getExponent_2.cls ≠ "java/lang/invoke/MethodHandle" ∧ yJ10_getExponent_2.cls ≠ "java/lang/invoke/VarHandle" := by decide +kernel
theorem yl_J10_getExponent_2 : (parseMethodDescriptor yJ10_getExponent_2.desc).map (fun d => d.parameters.length) = some 1 := by decide +kernel
theorem yh_J10_max_2 : yJ10_max_2.cls ≠ "java/lang/invoke/MethodHandle" ∧ yJ10_max_2.cls ≠ "java/lang/invoke/VarHandle" := by decide +kernel
theorem yl_J10_max_2 : (parseMethodDescriptor yJ10_max_2.desc).map (fun d => d.parameters.length) = some 2 := by decide +kernel
theorem yh_J10_min_2 : yJ10_min_2.cls ≠ "java/lang/invoke/MethodHandle" ∧ yJ10_min_2.cls ≠ "java/lang/invoke/VarHandle" := by decide +kernel
theorem yl_J10_min_2 : (parseMethodDescriptor yJ10_min_2.desc).map (fun d => d.parameters.length) = some 2 := by decide +kernel
theorem yh_J10_powerOfTwoD : yJ10_powerOfTwoD.cls ≠ "java/lang/invoke/MethodHandle" ∧ yJ10_powerOfTwoD.cls ≠ "java/lang/invoke/VarHandle" := by decide +kernel
theorem yl_J10_powerOfTwoD : (parseMethodDescriptor yJ10_powerOfTwoD.desc).map (fun d => d.parameters.length) = some 1 := by decide +kernel
theorem yh_J10_powerOfTwoF : yJ10_powerOfTwoF.cls ≠ "java/lang/invoke/MethodHandle" ∧ yJ10_powerOfTwoF.cls ≠ "java/lang/invoke/VarHandle" := by decide +kernel
theorem yl_J10_powerOfTwoF : (parseMethodDescriptor yJ10_powerOfTwoF.desc).map (fun d => d.parameters.length) = some 1 := by decide +kernel
theorem yh_J13_charAt : yJ13_charAt.cls ≠ "java/lang/invoke/MethodHandle" ∧ yJ13_charAt.cls ≠ "java/lang/invoke/VarHandle" := by decide +kernel
theorem yl_J13_charAt : (parseMethodDescriptor yJ13_charAt.desc).map (fun d => d.parameters.length) = some 2 := by decide +kernel
theorem yh_J14_checkIndex : yJ14_checkIndex.cls ≠ "java/lang/invoke/MethodHandle" ∧ yJ14_checkIndex.cls ≠ "java/lang/invoke/VarHandle" := by decide +kernel
theorem yl_J14_checkIndex : (parseMethodDescriptor yJ14_checkIndex.desc).map (fun d => d.parameters.length) = some 3 := by decide +kernel
theorem yh_J15_charAt : yJ15_charAt.cls ≠ "java/lang/invoke/MethodHandle" ∧ yJ15_charAt.cls ≠ "java/lang/invoke/VarHandle" := by decide +kernel
theorem yl_J15_charAt : (parseMethodDescriptor yJ15_charAt.desc).map (fun d => d.parameters.length) = some 2 := by decide +kernel
theorem yh_J17_ceil : yJ17_ceil.cls ≠ "java/lang/invoke/MethodHandle" ∧ yJ17_ceil.cls ≠ "java/lang/invoke/VarHandle" := by decide +kernel
theorem yl_J17_ceil : (parseMethodDescriptor yJ17_ceil.desc).map (fun d => d.parameters.length) = some 1 := by decide +kernel
theorem yh_J17_floor : yJ17_floor.cls ≠ "java/lang/invoke/MethodHandle" ∧ yJ17_floor.cls ≠ "java/lang/invoke/VarHandle" := by decide +kernel
theorem yl_J17_floor : (parseMethodDescriptor yJ17_floor.desc).map (fun d => d.parameters.length) = some 1 := by decide +kernel
theorem yh_J17_floorOrCeil : yJ17_floorOrCeil.cls ≠ "java/lang/invoke/MethodHandle" ∧ yJ17_floorOrCeil.cls ≠ "java/lang/invoke/VarHandle" := by decide +kernel
theorem yl_J17_floorOrCeil : (parseMethodDescriptor yJ17_floorOrCeil.desc).map (fun d => d.parameters.length) = some 4 := by decide +kernel
theorem yh_J17_rint : yJ17_rint.cls ≠ "java/lang/invoke/MethodHandle" ∧ yJ17_rint.cls ≠ "java/lang/invoke/VarHandle" := by decide +kernel
theorem yl_J17_rint : (parseMethodDescriptor yJ17_rint.desc).map (fun d => d.parameters.length) = some 1 := by decide +kernel
theorem yh_J4_checkIndex : yJ4_checkIndex.cls ≠ "java/lang/invoke/MethodHandle" ∧ yJ4_checkIndex.cls ≠ "java/lang/invoke/VarHandle" := by decide +kernel
theorem yl_J4_checkIndex : (parseMethodDescriptor yJ4_checkIndex.desc).map (fun d => d.parameters.length) = some 2 := by decide +kernel
theorem yh_J4_coder : yJ4_coder.cls ≠ "java/lang/invoke/MethodHandle" ∧ yJ4_coder.cls ≠ "java/lang/invoke/VarHandle" := by decide +kernel
theorem yl_J4_coder : (parseMethodDescriptor yJ4_coder.desc).map (fun d => d.parameters.length) = some 0 := by decide +kernel
theorem yh_J4_isLatin1 : yJ4_isLatin1.cls ≠ "java/lang/invoke/MethodHandle" ∧ yJ4_isLatin1.cls ≠ "java/lang/invoke/VarHandle" := by decide +kernel
theorem yl_J4_isLatin1 : (parseMethodDescriptor yJ4_isLatin1.desc).map (fun d => d.parameters.length) = some 0 := by decide +kernel
theorem yh_J8_isNaN : yJ8_isNaN.cls ≠ "java/lang/invoke/MethodHandle" ∧ yJ8_isNaN.cls ≠ "java/lang/invoke/VarHandle" := by decide +kernel
theorem yl_J8_isNaN : (parseMethodDescriptor yJ8_isNaN.desc).map (fun d => d.parameters.length) = some 1 := by decide +kernel
theorem yh_J9_isNaN : yJ9_isNaN.cls ≠ "java/lang/invoke/MethodHandle" ∧ yJ9_isNaN.cls ≠ "java/lang/invoke/VarHandle" := by decide +kernel
theorem yl_J9_isNaN : (parseMethodDescriptor yJ9_isNaN.desc).map (fun d => d.parameters.length) = some 1 := by decide +kernel
abbrev kJ10_min (d : Nat) : AWC := (RJ10, cJ10_min, 4, (some .long), [], false, d)
abbrev kJ10_max (d : Nat) : AWC := (RJ10, cJ10_max, 4, (some .long), [], false, d)
abbrev kJ10_max_2 (d : Nat) : AWC := (RJ10, cJ10_max_2, 2, (some .int), [], false, d)
abbrev kJ10_min_2 (d : Nat) : AWC := (RJ10, cJ10_min_2, 2, (some .int), [], false, d)
abbrev kJ10_max_3 (d : Nat) : AWC := (RJ10, cJ10_max_3, 2, (some .float), [], false, d)
abbrev kJ10_min_3 (d : Nat) : AWC := (RJ10, cJ10_min_3, 2, (some .float), [], false, d)
abbrev kJ10_max_4 (d : Nat) : AWC := (RJ10, cJ10_max_4, 4, (some .double), [], false, d)
abbrev kJ10_min_4 (d : Nat) : AWC := (RJ10, cJ10_min_4, 4, (some .double), [], false, d)
abbrev kJ10_copySign (d : Nat) : AWC := (RJ10, cJ10_copySign, 2, (some .float), [], false, d)
abbrev kJ10_copySign_2 (d : Nat) : AWC := (RJ10, cJ10_copySign_2, 4, (some .double), [], false, d)
abbrev kJ10_scalb (d : Nat) : AWC := (RJ10, cJ10_scalb, 3, (some .float), [], false, d)
abbrev kJ10_powerOfTwoD (d : Nat) : AWC := (RJ10, cJ10_powerOfTwoD, 1, (some .double), [], false, d)
abbrev kJ10_scalb_2 (d : Nat) : AWC := (RJ10, cJ10_scalb_2, 9, (some .double), [], false, d)
abbrev kJ10_abs (d : Nat) : AWC := (RJ10, cJ10_abs, 1, (some .int), [], false, d)
abbrev kJ10_abs_2 (d : Nat) : AWC := (RJ10, cJ10_abs_2, 2, (some .long), [], false, d)
abbrev kJ10_abs_3 (d : Nat) : AWC := (RJ10, cJ10_abs_3, 1, (some .float), [], false, d)
abbrev kJ10_abs_4 (d : Nat) : AWC := (RJ10, cJ10_abs_4, 2, (some .double), [], false, d)
abbrev kJ10_round (d : Nat) : AWC := (RJ10, cJ10_round, 5, (some .int), [], false, d)
abbrev kJ10_getExponent (d : Nat) : AWC := (RJ10, cJ10_getExponent, 1, (some .int), [], false, d)
abbrev kJ10_floor (d : Nat) : AWC := (RJ10, cJ10_floor, 2, (some .double), [], false, d)
abbrev kJ10_getExponent_2 (d : Nat) : AWC := (RJ10, cJ10_getExponent_2, 2, (some .int), [], false, d)
abbrev kJ10_ceil (d : Nat) : AWC := (RJ10, cJ10_ceil, 2, (some .double), [], false, d)
abbrev kJ10_rint (d : Nat) : AWC := (RJ10, cJ10_rint, 2, (some .double), [], false, d)
abbrev kJ10_signum (d : Nat) : AWC := (RJ10, cJ10_signum, 1, (some .float), [], false, d)
abbrev kJ10_ulp (d : Nat) : AWC := (RJ10, cJ10_ulp, 2, (some .float), [], false, d)
abbrev kJ10_powerOfTwoF (d : Nat) : AWC := (RJ10, cJ10_powerOfTwoF, 1, (some .float), [], false, d)
abbrev kJ10_nextUp (d : Nat) : AWC := (RJ10, cJ10_nextUp, 2, (some .float), [], false, d)
abbrev kJ10_round_2 (d : Nat) : AWC := (RJ10, cJ10_round_2, 10, (some .long), [], false, d)
abbrev kJ10_signum_2 (d : Nat) : AWC := (RJ10, cJ10_signum_2, 2, (some .double), [], false, d)
abbrev kJ10_ulp_2 (d : Nat) : AWC := (RJ10, cJ10_ulp_2, 3, (some .double), [], false, d)
abbrev kJ10_nextUp_2 (d : Nat) : AWC := (RJ10, cJ10_nextUp_2, 4, (some .double), [], false, d)
abbrev kJ13_charAt (d : Nat) : AWC := (RJ13, cJ13_charAt, 2, (some .char), [], false, d)
abbrev kJ14_checkIndex (d : Nat) : AWC := (RJ14, cJ14_checkIndex, 3, (some .int), [], false, d)
abbrev kJ17_floor (d : Nat) : AWC := (RJ17, cJ17_floor, 2, (some .double), [], false, d)
abbrev kJ17_floorOrCeil (d : Nat) : AWC := (RJ17, cJ17_floorOrCeil, 15, (some .double), [], false, d)
abbrev kJ17_ceil (d : Nat) : AWC := (RJ17, cJ17_ceil, 2, (some .double), [], false, d)
abbrev kJ17_rint (d : Nat) : AWC := (RJ17, cJ17_rint, 6, (some .double), [], false, d)
abbrev kJ4_length (d : Nat) : AWC := (RJ4, cJ4_length, 1, (some .int), [], false, d)
abbrev kJ4_coder (d : Nat) : AWC := (RJ4, cJ4_coder, 1, (some .byte), [], false, d)
abbrev kJ4_charAt (d : Nat) : AWC := (RJ4, cJ4_charAt, 2, (some .char), [], false, d)
abbrev kJ4_isLatin1 (d : Nat) : AWC := (RJ4, cJ4_isLatin1, 1, (some .boolean), [], false, d)
abbrev kJ4_checkIndex (d : Nat) : AWC := (RJ4, cJ4_checkIndex, 2, none, [], false, d)
abbrev kJ8_floatToIntBits (d : Nat) : AWC := (RJ8, cJ8_floatToIntBits, 1, (some .int), [], false, d)
abbrev kJ8_isNaN (d : Nat) : AWC := (RJ8, cJ8_isNaN, 1, (some .boolean), [], false, d)
abbrev kJ9_doubleToLongBits (d : Nat) : AWC := (RJ9, cJ9_doubleToLongBits, 2, (some .long), [], false, d)
abbrev kJ9_isNaN (d : Nat) : AWC := (RJ9, cJ9_isNaN, 2, (some .boolean), [], false, d)
def f_J10_min_11 (G : ZG) (d : Nat) (Q : Option Value → ZS → Prop) (X : String → Nat → ZS → Prop) (w0 : Int64) (σ : ZS) : Prop :=
  Q (some (.long w0)) σ
def f_J10_min (G : ZG) (d : Nat) (Q : Option Value → ZS → Prop) (X : String → Nat → ZS → Prop) (a0 : Int64) (a2 : Int64) (σ : ZS) : Prop :=
  zif (0 < (lg_cmp a0 a2)) (f_J10_min_11 G d Q X a2 σ) (f_J10_min_11 G d Q X a0 σ)
def f_J10_max_11 (G : ZG) (d : Nat) (Q : Option Value → ZS → Prop) (X : String → Nat → ZS → Prop) (w0 : Int64) (σ : ZS) : Prop :=
  Q (some (.long w0)) σ
def f_J10_max (G : ZG) (d : Nat) (Q : Option Value → ZS → Prop) (X : String → Nat → ZS → Prop) (a0 : Int64) (a2 : Int64) (σ : ZS) : Prop :=
  zif ((lg_cmp a0 a2) < 0) (f_J10_max_11 G d Q X a2 σ) (f_J10_max_11 G d Q X a0 σ)
def f_J10_max_2_10 (G : ZG) (d : Nat) (Q : Option Value → ZS → Prop) (X : String → Nat → ZS → Prop) (w0 : Int32) (σ : ZS) : Prop :=
  Q (some (.int w0)) σ
def f_J10_max_2 (G : ZG) (d : Nat) (Q : Option Value → ZS → Prop) (X : String → Nat → ZS → Prop) (a0 : Int32) (a1 : Int32) (σ : ZS) : Prop :=
  zif (a0 < a1) (f_J10_max_2_10 G d Q X a1 σ) (f_J10_max_2_10 G d Q X a0 σ)
def f_J10_min_2_10 (G : ZG) (d : Nat) (Q : Option Value → ZS → Prop) (X : String → Nat → ZS → Prop) (w0 : Int32) (σ : ZS) : Prop :=
  Q (some (.int w0)) σ
def f_J10_min_2 (G : ZG) (d : Nat) (Q : Option Value → ZS → Prop) (X : String → Nat → ZS → Prop) (a0 : Int32) (a1 : Int32) (σ : ZS) : Prop :=
  zif (a1 < a0) (f_J10_min_2_10 G d Q X a1 σ) (f_J10_min_2_10 G d Q X a0 σ)
def f_J10_scalb (G : ZG) (d : Nat) (Q : Option Value → ZS → Prop) (X : String → Nat → ZS → Prop) (a0 : UInt32) (a1 : Int32) (σ : ZS) : Prop :=
  cs0I G yJ10_min_2 d [.int a1, .int (278 : Int32)] σ (fun v1 σ2 => cs0I G yJ10_max_2 d [.int v1, .int (-278 : Int32)] σ2 (fun v10 σ11 => vf_n64 (FP.f2d a0) ∧ cs0D G yJ10_powerOfTwoD d [.int v10] σ11 (fun v19 σ20 => vf_n64 (FP.dmul (FP.f2d a0) v19) ∧ vf_n32 (FP.d2f (FP.dmul (FP.f2d a0) v19)) ∧ Q (some (.float (FP.d2f (FP.dmul (FP.f2d a0) v19)))) σ20) X) X) X
def f_J10_powerOfTwoD (G : ZG) (d : Nat) (Q : Option Value → ZS → Prop) (X : String → Nat → ZS → Prop) (a0 : Int32) (σ : ZS) : Prop :=
  vn_snl2d (((a0.toInt64 + (1023 : Int64)) <<< (((52 : Int32)).toInt64 &&& 63)) &&& (9218868437227405312 : Int64)) = false ∧ Q (some (.double ((((a0.toInt64 + (1023 : Int64)) <<< (((52 : Int32)).toInt64 &&& 63)) &&& (9218868437227405312 : Int64)).toUInt64))) σ
def g_J10_scalb_2_93 (G : ZG) (d : Nat) (Q : Option Value → ZS → Prop) (X : String → Nat → ZS → Prop) (a5 : Int32) (a6 : UInt64) (R93 : UInt64 × Int32 × ZS → Prop) (s : UInt64 × Int32 × ZS) : Prop :=
  zif (s.2.1 = 0) (Q (some (.double s.1)) s.2.2) (vf_n64 (FP.dmul s.1 a6) ∧ ∀ y1, y1 = (FP.dmul s.1 a6) → ∀ y2, y2 = (s.2.1 - a5) → R93 (y1, y2, s.2.2))
def f_J10_scalb_2_93 (G : ZG) (d : Nat) (Q : Option Value → ZS → Prop) (X : String → Nat → ZS → Prop) (a0 : UInt64) (a2 : Int32) (a5 : Int32) (a6 : UInt64) (σ : ZS) : Prop := KT (g_J10_scalb_2_93 G d Q X a5 a6) (a0, a2, σ)
def f_J10_scalb_2_58 (G : ZG) (d : Nat) (Q : Option Value → ZS → Prop) (X : String → Nat → ZS → Prop) (a0 : UInt64) (a2 : Int32) (a5 : Int32) (a6 : UInt64) (σ : ZS) : Prop :=
  ∀ y1, y1 = (((a2 >>> ((8 : Int32) &&& 31))).toUInt32 >>> (((23 : Int32)).toUInt32 &&& Int32.toUInt32 31)).toInt32 → ∀ y2, y2 = (((a2 + y1) &&& (511 : Int32)) - y1) → cs0D G yJ10_powerOfTwoD d [.int y2] σ (fun v3 σ4 => vf_n64 (FP.dmul a0 v3) ∧ ∀ y12, y12 = (FP.dmul a0 v3) → ∀ y13, y13 = (a2 - y2) → f_J10_scalb_2_93 G d Q X y12 y13 a5 a6 σ4) X
def f_J10_scalb_2 (G : ZG) (d : Nat) (Q : Option Value → ZS → Prop) (X : String → Nat → ZS → Prop) (a0 : UInt64) (a2 : Int32) (σ : ZS) : Prop :=
  zif (0 ≤ a2) (cs0I G yJ10_min_2 d [.int a2, .int (2099 : Int32)] σ (fun v1 σ2 => f_J10_scalb_2_58 G d Q X a0 v1 (512 : Int32) (6913025428013711360 : UInt64) σ2) X) (cs0I G yJ10_max_2 d [.int a2, .int (-2099 : Int32)] σ (fun v10 σ11 => f_J10_scalb_2_58 G d Q X a0 v10 (-512 : Int32) (2301339409586323456 : UInt64) σ11) X)
def f_J10_abs_10 (G : ZG) (d : Nat) (Q : Option Value → ZS → Prop) (X : String → Nat → ZS → Prop) (w0 : Int32) (σ : ZS) : Prop :=
  Q (some (.int w0)) σ
def f_J10_abs (G : ZG) (d : Nat) (Q : Option Value → ZS → Prop) (X : String → Nat → ZS → Prop) (a0 : Int32) (σ : ZS) : Prop :=
  zif (0 ≤ a0) (f_J10_abs_10 G d Q X a0 σ) (f_J10_abs_10 G d Q X (-a0) σ)
def f_J10_abs_2_12 (G : ZG) (d : Nat) (Q : Option Value → ZS → Prop) (X : String → Nat → ZS → Prop) (w0 : Int64) (σ : ZS) : Prop :=
  Q (some (.long w0)) σ
def f_J10_abs_2 (G : ZG) (d : Nat) (Q : Option Value → ZS → Prop) (X : String → Nat → ZS → Prop) (a0 : Int64) (σ : ZS) : Prop :=
  zif (0 ≤ (lg_cmp a0 (0 : Int64))) (f_J10_abs_2_12 G d Q X a0 σ) (f_J10_abs_2_12 G d Q X (-a0) σ)
def f_J10_round_44 (G : ZG) (d : Nat) (Q : Option Value → ZS → Prop) (X : String → Nat → ZS → Prop) (a3 : Int32) (a4 : Int32) (σ : ZS) : Prop :=
  Q (some (.int (((a4 >>> (a3 &&& 31)) + (1 : Int32)) >>> ((1 : Int32) &&& 31)))) σ
def f_J10_round (G : ZG) (d : Nat) (Q : Option Value → ZS → Prop) (X : String → Nat → ZS → Prop) (a0 : UInt32) (σ : ZS) : Prop :=
  ∀ y1, y1 = ((a0.toInt32 &&& (2139095040 : Int32)) >>> ((23 : Int32) &&& 31)) → ∀ y2, y2 = ((149 : Int32) - y1) → zif ((y2 &&& (-32 : Int32)) = 0) (∀ y3, y3 = ((a0.toInt32 &&& (8388607 : Int32)) ||| (8388608 : Int32)) → zif (0 ≤ a0.toInt32) (f_J10_round_44 G d Q X y2 y3 σ) (f_J10_round_44 G d Q X y2 (-y3) σ)) (Q (some (.int (FP.f2i a0))) σ)
def f_J10_getExponent (G : ZG) (d : Nat) (Q : Option Value → ZS → Prop) (X : String → Nat → ZS → Prop) (a0 : UInt32) (σ : ZS) : Prop :=
  Q (some (.int (((a0.toInt32 &&& (2139095040 : Int32)) >>> ((23 : Int32) &&& 31)) - (127 : Int32)))) σ
def f_J10_getExponent_2 (G : ZG) (d : Nat) (Q : Option Value → ZS → Prop) (X : String → Nat → ZS → Prop) (a0 : UInt64) (σ : ZS) : Prop :=
  Q (some (.int ((((a0.toInt64 &&& (9218868437227405312 : Int64)) >>> (((52 : Int32)).toInt64 &&& 63)) - (1023 : Int64)).toInt32))) σ
def f_J10_ulp_99 (G : ZG) (d : Nat) (Q : Option Value → ZS → Prop) (X : String → Nat → ZS → Prop) (w0 : UInt32) (σ : ZS) : Prop :=
  Q (some (.float w0)) σ
def f_J10_ulp (G : ZG) (d : Nat) (Q : Option Value → ZS → Prop) (X : String → Nat → ZS → Prop) (a0 : UInt32) (σ : ZS) : Prop :=
  cs0I G yJ10_getExponent d [.float a0] σ (fun v1 σ2 => zif (v1 = (-127)) (f_J10_ulp_99 G d Q X (1 : UInt32) σ2) (zif (v1 = 128) (cs0F G yJ10_abs_3 d [.float a0] σ2 (fun v10 σ11 => f_J10_ulp_99 G d Q X v10 σ11) X) (∀ y19, y19 = (v1 - (23 : Int32)) → zif (y19 < (-126 : Int32)) (vn_sni2f ((1 : Int32) <<< ((y19 - (-149 : Int32)) &&& 31)) = false ∧ f_J10_ulp_99 G d Q X (((1 : Int32) <<< ((y19 - (-149 : Int32)) &&& 31)).toUInt32) σ2) (cs0F G yJ10_powerOfTwoF d [.int y19] σ2 (fun v20 σ21 => f_J10_ulp_99 G d Q X v20 σ21) X)))) X
def f_J10_powerOfTwoF (G : ZG) (d : Nat) (Q : Option Value → ZS → Prop) (X : String → Nat → ZS → Prop) (a0 : Int32) (σ : ZS) : Prop :=
  vn_sni2f (((a0 + (127 : Int32)) <<< ((23 : Int32) &&& 31)) &&& (2139095040 : Int32)) = false ∧ Q (some (.float ((((a0 + (127 : Int32)) <<< ((23 : Int32) &&& 31)) &&& (2139095040 : Int32)).toUInt32))) σ
def f_J10_nextUp_25 (G : ZG) (d : Nat) (Q : Option Value → ZS → Prop) (X : String → Nat → ZS → Prop) (w0 : Int32) (w1 : Int32) (σ : ZS) : Prop :=
  vn_sni2f (w1 + w0) = false ∧ Q (some (.float ((w1 + w0).toUInt32))) σ
def f_J10_nextUp (G : ZG) (d : Nat) (Q : Option Value → ZS → Prop) (X : String → Nat → ZS → Prop) (a0 : UInt32) (σ : ZS) : Prop :=
  zif (0 ≤ (Op.cmpValue (FP.fcmp a0 (2139095040 : UInt32)) .g)) (Q (some (.float a0)) σ) (vf_n32 (FP.fadd a0 FP.fconst0) ∧ ∀ y1, y1 = (FP.fadd a0 FP.fconst0).toInt32 → zif (y1 < 0) (f_J10_nextUp_25 G d Q X (-1 : Int32) y1 σ) (f_J10_nextUp_25 G d Q X (1 : Int32) y1 σ))
def f_J10_round_2_56 (G : ZG) (d : Nat) (Q : Option Value → ZS → Prop) (X : String → Nat → ZS → Prop) (a6 : Int64) (a8 : Int64) (σ : ZS) : Prop :=
  Q (some (.long (((a8 >>> ((a6.toInt32).toInt64 &&& 63)) + (1 : Int64)) >>> (((1 : Int32)).toInt64 &&& 63)))) σ
def f_J10_round_2 (G : ZG) (d : Nat) (Q : Option Value → ZS → Prop) (X : String → Nat → ZS → Prop) (a0 : UInt64) (σ : ZS) : Prop :=
  ∀ y1, y1 = ((a0.toInt64 &&& (9218868437227405312 : Int64)) >>> (((52 : Int32)).toInt64 &&& 63)) → ∀ y2, y2 = ((1074 : Int64) - y1) → zif ((lg_cmp (y2 &&& (-64 : Int64)) (0 : Int64)) = 0) (∀ y3, y3 = ((a0.toInt64 &&& (4503599627370495 : Int64)) ||| (4503599627370496 : Int64)) → zif (0 ≤ (lg_cmp a0.toInt64 (0 : Int64))) (f_J10_round_2_56 G d Q X y2 y3 σ) (f_J10_round_2_56 G d Q X y2 (-y3) σ)) (Q (some (.long (FP.d2l a0))) σ)
def f_J10_ulp_2_102 (G : ZG) (d : Nat) (Q : Option Value → ZS → Prop) (X : String → Nat → ZS → Prop) (w0 : UInt64) (σ : ZS) : Prop :=
  Q (some (.double w0)) σ
def f_J10_ulp_2 (G : ZG) (d : Nat) (Q : Option Value → ZS → Prop) (X : String → Nat → ZS → Prop) (a0 : UInt64) (σ : ZS) : Prop :=
  cs0I G yJ10_getExponent_2 d [.double a0] σ (fun v1 σ2 => zif (v1 = (-1023)) (f_J10_ulp_2_102 G d Q X (1 : UInt64) σ2) (zif (v1 = 1024) (cs0D G yJ10_abs_4 d [.double a0] σ2 (fun v10 σ11 => f_J10_ulp_2_102 G d Q X v10 σ11) X) (∀ y19, y19 = (v1 - (52 : Int32)) → zif (y19 < (-1022 : Int32)) (vn_snl2d ((1 : Int64) <<< (((y19 - (-1074 : Int32))).toInt64 &&& 63)) = false ∧ f_J10_ulp_2_102 G d Q X (((1 : Int64) <<< (((y19 - (-1074 : Int32))).toInt64 &&& 63)).toUInt64) σ2) (cs0D G yJ10_powerOfTwoD d [.int y19] σ2 (fun v20 σ21 => f_J10_ulp_2_102 G d Q X v20 σ21) X)))) X
def f_J10_nextUp_2_29 (G : ZG) (d : Nat) (Q : Option Value → ZS → Prop) (X : String → Nat → ZS → Prop) (w0 : Int64) (w1 : Int64) (σ : ZS) : Prop :=
  vn_snl2d (w1 + w0) = false ∧ Q (some (.double ((w1 + w0).toUInt64))) σ
def f_J10_nextUp_2 (G : ZG) (d : Nat) (Q : Option Value → ZS → Prop) (X : String → Nat → ZS → Prop) (a0 : UInt64) (σ : ZS) : Prop :=
  zif (0 ≤ (Op.cmpValue (FP.dcmp a0 (9218868437227405312 : UInt64)) .g)) (Q (some (.double a0)) σ) (vf_n64 (FP.dadd a0 FP.dconst0) ∧ ∀ y1, y1 = (FP.dadd a0 FP.dconst0).toInt64 → zif ((lg_cmp y1 (0 : Int64)) < 0) (f_J10_nextUp_2_29 G d Q X (-1 : Int64) y1 σ) (f_J10_nextUp_2_29 G d Q X (1 : Int64) y1 σ))
def f_J13_charAt (G : ZG) (d : Nat) (Q : Option Value → ZS → Prop) (X : String → Nat → ZS → Prop) (a0 : Option Nat) (a1 : Int32) (σ : ZS) : Prop :=
  sln G a0 (fun v1 => cs0V G yJ4_checkIndex d [.int a1, .int v1] σ (fun σ3 => sbl G a0 a1 (fun v11 => narrow .char (.int (((v11 &&& (255 : Int32)).toUInt32 % 65536).toInt32)) = .int (((v11 &&& (255 : Int32)).toUInt32 % 65536).toInt32) ∧ Q (some (.int (((v11 &&& (255 : Int32)).toUInt32 % 65536).toInt32))) σ3)) X)
def f_J14_checkIndex_9 (G : ZG) (d : Nat) (Q : Option Value → ZS → Prop) (X : String → Nat → ZS → Prop) (a0 : Int32) (a1 : Int32) (a2 : Option Nat) (σ : ZS) : Prop :=
  False
def f_J14_checkIndex (G : ZG) (d : Nat) (Q : Option Value → ZS → Prop) (X : String → Nat → ZS → Prop) (a0 : Int32) (a1 : Int32) (a2 : Option Nat) (σ : ZS) : Prop :=
  zif (a0 < 0) (f_J14_checkIndex_9 G d Q X a0 a1 a2 σ) (zif (a0 < a1) (Q (some (.int a0)) σ) (f_J14_checkIndex_9 G d Q X a0 a1 a2 σ))
def f_J17_floor (G : ZG) (d : Nat) (Q : Option Value → ZS → Prop) (X : String → Nat → ZS → Prop) (a0 : UInt64) (σ : ZS) : Prop :=
  cs0D G yJ17_floorOrCeil d [.double a0, .double (13830554455654793216 : UInt64), .double FP.dconst0, .double (13830554455654793216 : UInt64)] σ (fun v1 σ2 => Q (some (.double v1)) σ2) X
def f_J17_floorOrCeil_125 (G : ZG) (d : Nat) (Q : Option Value → ZS → Prop) (X : String → Nat → ZS → Prop) (a13 : UInt64) (σ : ZS) : Prop :=
  Q (some (.double a13)) σ
def f_J17_floorOrCeil_33 (G : ZG) (d : Nat) (Q : Option Value → ZS → Prop) (X : String → Nat → ZS → Prop) (w0 : UInt64) (σ : ZS) : Prop :=
  Q (some (.double w0)) σ
def f_J17_floorOrCeil (G : ZG) (d : Nat) (Q : Option Value → ZS → Prop) (X : String → Nat → ZS → Prop) (a0 : UInt64) (a2 : UInt64) (a4 : UInt64) (a6 : UInt64) (σ : ZS) : Prop :=
  cs0I G yJ10_getExponent_2 d [.double a0] σ (fun v1 σ2 => zif (0 ≤ v1) (zif (v1 < (52 : Int32)) (∀ y10, y10 = ((4503599627370495 : Int64) >>> ((v1).toInt64 &&& 63)) → zif ((lg_cmp (y10 &&& a0.toInt64) (0 : Int64)) = 0) (Q (some (.double a0)) σ2) (vn_snl2d (a0.toInt64 &&& (y10 ^^^ (-1 : Int64))) = false ∧ ∀ y11, y11 = (a0.toInt64 &&& (y10 ^^^ (-1 : Int64))).toUInt64 → vf_n64 (FP.dmul a6 a0) ∧ zif ((Op.cmpValue (FP.dcmp (FP.dmul a6 a0) FP.dconst0) .l) ≤ 0) (f_J17_floorOrCeil_125 G d Q X y11 σ2) (vf_n64 (FP.dadd y11 a6) ∧ ∀ y12, y12 = (FP.dadd y11 a6) → f_J17_floorOrCeil_125 G d Q X y12 σ2))) (Q (some (.double a0)) σ2)) (zif ((Op.cmpValue (FP.dcmp a0 FP.dconst0) .l) = 0) (f_J17_floorOrCeil_33 G d Q X a0 σ2) (zif (0 ≤ (Op.cmpValue (FP.dcmp a0 FP.dconst0) .g)) (f_J17_floorOrCeil_33 G d Q X a4 σ2) (f_J17_floorOrCeil_33 G d Q X a2 σ2)))) X
def f_J17_ceil (G : ZG) (d : Nat) (Q : Option Value → ZS → Prop) (X : String → Nat → ZS → Prop) (a0 : UInt64) (σ : ZS) : Prop :=
  cs0D G yJ17_floorOrCeil d [.double a0, .double (9223372036854775808 : UInt64), .double FP.dconst1, .double FP.dconst1] σ (fun v1 σ2 => Q (some (.double v1)) σ2) X
def f_J17_rint_28 (G : ZG) (d : Nat) (Q : Option Value → ZS → Prop) (X : String → Nat → ZS → Prop) (a0 : UInt64) (a4 : UInt64) (σ : ZS) : Prop :=
  vf_n64 (FP.dmul a4 a0) ∧ Q (some (.double (FP.dmul a4 a0))) σ
def f_J17_rint (G : ZG) (d : Nat) (Q : Option Value → ZS → Prop) (X : String → Nat → ZS → Prop) (a0 : UInt64) (σ : ZS) : Prop :=
  cs0D G yJ10_copySign_2 d [.double FP.dconst1, .double a0] σ (fun v1 σ2 => cs0D G yJ10_abs_4 d [.double a0] σ2 (fun v10 σ11 => zif (0 ≤ (Op.cmpValue (FP.dcmp v10 (4841369599423283200 : UInt64)) .g)) (f_J17_rint_28 G d Q X v10 v1 σ11) (vf_n64 (FP.dadd (4841369599423283200 : UInt64) v10) ∧ vf_n64 (FP.dsub (FP.dadd (4841369599423283200 : UInt64) v10) (4841369599423283200 : UInt64)) ∧ ∀ y19, y19 = (FP.dsub (FP.dadd (4841369599423283200 : UInt64) v10) (4841369599423283200 : UInt64)) → f_J17_rint_28 G d Q X y19 v1 σ11)) X) X
def f_J4_length (G : ZG) (d : Nat) (Q : Option Value → ZS → Prop) (X : String → Nat → ZS → Prop) (a0 : Option Nat) (σ : ZS) : Prop :=
  sgV G a0 (fun v1 => sln G v1 (fun v2 => sv0I G yJ4_coder d a0 [] σ (fun v3 σ4 => Q (some (.int (v2 >>> (v3 &&& 31)))) σ4) X))
def f_J4_coder_14 (G : ZG) (d : Nat) (Q : Option Value → ZS → Prop) (X : String → Nat → ZS → Prop) (w0 : Int32) (σ : ZS) : Prop :=
  narrow .byte (.int w0) = .int w0 ∧ Q (some (.int w0)) σ
def f_J4_coder (G : ZG) (d : Nat) (Q : Option Value → ZS → Prop) (X : String → Nat → ZS → Prop) (a0 : Option Nat) (σ : ZS) : Prop :=
  sgC G a0 ∧ f_J4_coder_14 G d Q X (0 : Int32) σ
def f_J4_charAt (G : ZG) (d : Nat) (Q : Option Value → ZS → Prop) (X : String → Nat → ZS → Prop) (a0 : Option Nat) (a1 : Int32) (σ : ZS) : Prop :=
  sv0I G yJ4_isLatin1 d a0 [] σ (fun v1 σ2 => zif (v1 = 0) (sgV G a0 (fun v10 => cs0I G yJ15_charAt d [va_rf v10, .int a1] σ2 (fun v11 σ12 => narrow .char (.int v11) = .int v11 ∧ Q (some (.int v11)) σ12) X)) (sgV G a0 (fun v20 => cs0I G yJ13_charAt d [va_rf v20, .int a1] σ2 (fun v21 σ22 => narrow .char (.int v21) = .int v21 ∧ Q (some (.int v21)) σ22) X))) X
def f_J4_isLatin1_18 (G : ZG) (d : Nat) (Q : Option Value → ZS → Prop) (X : String → Nat → ZS → Prop) (w0 : Int32) (σ : ZS) : Prop :=
  zb w0 ∧ Q (some (.int w0)) σ
def f_J4_isLatin1_17 (G : ZG) (d : Nat) (Q : Option Value → ZS → Prop) (X : String → Nat → ZS → Prop) (σ : ZS) : Prop :=
  f_J4_isLatin1_18 G d Q X (0 : Int32) σ
def f_J4_isLatin1 (G : ZG) (d : Nat) (Q : Option Value → ZS → Prop) (X : String → Nat → ZS → Prop) (a0 : Option Nat) (σ : ZS) : Prop :=
  sgC G a0 ∧ f_J4_isLatin1_18 G d Q X (1 : Int32) σ
def f_J4_checkIndex (G : ZG) (d : Nat) (Q : Option Value → ZS → Prop) (X : String → Nat → ZS → Prop) (a0 : Int32) (a1 : Int32) (σ : ZS) : Prop :=
  ∀ v1 : Option Nat, cs0I G yJ14_checkIndex d [.int a0, .int a1, va_rf v1] σ (fun v2 σ3 => Q none σ3) X
def f_J8_floatToIntBits (G : ZG) (d : Nat) (Q : Option Value → ZS → Prop) (X : String → Nat → ZS → Prop) (a0 : UInt32) (σ : ZS) : Prop :=
  cs0I G yJ8_isNaN d [.float a0] σ (fun v1 σ2 => zif (v1 = 0) (Q (some (.int a0.toInt32)) σ2) (Q (some (.int (2143289344 : Int32))) σ2)) X
def f_J8_isNaN_11 (G : ZG) (d : Nat) (Q : Option Value → ZS → Prop) (X : String → Nat → ZS → Prop) (w0 : Int32) (σ : ZS) : Prop :=
  zb w0 ∧ Q (some (.int w0)) σ
def f_J8_isNaN (G : ZG) (d : Nat) (Q : Option Value → ZS → Prop) (X : String → Nat → ZS → Prop) (a0 : UInt32) (σ : ZS) : Prop :=
  zif ((Op.cmpValue (FP.fcmp a0 a0) .l) = 0) (f_J8_isNaN_11 G d Q X (0 : Int32) σ) (f_J8_isNaN_11 G d Q X (1 : Int32) σ)
def f_J9_doubleToLongBits (G : ZG) (d : Nat) (Q : Option Value → ZS → Prop) (X : String → Nat → ZS → Prop) (a0 : UInt64) (σ : ZS) : Prop :=
  cs0I G yJ9_isNaN d [.double a0] σ (fun v1 σ2 => zif (v1 = 0) (Q (some (.long a0.toInt64)) σ2) (Q (some (.long (9221120237041090560 : Int64))) σ2)) X
def f_J9_isNaN_11 (G : ZG) (d : Nat) (Q : Option Value → ZS → Prop) (X : String → Nat → ZS → Prop) (w0 : Int32) (σ : ZS) : Prop :=
  zb w0 ∧ Q (some (.int w0)) σ
def f_J9_isNaN (G : ZG) (d : Nat) (Q : Option Value → ZS → Prop) (X : String → Nat → ZS → Prop) (a0 : UInt64) (σ : ZS) : Prop :=
  zif ((Op.cmpValue (FP.dcmp a0 a0) .l) = 0) (f_J9_isNaN_11 G d Q X (0 : Int32) σ) (f_J9_isNaN_11 G d Q X (1 : Int32) σ)
theorem w_J10_min_11 {G : ZG} {d : Nat} {Q : Option Value → ZS → Prop} {X : String → Nat → ZS → Prop} {kc ks : Nat} {w0 : Int64} {σ : ZS} (h : f_J10_min_11 G d Q X w0 σ) : AW G (kJ10_min d) Q X kc ks 11 [] [.long w0] σ := by
  exact aw_lret (pc := 11) dJ10_min_11 rfl h
theorem w_J10_min {G : ZG} {d : Nat} {Q : Option Value → ZS → Prop} {X : String → Nat → ZS → Prop} {kc ks : Nat} {a0 : Int64} {a2 : Int64} {σ : ZS} (h : f_J10_min G d Q X a0 a2 σ) : AW G (kJ10_min d) Q X kc ks 0 [(0, .long a0), (2, .long a2)] [] σ := by
  refine aw_lload_n (pc := 0) (j := 0) dJ10_min_0 rfl rfl ?_
  refine aw_lload_n (pc := 1) (j := 1) dJ10_min_1 rfl rfl ?_
  refine aw_lcmp (pc := 2) dJ10_min_2 ?_
  refine aw_if_gt (pc := 3) (tgt := 10) dJ10_min_3 (by decide) (fun z => ?_) (fun z => ?_)
  · replace h := h.1 z
    refine aw_lload_n (pc := 10) (j := 1) dJ10_min_10 rfl rfl ?_
    exact aw_sub [] rfl (w_J10_min_11 h)
  · replace h := h.2 z
    refine aw_lload_n (pc := 6) (j := 0) dJ10_min_6 rfl rfl ?_
    refine aw_goto (pc := 7) (tgt := 11) dJ10_min_7 (by decide) ?_
    exact aw_sub [] rfl (w_J10_min_11 h)
theorem pf_J10_min : plainFor yJ10_min = true := by decide +kernel
theorem zm_J10_min {G : ZG} {d : Nat} {Q : Option Value → ZS → Prop} {X : String → Nat → ZS → Prop}  {a0 : Int64} {a2 : Int64} {σ : ZS} (h : f_J10_min G d Q X a0 a2 σ) : ZM G yJ10_min d 0 0 [.long a0, .long a2] σ Q X :=
  zm_ofF (own := RJ10) (code := cJ10_min) (maxL := 4) (ret := (some .long)) (ini := false) (lo := [(0, .long a0), (2, .long a2)]) pf_J10_min rfl (fun _ => by contradiction) q795 q281 (by decide) (show (lg_sl [.long a0, .long a2]).length ≤ 4 from by simp [lg_sl, cat_rf, cat_i, cat_l, cat_f, cat_d]) (by simp [lv_args, cat_rf, cat_i, cat_l, cat_f, cat_d]) (w_J10_min (kc := 0) (ks := 0) h)
theorem w_J10_max_11 {G : ZG} {d : Nat} {Q : Option Value → ZS → Prop} {X : String → Nat → ZS → Prop} {kc ks : Nat} {w0 : Int64} {σ : ZS} (h : f_J10_max_11 G d Q X w0 σ) : AW G (kJ10_max d) Q X kc ks 11 [] [.long w0] σ := by
  exact aw_lret (pc := 11) dJ10_max_11 rfl h
theorem w_J10_max {G : ZG} {d : Nat} {Q : Option Value → ZS → Prop} {X : String → Nat → ZS → Prop} {kc ks : Nat} {a0 : Int64} {a2 : Int64} {σ : ZS} (h : f_J10_max G d Q X a0 a2 σ) : AW G (kJ10_max d) Q X kc ks 0 [(0, .long a0), (2, .long a2)] [] σ := by
  refine aw_lload_n (pc := 0) (j := 0) dJ10_max_0 rfl rfl ?_
  refine aw_lload_n (pc := 1) (j := 1) dJ10_max_1 rfl rfl ?_
  refine aw_lcmp (pc := 2) dJ10_max_2 ?_
  refine aw_if_lt (pc := 3) (tgt := 10) dJ10_max_3 (by decide) (fun z => ?_) (fun z => ?_)
  · replace h := h.1 z
    refine aw_lload_n (pc := 10) (j := 1) dJ10_max_10 rfl rfl ?_
    exact aw_sub [] rfl (w_J10_max_11 h)
  · replace h := h.2 z
    refine aw_lload_n (pc := 6) (j := 0) dJ10_max_6 rfl rfl ?_
    refine aw_goto (pc := 7) (tgt := 11) dJ10_max_7 (by decide) ?_
    exact aw_sub [] rfl (w_J10_max_11 h)
theorem pf_J10_max : plainFor yJ10_max = true := by decide +kernel
theorem zm_J10_max {G : ZG} {d : Nat} {Q : Option Value → ZS → Prop} {X : String → Nat → ZS → Prop}  {a0 : Int64} {a2 : Int64} {σ : ZS} (h : f_J10_max G d Q X a0 a2 σ) : ZM G yJ10_max d 0 0 [.long a0, .long a2] σ Q X :=
  zm_ofF (own := RJ10) (code := cJ10_max) (maxL := 4) (ret := (some .long)) (ini := false) (lo := [(0, .long a0), (2, .long a2)]) pf_J10_max rfl (fun _ => by contradiction) q798 q281 (by decide) (show (lg_sl [.long a0, .long a2]).length ≤ 4 from by simp [lg_sl, cat_rf, cat_i, cat_l, cat_f, cat_d]) (by simp [lv_args, cat_rf, cat_i, cat_l, cat_f, cat_d]) (w_J10_max (kc := 0) (ks := 0) h)
theorem w_J10_max_2_10 {G : ZG} {d : Nat} {Q : Option Value → ZS → Prop} {X : String → Nat → ZS → Prop} {kc ks : Nat} {w0 : Int32} {σ : ZS} (h : f_J10_max_2_10 G d Q X w0 σ) : AW G (kJ10_max_2 d) Q X kc ks 10 [] [.int w0] σ := by
  exact aw_iret (pc := 10) dJ10_max_2_10 rfl rfl h
theorem w_J10_max_2 {G : ZG} {d : Nat} {Q : Option Value → ZS → Prop} {X : String → Nat → ZS → Prop} {kc ks : Nat} {a0 : Int32} {a1 : Int32} {σ : ZS} (h : f_J10_max_2 G d Q X a0 a1 σ) : AW G (kJ10_max_2 d) Q X kc ks 0 [(0, .int a0), (1, .int a1)] [] σ := by
  refine aw_iload_n (pc := 0) (j := 0) dJ10_max_2_0 rfl rfl ?_
  refine aw_iload_n (pc := 1) (j := 1) dJ10_max_2_1 rfl rfl ?_
  refine aw_icmp_lt (pc := 2) (tgt := 9) dJ10_max_2_2 (by decide) (fun z => ?_) (fun z => ?_)
  · replace h := h.1 z
    refine aw_iload_n (pc := 9) (j := 1) dJ10_max_2_9 rfl rfl ?_
    exact aw_sub [] rfl (w_J10_max_2_10 h)
  · replace h := h.2 z
    refine aw_iload_n (pc := 5) (j := 0) dJ10_max_2_5 rfl rfl ?_
    refine aw_goto (pc := 6) (tgt := 10) dJ10_max_2_6 (by decide) ?_
    exact aw_sub [] rfl (w_J10_max_2_10 h)
theorem pf_J10_max_2 : plainFor yJ10_max_2 = true := by decide +kernel
theorem zm_J10_max_2 {G : ZG} {d : Nat} {Q : Option Value → ZS → Prop} {X : String → Nat → ZS → Prop}  {a0 : Int32} {a1 : Int32} {σ : ZS} (h : f_J10_max_2 G d Q X a0 a1 σ) : ZM G yJ10_max_2 d 0 0 [.int a0, .int a1] σ Q X :=
  zm_ofF (own := RJ10) (code := cJ10_max_2) (maxL := 2) (ret := (some .int)) (ini := false) (lo := [(0, .int a0), (1, .int a1)]) pf_J10_max_2 rfl (fun _ => by contradiction) q1346 q281 (by decide) (show (lg_sl [.int a0, .int a1]).length ≤ 2 from by simp [lg_sl, cat_rf, cat_i, cat_l, cat_f, cat_d]) (by simp [lv_args, cat_rf, cat_i, cat_l, cat_f, cat_d]) (w_J10_max_2 (kc := 0) (ks := 0) h)
theorem w_J10_min_2_10 {G : ZG} {d : Nat} {Q : Option Value → ZS → Prop} {X : String → Nat → ZS → Prop} {kc ks : Nat} {w0 : Int32} {σ : ZS} (h : f_J10_min_2_10 G d Q X w0 σ) : AW G (kJ10_min_2 d) Q X kc ks 10 [] [.int w0] σ := by
  exact aw_iret (pc := 10) dJ10_min_2_10 rfl rfl h
theorem w_J10_min_2 {G : ZG} {d : Nat} {Q : Option Value → ZS → Prop} {X : String → Nat → ZS → Prop} {kc ks : Nat} {a0 : Int32} {a1 : Int32} {σ : ZS} (h : f_J10_min_2 G d Q X a0 a1 σ) : AW G (kJ10_min_2 d) Q X kc ks 0 [(0, .int a0), (1, .int a1)] [] σ := by
  refine aw_iload_n (pc := 0) (j := 0) dJ10_min_2_0 rfl rfl ?_
  refine aw_iload_n (pc := 1) (j := 1) dJ10_min_2_1 rfl rfl ?_
  refine aw_icmp_gt (pc := 2) (tgt := 9) dJ10_min_2_2 (by decide) (fun z => ?_) (fun z => ?_)
  · replace h := h.1 z
    refine aw_iload_n (pc := 9) (j := 1) dJ10_min_2_9 rfl rfl ?_
    exact aw_sub [] rfl (w_J10_min_2_10 h)
  · replace h := h.2 z
    refine aw_iload_n (pc := 5) (j := 0) dJ10_min_2_5 rfl rfl ?_
    refine aw_goto (pc := 6) (tgt := 10) dJ10_min_2_6 (by decide) ?_
    exact aw_sub [] rfl (w_J10_min_2_10 h)
theorem pf_J10_min_2 : plainFor yJ10_min_2 = true := by decide +kernel
theorem zm_J10_min_2 {G : ZG} {d : Nat} {Q : Option Value → ZS → Prop} {X : String → Nat → ZS → Prop}  {a0 : Int32} {a1 : Int32} {σ : ZS} (h : f_J10_min_2 G d Q X a0 a1 σ) : ZM G yJ10_min_2 d 0 0 [.int a0, .int a1] σ Q X :=
  zm_ofF (own := RJ10) (code := cJ10_min_2) (maxL := 2) (ret := (some .int)) (ini := false) (lo := [(0, .int a0), (1, .int a1)]) pf_J10_min_2 rfl (fun _ => by contradiction) q1695 q281 (by decide) (show (lg_sl [.int a0, .int a1]).length ≤ 2 from by simp [lg_sl, cat_rf, cat_i, cat_l, cat_f, cat_d]) (by simp [lv_args, cat_rf, cat_i, cat_l, cat_f, cat_d]) (w_J10_min_2 (kc := 0) (ks := 0) h)
theorem w_J10_scalb {G : ZG} {d : Nat} {Q : Option Value → ZS → Prop} {X : String → Nat → ZS → Prop} {kc ks : Nat} {a0 : UInt32} {a1 : Int32} {σ : ZS} (h : f_J10_scalb G d Q X a0 a1 σ) : AW G (kJ10_scalb d) Q X kc ks 0 [(0, .float a0), (1, .int a1)] [] σ := by
  refine aw_sipush (pc := 0) (v := (278 : Int32)) dJ10_scalb_0 rfl ?_
  refine aw_istore_n (pc := 3) (i := 2) (lo2 := [(2, .int (278 : Int32)), (0, .float a0), (1, .int a1)]) dJ10_scalb_3 rfl (Nat.le_of_ble_eq_true rfl) (by simp [cat_rf, cat_i, cat_l, cat_f, cat_d]) ?_
  refine aw_iload_n (pc := 4) (j := 2) dJ10_scalb_4 rfl rfl ?_
  refine aw_sipush (pc := 5) (v := (278 : Int32)) dJ10_scalb_5 rfl ?_
  refine aw_cs0I (pc := 8) (As := [.int a1, .int (278 : Int32)]) (st := []) dJ10_scalb_8 q1745 q1694 q281 q1695 yh_J10_min_2 yl_J10_min_2 rfl (Nat.le_of_ble_eq_true rfl) h (fun v1 σ2 h => ?_) (fun E5 q6 σ7 h => ax_out rfl h)
  refine aw_sipush (pc := 11) (v := (-278 : Int32)) dJ10_scalb_11 rfl ?_
  refine aw_cs0I (pc := 14) (As := [.int v1, .int (-278 : Int32)]) (st := []) dJ10_scalb_14 q1746 q1345 q281 q1346 yh_J10_max_2 yl_J10_max_2 rfl (Nat.le_of_ble_eq_true rfl) h (fun v10 σ11 h => ?_) (fun E14 q15 σ16 h => ax_out rfl h)
  refine aw_istore_n (pc := 17) (i := 1) (lo2 := [(1, .int v10), (2, .int (278 : Int32)), (0, .float a0)]) dJ10_scalb_17 rfl (Nat.le_of_ble_eq_true rfl) (by simp [cat_rf, cat_i, cat_l, cat_f, cat_d]) ?_
  refine aw_fload_n (pc := 18) (j := 2) dJ10_scalb_18 rfl rfl ?_
  refine aw_f2d (pc := 19) dJ10_scalb_19 h.1 ?_
  replace h := h.2
  refine aw_iload_n (pc := 20) (j := 0) dJ10_scalb_20 rfl rfl ?_
  refine aw_cs0D (pc := 21) (As := [.int v10]) (st := [.double (FP.f2d a0)]) dJ10_scalb_21 q1747 q1748 q281 q1749 yh_J10_powerOfTwoD yl_J10_powerOfTwoD rfl (Nat.le_of_ble_eq_true rfl) h (fun v19 σ20 h => ?_) (fun E23 q24 σ25 h => ax_out rfl h)
  refine aw_dmul (pc := 24) dJ10_scalb_24 h.1 ?_
  replace h := h.2
  refine aw_d2f (pc := 25) dJ10_scalb_25 h.1 ?_
  replace h := h.2
  exact aw_fret (pc := 26) dJ10_scalb_26 rfl h
theorem pf_J10_scalb : plainFor yJ10_scalb = true := by decide +kernel
theorem zm_J10_scalb {G : ZG} {d : Nat} {Q : Option Value → ZS → Prop} {X : String → Nat → ZS → Prop}  {a0 : UInt32} {a1 : Int32} {σ : ZS} (h : f_J10_scalb G d Q X a0 a1 σ) : ZM G yJ10_scalb d 0 0 [.float a0, .int a1] σ Q X :=
  zm_ofF (own := RJ10) (code := cJ10_scalb) (maxL := 3) (ret := (some .float)) (ini := false) (lo := [(0, .float a0), (1, .int a1)]) pf_J10_scalb rfl (fun _ => by contradiction) q1744 q281 (by decide) (show (lg_sl [.float a0, .int a1]).length ≤ 3 from by simp [lg_sl, cat_rf, cat_i, cat_l, cat_f, cat_d]) (by simp [lv_args, cat_rf, cat_i, cat_l, cat_f, cat_d]) (w_J10_scalb (kc := 0) (ks := 0) h)
theorem w_J10_powerOfTwoD {G : ZG} {d : Nat} {Q : Option Value → ZS → Prop} {X : String → Nat → ZS → Prop} {kc ks : Nat} {a0 : Int32} {σ : ZS} (h : f_J10_powerOfTwoD G d Q X a0 σ) : AW G (kJ10_powerOfTwoD d) Q X kc ks 0 [(0, .int a0)] [] σ := by
  refine aw_gets (pc := 0) (q := ("java/lang/Math", "$assertionsDisabled", "Z", .int (1))) dJ10_powerOfTwoD_0 (by simp [zSt]) q1750 ?_
  refine aw_if_ne (pc := 3) (tgt := 28) dJ10_powerOfTwoD_3 (by decide) (fun z => ?_) (fun z => ?_)
  · refine aw_iload_n (pc := 28) (j := 0) dJ10_powerOfTwoD_28 rfl rfl ?_
    refine aw_i2l (pc := 29) dJ10_powerOfTwoD_29 ?_
    refine aw_ldc2 (pc := 30) (v := (1023 : Int64)) dJ10_powerOfTwoD_30 q1752 ?_
    refine aw_ladd (pc := 33) dJ10_powerOfTwoD_33 ?_
    refine aw_bipush (pc := 34) (v := (52 : Int32)) dJ10_powerOfTwoD_34 rfl ?_
    refine aw_lshl (pc := 36) dJ10_powerOfTwoD_36 ?_
    refine aw_ldc2 (pc := 37) (v := (9218868437227405312 : Int64)) dJ10_powerOfTwoD_37 q1753 ?_
    refine aw_land (pc := 40) dJ10_powerOfTwoD_40 ?_
    refine aw_raw2d (pc := 41) dJ10_powerOfTwoD_41 q1737 q775 q774 q280 h.1 (Nat.le_of_ble_eq_true rfl) ?_
    replace h := h.2
    exact aw_dret (pc := 44) dJ10_powerOfTwoD_44 rfl h
  · exact absurd z (by decide)
theorem pf_J10_powerOfTwoD : plainFor yJ10_powerOfTwoD = true := by decide +kernel
theorem zm_J10_powerOfTwoD {G : ZG} {d : Nat} {Q : Option Value → ZS → Prop} {X : String → Nat → ZS → Prop}  {a0 : Int32} {σ : ZS} (h : f_J10_powerOfTwoD G d Q X a0 σ) : ZM G yJ10_powerOfTwoD d 0 0 [.int a0] σ Q X :=
  zm_ofF (own := RJ10) (code := cJ10_powerOfTwoD) (maxL := 1) (ret := (some .double)) (ini := false) (lo := [(0, .int a0)]) pf_J10_powerOfTwoD rfl (fun _ => by contradiction) q1749 q281 (by decide) (show (lg_sl [.int a0]).length ≤ 1 from by simp [lg_sl, cat_rf, cat_i, cat_l, cat_f, cat_d]) (by simp [lv_args, cat_rf, cat_i, cat_l, cat_f, cat_d]) (w_J10_powerOfTwoD (kc := 0) (ks := 0) h)
theorem w_J10_scalb_2_93 {G : ZG} {d : Nat} {Q : Option Value → ZS → Prop} {X : String → Nat → ZS → Prop} {kc ks : Nat} {a0 : UInt64} {a2 : Int32} {a5 : Int32} {a6 : UInt64} {σ : ZS} (h : f_J10_scalb_2_93 G d Q X a0 a2 a5 a6 σ) : AW G (kJ10_scalb_2 d) Q X kc ks 93 [(0, .double a0), (2, .int a2), (5, .int a5), (6, .double a6)] [] σ := by
  refine KT_use h (fun s => AW G (kJ10_scalb_2 d) Q X kc ks 93 [(0, .double s.1), (2, .int s.2.1), (5, .int a5), (6, .double a6)] [] s.2.2) (fun s h => ?_)
  have hR93 : ∀ s : UInt64 × Int32 × ZS, (fun s : UInt64 × Int32 × ZS => AW G (kJ10_scalb_2 d) Q X kc ks 93 [(0, .double s.1), (2, .int s.2.1), (5, .int a5), (6, .double a6)] [] s.2.2) s → AW G (kJ10_scalb_2 d) Q X kc ks 93 [(0, .double s.1), (2, .int s.2.1), (5, .int a5), (6, .double a6)] [] s.2.2 := fun s h => h
  refine aw_iload_n (pc := 93) (j := 1) dJ10_scalb_2_93 rfl rfl ?_
  refine aw_if_eq (pc := 94) (tgt := 110) dJ10_scalb_2_94 (by decide) (fun z => ?_) (fun z => ?_)
  · replace h := h.1 z
    refine aw_dload_n (pc := 110) (j := 0) dJ10_scalb_2_110 rfl rfl ?_
    exact aw_dret (pc := 111) dJ10_scalb_2_111 rfl h
  · replace h := h.2 z
    refine aw_dload_n (pc := 97) (j := 0) dJ10_scalb_2_97 rfl rfl ?_
    refine aw_dload (pc := 98) (j := 3) dJ10_scalb_2_98 rfl ?_
    refine aw_dmul (pc := 100) dJ10_scalb_2_100 h.1 ?_
    replace h := h.2
    refine aw_nmD (fun y1 hy1 => ?_)
    replace h := h y1 hy1
    refine aw_dstore_n (pc := 101) (i := 0) (lo2 := [(0, .double y1), (2, .int s.2.1), (5, .int a5), (6, .double a6)]) dJ10_scalb_2_101 rfl (Nat.le_of_ble_eq_true rfl) (by simp [cat_rf, cat_i, cat_l, cat_f, cat_d]) ?_
    refine aw_iload_n (pc := 102) (j := 1) dJ10_scalb_2_102 rfl rfl ?_
    refine aw_iload (pc := 103) (j := 2) dJ10_scalb_2_103 rfl ?_
    refine aw_isub (pc := 105) dJ10_scalb_2_105 ?_
    refine aw_nmI (fun y2 hy2 => ?_)
    replace h := h y2 hy2
    refine aw_istore_n (pc := 106) (i := 2) (lo2 := [(2, .int y2), (0, .double y1), (5, .int a5), (6, .double a6)]) dJ10_scalb_2_106 rfl (Nat.le_of_ble_eq_true rfl) (by simp [cat_rf, cat_i, cat_l, cat_f, cat_d]) ?_
    refine aw_goto (pc := 107) (tgt := 93) dJ10_scalb_2_107 (by decide) ?_
    exact aw_sub [1, 0, 2, 3] rfl (hR93 (y1, y2, s.2.2) h)
theorem w_J10_scalb_2_58 {G : ZG} {d : Nat} {Q : Option Value → ZS → Prop} {X : String → Nat → ZS → Prop} {kc ks : Nat} {a0 : UInt64} {a2 : Int32} {a5 : Int32} {a6 : UInt64} {σ : ZS} (h : f_J10_scalb_2_58 G d Q X a0 a2 a5 a6 σ) : AW G (kJ10_scalb_2 d) Q X kc ks 58 [(0, .double a0), (2, .int a2), (5, .int a5), (6, .double a6)] [] σ := by
  refine aw_iload_n (pc := 58) (j := 1) dJ10_scalb_2_58 rfl rfl ?_
  refine aw_bipush (pc := 59) (v := (8 : Int32)) dJ10_scalb_2_59 rfl ?_
  refine aw_ishr (pc := 61) dJ10_scalb_2_61 ?_
  refine aw_bipush (pc := 62) (v := (23 : Int32)) dJ10_scalb_2_62 rfl ?_
  refine aw_iushr (pc := 64) dJ10_scalb_2_64 ?_
  refine aw_nmI (fun y1 hy1 => ?_)
  replace h := h y1 hy1
  refine aw_istore (pc := 65) (i := 8) (lo2 := [(8, .int y1), (0, .double a0), (2, .int a2), (5, .int a5), (6, .double a6)]) dJ10_scalb_2_65 (Nat.le_of_ble_eq_true rfl) (by simp [cat_rf, cat_i, cat_l, cat_f, cat_d]) ?_
  refine aw_iload_n (pc := 67) (j := 2) dJ10_scalb_2_67 rfl rfl ?_
  refine aw_iload (pc := 68) (j := 0) dJ10_scalb_2_68 rfl ?_
  refine aw_iadd (pc := 70) dJ10_scalb_2_70 ?_
  refine aw_sipush (pc := 71) (v := (511 : Int32)) dJ10_scalb_2_71 rfl ?_
  refine aw_iand (pc := 74) dJ10_scalb_2_74 ?_
  refine aw_iload (pc := 75) (j := 0) dJ10_scalb_2_75 rfl ?_
  refine aw_isub (pc := 77) dJ10_scalb_2_77 ?_
  refine aw_nmI (fun y2 hy2 => ?_)
  replace h := h y2 hy2
  refine aw_istore (pc := 78) (i := 4) (lo2 := [(4, .int y2), (8, .int y1), (0, .double a0), (2, .int a2), (5, .int a5), (6, .double a6)]) dJ10_scalb_2_78 (Nat.le_of_ble_eq_true rfl) (by simp [cat_rf, cat_i, cat_l, cat_f, cat_d]) ?_
  refine aw_dload_n (pc := 80) (j := 2) dJ10_scalb_2_80 rfl rfl ?_
  refine aw_iload (pc := 81) (j := 0) dJ10_scalb_2_81 rfl ?_
  refine aw_cs0D (pc := 83) (As := [.int y2]) (st := [.double a0]) dJ10_scalb_2_83 q1747 q1748 q281 q1749 yh_J10_powerOfTwoD yl_J10_powerOfTwoD rfl (Nat.le_of_ble_eq_true rfl) h (fun v3 σ4 h => ?_) (fun E7 q8 σ9 h => ax_out rfl h)
  refine aw_dmul (pc := 86) dJ10_scalb_2_86 h.1 ?_
  replace h := h.2
  refine aw_nmD (fun y12 hy12 => ?_)
  replace h := h y12 hy12
  refine aw_dstore_n (pc := 87) (i := 0) (lo2 := [(0, .double y12), (4, .int y2), (8, .int y1), (2, .int a2), (5, .int a5), (6, .double a6)]) dJ10_scalb_2_87 rfl (Nat.le_of_ble_eq_true rfl) (by simp [cat_rf, cat_i, cat_l, cat_f, cat_d]) ?_
  refine aw_iload_n (pc := 88) (j := 3) dJ10_scalb_2_88 rfl rfl ?_
  refine aw_iload (pc := 89) (j := 1) dJ10_scalb_2_89 rfl ?_
  refine aw_isub (pc := 91) dJ10_scalb_2_91 ?_
  refine aw_nmI (fun y13 hy13 => ?_)
  replace h := h y13 hy13
  refine aw_istore_n (pc := 92) (i := 2) (lo2 := [(2, .int y13), (0, .double y12), (4, .int y2), (8, .int y1), (5, .int a5), (6, .double a6)]) dJ10_scalb_2_92 rfl (Nat.le_of_ble_eq_true rfl) (by simp [cat_rf, cat_i, cat_l, cat_f, cat_d]) ?_
  exact aw_sub [1, 0, 4, 5] rfl (w_J10_scalb_2_93 h)
theorem w_J10_scalb_2 {G : ZG} {d : Nat} {Q : Option Value → ZS → Prop} {X : String → Nat → ZS → Prop} {kc ks : Nat} {a0 : UInt64} {a2 : Int32} {σ : ZS} (h : f_J10_scalb_2 G d Q X a0 a2 σ) : AW G (kJ10_scalb_2 d) Q X kc ks 0 [(0, .double a0), (2, .int a2)] [] σ := by
  refine aw_sipush (pc := 0) (v := (2099 : Int32)) dJ10_scalb_2_0 rfl ?_
  refine aw_istore_n (pc := 3) (i := 3) (lo2 := [(3, .int (2099 : Int32)), (0, .double a0), (2, .int a2)]) dJ10_scalb_2_3 rfl (Nat.le_of_ble_eq_true rfl) (by simp [cat_rf, cat_i, cat_l, cat_f, cat_d]) ?_
  refine aw_iconst (pc := 4) (v := (0 : Int32)) dJ10_scalb_2_4 rfl ?_
  refine aw_istore (pc := 5) (i := 4) (lo2 := [(4, .int (0 : Int32)), (3, .int (2099 : Int32)), (0, .double a0), (2, .int a2)]) dJ10_scalb_2_5 (Nat.le_of_ble_eq_true rfl) (by simp [cat_rf, cat_i, cat_l, cat_f, cat_d]) ?_
  refine aw_iconst (pc := 7) (v := (0 : Int32)) dJ10_scalb_2_7 rfl ?_
  refine aw_istore (pc := 8) (i := 5) (lo2 := [(5, .int (0 : Int32)), (4, .int (0 : Int32)), (3, .int (2099 : Int32)), (0, .double a0), (2, .int a2)]) dJ10_scalb_2_8 (Nat.le_of_ble_eq_true rfl) (by simp [cat_rf, cat_i, cat_l, cat_f, cat_d]) ?_
  refine aw_ldc2d (pc := 10) (v := (9221120237041090560 : UInt64)) dJ10_scalb_2_10 q1757 ?_
  refine aw_dstore (pc := 13) (i := 6) (lo2 := [(6, .double (9221120237041090560 : UInt64)), (5, .int (0 : Int32)), (4, .int (0 : Int32)), (3, .int (2099 : Int32)), (0, .double a0), (2, .int a2)]) dJ10_scalb_2_13 (Nat.le_of_ble_eq_true rfl) (by simp [cat_rf, cat_i, cat_l, cat_f, cat_d]) ?_
  refine aw_iload_n (pc := 15) (j := 5) dJ10_scalb_2_15 rfl rfl ?_
  refine aw_if_ge (pc := 16) (tgt := 40) dJ10_scalb_2_16 (by decide) (fun z => ?_) (fun z => ?_)
  · replace h := h.1 z
    refine aw_iload_n (pc := 40) (j := 5) dJ10_scalb_2_40 rfl rfl ?_
    refine aw_sipush (pc := 41) (v := (2099 : Int32)) dJ10_scalb_2_41 rfl ?_
    refine aw_cs0I (pc := 44) (As := [.int a2, .int (2099 : Int32)]) (st := []) dJ10_scalb_2_44 q1745 q1694 q281 q1695 yh_J10_min_2 yl_J10_min_2 rfl (Nat.le_of_ble_eq_true rfl) h (fun v1 σ2 h => ?_) (fun E5 q6 σ7 h => ax_out rfl h)
    refine aw_istore_n (pc := 47) (i := 2) (lo2 := [(2, .int v1), (6, .double (9221120237041090560 : UInt64)), (5, .int (0 : Int32)), (4, .int (0 : Int32)), (3, .int (2099 : Int32)), (0, .double a0)]) dJ10_scalb_2_47 rfl (Nat.le_of_ble_eq_true rfl) (by simp [cat_rf, cat_i, cat_l, cat_f, cat_d]) ?_
    refine aw_sipush (pc := 48) (v := (512 : Int32)) dJ10_scalb_2_48 rfl ?_
    refine aw_istore (pc := 51) (i := 5) (lo2 := [(5, .int (512 : Int32)), (2, .int v1), (6, .double (9221120237041090560 : UInt64)), (4, .int (0 : Int32)), (3, .int (2099 : Int32)), (0, .double a0)]) dJ10_scalb_2_51 (Nat.le_of_ble_eq_true rfl) (by simp [cat_rf, cat_i, cat_l, cat_f, cat_d]) ?_
    refine aw_gets (pc := 53) (q := ("java/lang/Math", "twoToTheDoubleScaleUp", "D", .double (6913025428013711360))) dJ10_scalb_2_53 (by simp [zSt]) q1760 ?_
    refine aw_dstore (pc := 56) (i := 6) (lo2 := [(6, .double (6913025428013711360 : UInt64)), (5, .int (512 : Int32)), (2, .int v1), (4, .int (0 : Int32)), (3, .int (2099 : Int32)), (0, .double a0)]) dJ10_scalb_2_56 (Nat.le_of_ble_eq_true rfl) (by simp [cat_rf, cat_i, cat_l, cat_f, cat_d]) ?_
    exact aw_sub [5, 2, 1, 0] rfl (w_J10_scalb_2_58 h)
  · replace h := h.2 z
    refine aw_iload_n (pc := 19) (j := 5) dJ10_scalb_2_19 rfl rfl ?_
    refine aw_sipush (pc := 20) (v := (-2099 : Int32)) dJ10_scalb_2_20 rfl ?_
    refine aw_cs0I (pc := 23) (As := [.int a2, .int (-2099 : Int32)]) (st := []) dJ10_scalb_2_23 q1746 q1345 q281 q1346 yh_J10_max_2 yl_J10_max_2 rfl (Nat.le_of_ble_eq_true rfl) h (fun v10 σ11 h => ?_) (fun E14 q15 σ16 h => ax_out rfl h)
    refine aw_istore_n (pc := 26) (i := 2) (lo2 := [(2, .int v10), (6, .double (9221120237041090560 : UInt64)), (5, .int (0 : Int32)), (4, .int (0 : Int32)), (3, .int (2099 : Int32)), (0, .double a0)]) dJ10_scalb_2_26 rfl (Nat.le_of_ble_eq_true rfl) (by simp [cat_rf, cat_i, cat_l, cat_f, cat_d]) ?_
    refine aw_sipush (pc := 27) (v := (-512 : Int32)) dJ10_scalb_2_27 rfl ?_
    refine aw_istore (pc := 30) (i := 5) (lo2 := [(5, .int (-512 : Int32)), (2, .int v10), (6, .double (9221120237041090560 : UInt64)), (4, .int (0 : Int32)), (3, .int (2099 : Int32)), (0, .double a0)]) dJ10_scalb_2_30 (Nat.le_of_ble_eq_true rfl) (by simp [cat_rf, cat_i, cat_l, cat_f, cat_d]) ?_
    refine aw_gets (pc := 32) (q := ("java/lang/Math", "twoToTheDoubleScaleDown", "D", .double (2301339409586323456))) dJ10_scalb_2_32 (by simp [zSt]) q1758 ?_
    refine aw_dstore (pc := 35) (i := 6) (lo2 := [(6, .double (2301339409586323456 : UInt64)), (5, .int (-512 : Int32)), (2, .int v10), (4, .int (0 : Int32)), (3, .int (2099 : Int32)), (0, .double a0)]) dJ10_scalb_2_35 (Nat.le_of_ble_eq_true rfl) (by simp [cat_rf, cat_i, cat_l, cat_f, cat_d]) ?_
    refine aw_goto (pc := 37) (tgt := 58) dJ10_scalb_2_37 (by decide) ?_
    exact aw_sub [5, 2, 1, 0] rfl (w_J10_scalb_2_58 h)
theorem pf_J10_scalb_2 : plainFor yJ10_scalb_2 = true := by decide +kernel
theorem zm_J10_scalb_2 {G : ZG} {d : Nat} {Q : Option Value → ZS → Prop} {X : String → Nat → ZS → Prop}  {a0 : UInt64} {a2 : Int32} {σ : ZS} (h : f_J10_scalb_2 G d Q X a0 a2 σ) : ZM G yJ10_scalb_2 d 0 0 [.double a0, .int a2] σ Q X :=
  zm_ofF (own := RJ10) (code := cJ10_scalb_2) (maxL := 9) (ret := (some .double)) (ini := false) (lo := [(0, .double a0), (2, .int a2)]) pf_J10_scalb_2 rfl (fun _ => by contradiction) q1756 q281 (by decide) (show (lg_sl [.double a0, .int a2]).length ≤ 9 from by simp [lg_sl, cat_rf, cat_i, cat_l, cat_f, cat_d]) (by simp [lv_args, cat_rf, cat_i, cat_l, cat_f, cat_d]) (w_J10_scalb_2 (kc := 0) (ks := 0) h)
theorem w_J10_abs_10 {G : ZG} {d : Nat} {Q : Option Value → ZS → Prop} {X : String → Nat → ZS → Prop} {kc ks : Nat} {w0 : Int32} {σ : ZS} (h : f_J10_abs_10 G d Q X w0 σ) : AW G (kJ10_abs d) Q X kc ks 10 [] [.int w0] σ := by
  exact aw_iret (pc := 10) dJ10_abs_10 rfl rfl h
theorem w_J10_abs {G : ZG} {d : Nat} {Q : Option Value → ZS → Prop} {X : String → Nat → ZS → Prop} {kc ks : Nat} {a0 : Int32} {σ : ZS} (h : f_J10_abs G d Q X a0 σ) : AW G (kJ10_abs d) Q X kc ks 0 [(0, .int a0)] [] σ := by
  refine aw_iload_n (pc := 0) (j := 0) dJ10_abs_0 rfl rfl ?_
  refine aw_if_ge (pc := 1) (tgt := 9) dJ10_abs_1 (by decide) (fun z => ?_) (fun z => ?_)
  · replace h := h.1 z
    refine aw_iload_n (pc := 9) (j := 0) dJ10_abs_9 rfl rfl ?_
    exact aw_sub [] rfl (w_J10_abs_10 h)
  · replace h := h.2 z
    refine aw_iload_n (pc := 4) (j := 0) dJ10_abs_4 rfl rfl ?_
    refine aw_ineg (pc := 5) dJ10_abs_5 ?_
    refine aw_goto (pc := 6) (tgt := 10) dJ10_abs_6 (by decide) ?_
    exact aw_sub [] rfl (w_J10_abs_10 h)
theorem pf_J10_abs : plainFor yJ10_abs = true := by decide +kernel
theorem zm_J10_abs {G : ZG} {d : Nat} {Q : Option Value → ZS → Prop} {X : String → Nat → ZS → Prop}  {a0 : Int32} {σ : ZS} (h : f_J10_abs G d Q X a0 σ) : ZM G yJ10_abs d 0 0 [.int a0] σ Q X :=
  zm_ofF (own := RJ10) (code := cJ10_abs) (maxL := 1) (ret := (some .int)) (ini := false) (lo := [(0, .int a0)]) pf_J10_abs rfl (fun _ => by contradiction) q1782 q281 (by decide) (show (lg_sl [.int a0]).length ≤ 1 from by simp [lg_sl, cat_rf, cat_i, cat_l, cat_f, cat_d]) (by simp [lv_args, cat_rf, cat_i, cat_l, cat_f, cat_d]) (w_J10_abs (kc := 0) (ks := 0) h)
theorem w_J10_abs_2_12 {G : ZG} {d : Nat} {Q : Option Value → ZS → Prop} {X : String → Nat → ZS → Prop} {kc ks : Nat} {w0 : Int64} {σ : ZS} (h : f_J10_abs_2_12 G d Q X w0 σ) : AW G (kJ10_abs_2 d) Q X kc ks 12 [] [.long w0] σ := by
  exact aw_lret (pc := 12) dJ10_abs_2_12 rfl h
theorem w_J10_abs_2 {G : ZG} {d : Nat} {Q : Option Value → ZS → Prop} {X : String → Nat → ZS → Prop} {kc ks : Nat} {a0 : Int64} {σ : ZS} (h : f_J10_abs_2 G d Q X a0 σ) : AW G (kJ10_abs_2 d) Q X kc ks 0 [(0, .long a0)] [] σ := by
  refine aw_lload_n (pc := 0) (j := 0) dJ10_abs_2_0 rfl rfl ?_
  refine aw_lconst (pc := 1) (v := (0 : Int64)) dJ10_abs_2_1 rfl ?_
  refine aw_lcmp (pc := 2) dJ10_abs_2_2 ?_
  refine aw_if_ge (pc := 3) (tgt := 11) dJ10_abs_2_3 (by decide) (fun z => ?_) (fun z => ?_)
  · replace h := h.1 z
    refine aw_lload_n (pc := 11) (j := 0) dJ10_abs_2_11 rfl rfl ?_
    exact aw_sub [] rfl (w_J10_abs_2_12 h)
  · replace h := h.2 z
    refine aw_lload_n (pc := 6) (j := 0) dJ10_abs_2_6 rfl rfl ?_
    refine aw_lneg (pc := 7) dJ10_abs_2_7 ?_
    refine aw_goto (pc := 8) (tgt := 12) dJ10_abs_2_8 (by decide) ?_
    exact aw_sub [] rfl (w_J10_abs_2_12 h)
theorem pf_J10_abs_2 : plainFor yJ10_abs_2 = true := by decide +kernel
theorem zm_J10_abs_2 {G : ZG} {d : Nat} {Q : Option Value → ZS → Prop} {X : String → Nat → ZS → Prop}  {a0 : Int64} {σ : ZS} (h : f_J10_abs_2 G d Q X a0 σ) : ZM G yJ10_abs_2 d 0 0 [.long a0] σ Q X :=
  zm_ofF (own := RJ10) (code := cJ10_abs_2) (maxL := 2) (ret := (some .long)) (ini := false) (lo := [(0, .long a0)]) pf_J10_abs_2 rfl (fun _ => by contradiction) q1785 q281 (by decide) (show (lg_sl [.long a0]).length ≤ 2 from by simp [lg_sl, cat_rf, cat_i, cat_l, cat_f, cat_d]) (by simp [lv_args, cat_rf, cat_i, cat_l, cat_f, cat_d]) (w_J10_abs_2 (kc := 0) (ks := 0) h)
theorem w_J10_round_44 {G : ZG} {d : Nat} {Q : Option Value → ZS → Prop} {X : String → Nat → ZS → Prop} {kc ks : Nat} {a3 : Int32} {a4 : Int32} {σ : ZS} (h : f_J10_round_44 G d Q X a3 a4 σ) : AW G (kJ10_round d) Q X kc ks 44 [(3, .int a3), (4, .int a4)] [] σ := by
  refine aw_iload (pc := 44) (j := 1) dJ10_round_44 rfl ?_
  refine aw_iload_n (pc := 46) (j := 0) dJ10_round_46 rfl rfl ?_
  refine aw_ishr (pc := 47) dJ10_round_47 ?_
  refine aw_iconst (pc := 48) (v := (1 : Int32)) dJ10_round_48 rfl ?_
  refine aw_iadd (pc := 49) dJ10_round_49 ?_
  refine aw_iconst (pc := 50) (v := (1 : Int32)) dJ10_round_50 rfl ?_
  refine aw_ishr (pc := 51) dJ10_round_51 ?_
  exact aw_iret (pc := 52) dJ10_round_52 rfl rfl h
theorem w_J10_round {G : ZG} {d : Nat} {Q : Option Value → ZS → Prop} {X : String → Nat → ZS → Prop} {kc ks : Nat} {a0 : UInt32} {σ : ZS} (h : f_J10_round G d Q X a0 σ) : AW G (kJ10_round d) Q X kc ks 0 [(0, .float a0)] [] σ := by
  refine aw_fload_n (pc := 0) (j := 0) dJ10_round_0 rfl rfl ?_
  refine aw_f2raw (pc := 1) dJ10_round_1 q1702 q969 q968 q279 (Nat.le_of_ble_eq_true rfl) ?_
  refine aw_istore_n (pc := 4) (i := 1) (lo2 := [(1, .int a0.toInt32), (0, .float a0)]) dJ10_round_4 rfl (Nat.le_of_ble_eq_true rfl) (by simp [cat_rf, cat_i, cat_l, cat_f, cat_d]) ?_
  refine aw_iload_n (pc := 5) (j := 0) dJ10_round_5 rfl rfl ?_
  refine aw_ldc (pc := 6) (v := (2139095040 : Int32)) dJ10_round_6 q1835 ?_
  refine aw_iand (pc := 8) dJ10_round_8 ?_
  refine aw_bipush (pc := 9) (v := (23 : Int32)) dJ10_round_9 rfl ?_
  refine aw_ishr (pc := 11) dJ10_round_11 ?_
  refine aw_nmI (fun y1 hy1 => ?_)
  replace h := h y1 hy1
  refine aw_istore_n (pc := 12) (i := 2) (lo2 := [(2, .int y1), (1, .int a0.toInt32), (0, .float a0)]) dJ10_round_12 rfl (Nat.le_of_ble_eq_true rfl) (by simp [cat_rf, cat_i, cat_l, cat_f, cat_d]) ?_
  refine aw_sipush (pc := 13) (v := (149 : Int32)) dJ10_round_13 rfl ?_
  refine aw_iload_n (pc := 16) (j := 0) dJ10_round_16 rfl rfl ?_
  refine aw_isub (pc := 17) dJ10_round_17 ?_
  refine aw_nmI (fun y2 hy2 => ?_)
  replace h := h y2 hy2
  refine aw_istore_n (pc := 18) (i := 3) (lo2 := [(3, .int y2), (2, .int y1), (1, .int a0.toInt32), (0, .float a0)]) dJ10_round_18 rfl (Nat.le_of_ble_eq_true rfl) (by simp [cat_rf, cat_i, cat_l, cat_f, cat_d]) ?_
  refine aw_iload_n (pc := 19) (j := 0) dJ10_round_19 rfl rfl ?_
  refine aw_bipush (pc := 20) (v := (-32 : Int32)) dJ10_round_20 rfl ?_
  refine aw_iand (pc := 22) dJ10_round_22 ?_
  refine aw_if_ne (pc := 23) (tgt := 53) dJ10_round_23 (by decide) (fun z => ?_) (fun z => ?_)
  · replace h := h.2 z
    refine aw_fload_n (pc := 53) (j := 3) dJ10_round_53 rfl rfl ?_
    refine aw_f2i (pc := 54) dJ10_round_54 ?_
    exact aw_iret (pc := 55) dJ10_round_55 rfl rfl h
  · replace h := h.1 z
    refine aw_iload_n (pc := 26) (j := 2) dJ10_round_26 rfl rfl ?_
    refine aw_ldc (pc := 27) (v := (8388607 : Int32)) dJ10_round_27 q1836 ?_
    refine aw_iand (pc := 29) dJ10_round_29 ?_
    refine aw_ldc (pc := 30) (v := (8388608 : Int32)) dJ10_round_30 q1837 ?_
    refine aw_ior (pc := 32) dJ10_round_32 ?_
    refine aw_nmI (fun y3 hy3 => ?_)
    replace h := h y3 hy3
    refine aw_istore (pc := 33) (i := 4) (lo2 := [(4, .int y3), (3, .int y2), (2, .int y1), (1, .int a0.toInt32), (0, .float a0)]) dJ10_round_33 (Nat.le_of_ble_eq_true rfl) (by simp [cat_rf, cat_i, cat_l, cat_f, cat_d]) ?_
    refine aw_iload_n (pc := 35) (j := 3) dJ10_round_35 rfl rfl ?_
    refine aw_if_ge (pc := 36) (tgt := 44) dJ10_round_36 (by decide) (fun z => ?_) (fun z => ?_)
    · replace h := h.1 z
      exact aw_sub [1, 0] rfl (w_J10_round_44 h)
    · replace h := h.2 z
      refine aw_iload (pc := 39) (j := 0) dJ10_round_39 rfl ?_
      refine aw_ineg (pc := 41) dJ10_round_41 ?_
      refine aw_istore (pc := 42) (i := 4) (lo2 := [(4, .int (-y3)), (3, .int y2), (2, .int y1), (1, .int a0.toInt32), (0, .float a0)]) dJ10_round_42 (Nat.le_of_ble_eq_true rfl) (by simp [cat_rf, cat_i, cat_l, cat_f, cat_d]) ?_
      exact aw_sub [1, 0] rfl (w_J10_round_44 h)
theorem pf_J10_round : plainFor yJ10_round = true := by decide +kernel
theorem zm_J10_round {G : ZG} {d : Nat} {Q : Option Value → ZS → Prop} {X : String → Nat → ZS → Prop}  {a0 : UInt32} {σ : ZS} (h : f_J10_round G d Q X a0 σ) : ZM G yJ10_round d 0 0 [.float a0] σ Q X :=
  zm_ofF (own := RJ10) (code := cJ10_round) (maxL := 5) (ret := (some .int)) (ini := false) (lo := [(0, .float a0)]) pf_J10_round rfl (fun _ => by contradiction) q1834 q281 (by decide) (show (lg_sl [.float a0]).length ≤ 5 from by simp [lg_sl, cat_rf, cat_i, cat_l, cat_f, cat_d]) (by simp [lv_args, cat_rf, cat_i, cat_l, cat_f, cat_d]) (w_J10_round (kc := 0) (ks := 0) h)
theorem w_J10_getExponent {G : ZG} {d : Nat} {Q : Option Value → ZS → Prop} {X : String → Nat → ZS → Prop} {kc ks : Nat} {a0 : UInt32} {σ : ZS} (h : f_J10_getExponent G d Q X a0 σ) : AW G (kJ10_getExponent d) Q X kc ks 0 [(0, .float a0)] [] σ := by
  refine aw_fload_n (pc := 0) (j := 0) dJ10_getExponent_0 rfl rfl ?_
  refine aw_f2raw (pc := 1) dJ10_getExponent_1 q1702 q969 q968 q279 (Nat.le_of_ble_eq_true rfl) ?_
  refine aw_ldc (pc := 4) (v := (2139095040 : Int32)) dJ10_getExponent_4 q1835 ?_
  refine aw_iand (pc := 6) dJ10_getExponent_6 ?_
  refine aw_bipush (pc := 7) (v := (23 : Int32)) dJ10_getExponent_7 rfl ?_
  refine aw_ishr (pc := 9) dJ10_getExponent_9 ?_
  refine aw_bipush (pc := 10) (v := (127 : Int32)) dJ10_getExponent_10 rfl ?_
  refine aw_isub (pc := 12) dJ10_getExponent_12 ?_
  exact aw_iret (pc := 13) dJ10_getExponent_13 rfl rfl h
theorem pf_J10_getExponent : plainFor yJ10_getExponent = true := by decide +kernel
theorem zm_J10_getExponent {G : ZG} {d : Nat} {Q : Option Value → ZS → Prop} {X : String → Nat → ZS → Prop}  {a0 : UInt32} {σ : ZS} (h : f_J10_getExponent G d Q X a0 σ) : ZM G yJ10_getExponent d 0 0 [.float a0] σ Q X :=
  zm_ofF (own := RJ10) (code := cJ10_getExponent) (maxL := 1) (ret := (some .int)) (ini := false) (lo := [(0, .float a0)]) pf_J10_getExponent rfl (fun _ => by contradiction) q1840 q281 (by decide) (show (lg_sl [.float a0]).length ≤ 1 from by simp [lg_sl, cat_rf, cat_i, cat_l, cat_f, cat_d]) (by simp [lv_args, cat_rf, cat_i, cat_l, cat_f, cat_d]) (w_J10_getExponent (kc := 0) (ks := 0) h)
theorem w_J10_getExponent_2 {G : ZG} {d : Nat} {Q : Option Value → ZS → Prop} {X : String → Nat → ZS → Prop} {kc ks : Nat} {a0 : UInt64} {σ : ZS} (h : f_J10_getExponent_2 G d Q X a0 σ) : AW G (kJ10_getExponent_2 d) Q X kc ks 0 [(0, .double a0)] [] σ := by
  refine aw_dload_n (pc := 0) (j := 0) dJ10_getExponent_2_0 rfl rfl ?_
  refine aw_d2raw (pc := 1) dJ10_getExponent_2_1 q1714 q979 q978 q280 (Nat.le_of_ble_eq_true rfl) ?_
  refine aw_ldc2 (pc := 4) (v := (9218868437227405312 : Int64)) dJ10_getExponent_2_4 q1753 ?_
  refine aw_land (pc := 7) dJ10_getExponent_2_7 ?_
  refine aw_bipush (pc := 8) (v := (52 : Int32)) dJ10_getExponent_2_8 rfl ?_
  refine aw_lshr (pc := 10) dJ10_getExponent_2_10 ?_
  refine aw_ldc2 (pc := 11) (v := (1023 : Int64)) dJ10_getExponent_2_11 q1752 ?_
  refine aw_lsub (pc := 14) dJ10_getExponent_2_14 ?_
  refine aw_l2i (pc := 15) dJ10_getExponent_2_15 ?_
  exact aw_iret (pc := 16) dJ10_getExponent_2_16 rfl rfl h
theorem pf_J10_getExponent_2 : plainFor yJ10_getExponent_2 = true := by decide +kernel
theorem zm_J10_getExponent_2 {G : ZG} {d : Nat} {Q : Option Value → ZS → Prop} {X : String → Nat → ZS → Prop}  {a0 : UInt64} {σ : ZS} (h : f_J10_getExponent_2 G d Q X a0 σ) : ZM G yJ10_getExponent_2 d 0 0 [.double a0] σ Q X :=
  zm_ofF (own := RJ10) (code := cJ10_getExponent_2) (maxL := 2) (ret := (some .int)) (ini := false) (lo := [(0, .double a0)]) pf_J10_getExponent_2 rfl (fun _ => by contradiction) q1853 q281 (by decide) (show (lg_sl [.double a0]).length ≤ 2 from by simp [lg_sl, cat_rf, cat_i, cat_l, cat_f, cat_d]) (by simp [lv_args, cat_rf, cat_i, cat_l, cat_f, cat_d]) (w_J10_getExponent_2 (kc := 0) (ks := 0) h)
theorem w_J10_ulp_99 {G : ZG} {d : Nat} {Q : Option Value → ZS → Prop} {X : String → Nat → ZS → Prop} {kc ks : Nat} {w0 : UInt32} {σ : ZS} (h : f_J10_ulp_99 G d Q X w0 σ) : AW G (kJ10_ulp d) Q X kc ks 99 [] [.float w0] σ := by
  exact aw_fret (pc := 99) dJ10_ulp_99 rfl h
theorem w_J10_ulp {G : ZG} {d : Nat} {Q : Option Value → ZS → Prop} {X : String → Nat → ZS → Prop} {kc ks : Nat} {a0 : UInt32} {σ : ZS} (h : f_J10_ulp G d Q X a0 σ) : AW G (kJ10_ulp d) Q X kc ks 0 [(0, .float a0)] [] σ := by
  refine aw_fload_n (pc := 0) (j := 0) dJ10_ulp_0 rfl rfl ?_
  refine aw_cs0I (pc := 1) (As := [.float a0]) (st := []) dJ10_ulp_1 q1890 q1839 q281 q1840 yh_J10_getExponent yl_J10_getExponent rfl (Nat.le_of_ble_eq_true rfl) h (fun v1 σ2 h => ?_) (fun E5 q6 σ7 h => ax_out rfl h)
  refine aw_istore_n (pc := 4) (i := 1) (lo2 := [(1, .int v1), (0, .float a0)]) dJ10_ulp_4 rfl (Nat.le_of_ble_eq_true rfl) (by simp [cat_rf, cat_i, cat_l, cat_f, cat_d]) ?_
  refine aw_iload_n (pc := 5) (j := 0) dJ10_ulp_5 rfl rfl ?_
  by_cases z : v1 = (-127)
  · replace h := h.1 z
    refine aw_lsw (pc := 6) (off := 33) (tgt := 39) dJ10_ulp_6 (by decide) (by rw [z]; decide) (by decide) ?_
    refine aw_ldcfw (pc := 39) (v := (1 : UInt32)) dJ10_ulp_39 q1892 ?_
    refine aw_goto (pc := 42) (tgt := 99) dJ10_ulp_42 (by decide) ?_
    exact aw_sub [] rfl (w_J10_ulp_99 h)
  replace h := h.2 z
  have zm127 := z
  clear z
  by_cases z : v1 = 128
  · replace h := h.1 z
    refine aw_lsw (pc := 6) (off := 26) (tgt := 32) dJ10_ulp_6 (by decide) (by rw [z]; decide) (by decide) ?_
    refine aw_fload_n (pc := 32) (j := 1) dJ10_ulp_32 rfl rfl ?_
    refine aw_cs0F (pc := 33) (As := [.float a0]) (st := []) dJ10_ulp_33 q1891 q1787 q281 q1788 yh_J10_abs_3 yl_J10_abs_3 rfl (Nat.le_of_ble_eq_true rfl) h (fun v10 σ11 h => ?_) (fun E14 q15 σ16 h => ax_out rfl h)
    refine aw_goto (pc := 36) (tgt := 99) dJ10_ulp_36 (by decide) ?_
    exact aw_sub [] rfl (w_J10_ulp_99 h)
  replace h := h.2 z
  have z128 := z
  clear z
  refine aw_lswd (pc := 6) (tgt := 45) dJ10_ulp_6 (by decide) (by decide) (fun q hq => ?_) ?_
  · simp only [List.mem_cons, List.not_mem_nil, or_false] at hq
    rcases hq with e9 | e9 <;> subst e9
    · exact fun e => zm127 (Int32.toInt_inj.mp (e.trans (by decide)))
    · exact fun e => z128 (Int32.toInt_inj.mp (e.trans (by decide)))
  refine aw_gets (pc := 45) (q := ("java/lang/Math", "$assertionsDisabled", "Z", .int (1))) dJ10_ulp_45 (by simp [zSt]) q1750 ?_
  refine aw_if_ne (pc := 48) (tgt := 71) dJ10_ulp_48 (by decide) (fun z => ?_) (fun z => ?_)
  · refine aw_iload_n (pc := 71) (j := 0) dJ10_ulp_71 rfl rfl ?_
    refine aw_bipush (pc := 72) (v := (23 : Int32)) dJ10_ulp_72 rfl ?_
    refine aw_isub (pc := 74) dJ10_ulp_74 ?_
    refine aw_nmI (fun y19 hy19 => ?_)
    replace h := h y19 hy19
    refine aw_istore_n (pc := 75) (i := 1) (lo2 := [(1, .int y19), (0, .float a0)]) dJ10_ulp_75 rfl (Nat.le_of_ble_eq_true rfl) (by simp [cat_rf, cat_i, cat_l, cat_f, cat_d]) ?_
    refine aw_iload_n (pc := 76) (j := 0) dJ10_ulp_76 rfl rfl ?_
    refine aw_bipush (pc := 77) (v := (-126 : Int32)) dJ10_ulp_77 rfl ?_
    refine aw_icmp_lt (pc := 79) (tgt := 89) dJ10_ulp_79 (by decide) (fun z => ?_) (fun z => ?_)
    · replace h := h.1 z
      refine aw_iconst (pc := 89) (v := (1 : Int32)) dJ10_ulp_89 rfl ?_
      refine aw_iload_n (pc := 90) (j := 0) dJ10_ulp_90 rfl rfl ?_
      refine aw_sipush (pc := 91) (v := (-149 : Int32)) dJ10_ulp_91 rfl ?_
      refine aw_isub (pc := 94) dJ10_ulp_94 ?_
      refine aw_ishl (pc := 95) dJ10_ulp_95 ?_
      refine aw_raw2f (pc := 96) dJ10_ulp_96 q1730 q762 q761 q279 h.1 (Nat.le_of_ble_eq_true rfl) ?_
      replace h := h.2
      exact aw_sub [] rfl (w_J10_ulp_99 h)
    · replace h := h.2 z
      refine aw_iload_n (pc := 82) (j := 0) dJ10_ulp_82 rfl rfl ?_
      refine aw_cs0F (pc := 83) (As := [.int y19]) (st := []) dJ10_ulp_83 q1893 q1894 q281 q1895 yh_J10_powerOfTwoF yl_J10_powerOfTwoF rfl (Nat.le_of_ble_eq_true rfl) h (fun v20 σ21 h => ?_) (fun E24 q25 σ26 h => ax_out rfl h)
      refine aw_goto (pc := 86) (tgt := 99) dJ10_ulp_86 (by decide) ?_
      exact aw_sub [] rfl (w_J10_ulp_99 h)
  · exact absurd z (by decide)
theorem pf_J10_ulp : plainFor yJ10_ulp = true := by decide +kernel
theorem zm_J10_ulp {G : ZG} {d : Nat} {Q : Option Value → ZS → Prop} {X : String → Nat → ZS → Prop}  {a0 : UInt32} {σ : ZS} (h : f_J10_ulp G d Q X a0 σ) : ZM G yJ10_ulp d 0 0 [.float a0] σ Q X :=
  zm_ofF (own := RJ10) (code := cJ10_ulp) (maxL := 2) (ret := (some .float)) (ini := false) (lo := [(0, .float a0)]) pf_J10_ulp rfl (fun _ => by contradiction) q1889 q281 (by decide) (show (lg_sl [.float a0]).length ≤ 2 from by simp [lg_sl, cat_rf, cat_i, cat_l, cat_f, cat_d]) (by simp [lv_args, cat_rf, cat_i, cat_l, cat_f, cat_d]) (w_J10_ulp (kc := 0) (ks := 0) h)
theorem w_J10_powerOfTwoF {G : ZG} {d : Nat} {Q : Option Value → ZS → Prop} {X : String → Nat → ZS → Prop} {kc ks : Nat} {a0 : Int32} {σ : ZS} (h : f_J10_powerOfTwoF G d Q X a0 σ) : AW G (kJ10_powerOfTwoF d) Q X kc ks 0 [(0, .int a0)] [] σ := by
  refine aw_gets (pc := 0) (q := ("java/lang/Math", "$assertionsDisabled", "Z", .int (1))) dJ10_powerOfTwoF_0 (by simp [zSt]) q1750 ?_
  refine aw_if_ne (pc := 3) (tgt := 26) dJ10_powerOfTwoF_3 (by decide) (fun z => ?_) (fun z => ?_)
  · refine aw_iload_n (pc := 26) (j := 0) dJ10_powerOfTwoF_26 rfl rfl ?_
    refine aw_bipush (pc := 27) (v := (127 : Int32)) dJ10_powerOfTwoF_27 rfl ?_
    refine aw_iadd (pc := 29) dJ10_powerOfTwoF_29 ?_
    refine aw_bipush (pc := 30) (v := (23 : Int32)) dJ10_powerOfTwoF_30 rfl ?_
    refine aw_ishl (pc := 32) dJ10_powerOfTwoF_32 ?_
    refine aw_ldc (pc := 33) (v := (2139095040 : Int32)) dJ10_powerOfTwoF_33 q1835 ?_
    refine aw_iand (pc := 35) dJ10_powerOfTwoF_35 ?_
    refine aw_raw2f (pc := 36) dJ10_powerOfTwoF_36 q1730 q762 q761 q279 h.1 (Nat.le_of_ble_eq_true rfl) ?_
    replace h := h.2
    exact aw_fret (pc := 39) dJ10_powerOfTwoF_39 rfl h
  · exact absurd z (by decide)
theorem pf_J10_powerOfTwoF : plainFor yJ10_powerOfTwoF = true := by decide +kernel
theorem zm_J10_powerOfTwoF {G : ZG} {d : Nat} {Q : Option Value → ZS → Prop} {X : String → Nat → ZS → Prop}  {a0 : Int32} {σ : ZS} (h : f_J10_powerOfTwoF G d Q X a0 σ) : ZM G yJ10_powerOfTwoF d 0 0 [.int a0] σ Q X :=
  zm_ofF (own := RJ10) (code := cJ10_powerOfTwoF) (maxL := 1) (ret := (some .float)) (ini := false) (lo := [(0, .int a0)]) pf_J10_powerOfTwoF rfl (fun _ => by contradiction) q1895 q281 (by decide) (show (lg_sl [.int a0]).length ≤ 1 from by simp [lg_sl, cat_rf, cat_i, cat_l, cat_f, cat_d]) (by simp [lv_args, cat_rf, cat_i, cat_l, cat_f, cat_d]) (w_J10_powerOfTwoF (kc := 0) (ks := 0) h)
theorem w_J10_nextUp_25 {G : ZG} {d : Nat} {Q : Option Value → ZS → Prop} {X : String → Nat → ZS → Prop} {kc ks : Nat} {w0 : Int32} {w1 : Int32} {σ : ZS} (h : f_J10_nextUp_25 G d Q X w0 w1 σ) : AW G (kJ10_nextUp d) Q X kc ks 25 [] [.int w0, .int w1] σ := by
  refine aw_iadd (pc := 25) dJ10_nextUp_25 ?_
  refine aw_raw2f (pc := 26) dJ10_nextUp_26 q1730 q762 q761 q279 h.1 (Nat.le_of_ble_eq_true rfl) ?_
  replace h := h.2
  exact aw_fret (pc := 29) dJ10_nextUp_29 rfl h
theorem w_J10_nextUp {G : ZG} {d : Nat} {Q : Option Value → ZS → Prop} {X : String → Nat → ZS → Prop} {kc ks : Nat} {a0 : UInt32} {σ : ZS} (h : f_J10_nextUp G d Q X a0 σ) : AW G (kJ10_nextUp d) Q X kc ks 0 [(0, .float a0)] [] σ := by
  refine aw_fload_n (pc := 0) (j := 0) dJ10_nextUp_0 rfl rfl ?_
  refine aw_ldcfw (pc := 1) (v := (2139095040 : UInt32)) dJ10_nextUp_1 q1899 ?_
  refine aw_fcmp (pc := 4) dJ10_nextUp_4 ?_
  refine aw_if_ge (pc := 5) (tgt := 30) dJ10_nextUp_5 (by decide) (fun z => ?_) (fun z => ?_)
  · replace h := h.1 z
    refine aw_fload_n (pc := 30) (j := 0) dJ10_nextUp_30 rfl rfl ?_
    exact aw_fret (pc := 31) dJ10_nextUp_31 rfl h
  · replace h := h.2 z
    refine aw_fload_n (pc := 8) (j := 0) dJ10_nextUp_8 rfl rfl ?_
    refine aw_fconst0 (pc := 9) dJ10_nextUp_9 ?_
    refine aw_fadd (pc := 10) dJ10_nextUp_10 h.1 ?_
    replace h := h.2
    refine aw_f2raw (pc := 11) dJ10_nextUp_11 q1702 q969 q968 q279 (Nat.le_of_ble_eq_true rfl) ?_
    refine aw_nmI (fun y1 hy1 => ?_)
    replace h := h y1 hy1
    refine aw_istore_n (pc := 14) (i := 1) (lo2 := [(1, .int y1), (0, .float a0)]) dJ10_nextUp_14 rfl (Nat.le_of_ble_eq_true rfl) (by simp [cat_rf, cat_i, cat_l, cat_f, cat_d]) ?_
    refine aw_iload_n (pc := 15) (j := 0) dJ10_nextUp_15 rfl rfl ?_
    refine aw_iload_n (pc := 16) (j := 0) dJ10_nextUp_16 rfl rfl ?_
    refine aw_if_lt (pc := 17) (tgt := 24) dJ10_nextUp_17 (by decide) (fun z => ?_) (fun z => ?_)
    · replace h := h.1 z
      refine aw_iconst (pc := 24) (v := (-1 : Int32)) dJ10_nextUp_24 rfl ?_
      exact aw_sub [] rfl (w_J10_nextUp_25 h)
    · replace h := h.2 z
      refine aw_iconst (pc := 20) (v := (1 : Int32)) dJ10_nextUp_20 rfl ?_
      refine aw_goto (pc := 21) (tgt := 25) dJ10_nextUp_21 (by decide) ?_
      exact aw_sub [] rfl (w_J10_nextUp_25 h)
theorem pf_J10_nextUp : plainFor yJ10_nextUp = true := by decide +kernel
theorem zm_J10_nextUp {G : ZG} {d : Nat} {Q : Option Value → ZS → Prop} {X : String → Nat → ZS → Prop}  {a0 : UInt32} {σ : ZS} (h : f_J10_nextUp G d Q X a0 σ) : ZM G yJ10_nextUp d 0 0 [.float a0] σ Q X :=
  zm_ofF (own := RJ10) (code := cJ10_nextUp) (maxL := 2) (ret := (some .float)) (ini := false) (lo := [(0, .float a0)]) pf_J10_nextUp rfl (fun _ => by contradiction) q1898 q281 (by decide) (show (lg_sl [.float a0]).length ≤ 2 from by simp [lg_sl, cat_rf, cat_i, cat_l, cat_f, cat_d]) (by simp [lv_args, cat_rf, cat_i, cat_l, cat_f, cat_d]) (w_J10_nextUp (kc := 0) (ks := 0) h)
theorem w_J10_round_2_56 {G : ZG} {d : Nat} {Q : Option Value → ZS → Prop} {X : String → Nat → ZS → Prop} {kc ks : Nat} {a6 : Int64} {a8 : Int64} {σ : ZS} (h : f_J10_round_2_56 G d Q X a6 a8 σ) : AW G (kJ10_round_2 d) Q X kc ks 56 [(6, .long a6), (8, .long a8)] [] σ := by
  refine aw_lload (pc := 56) (j := 1) dJ10_round_2_56 rfl ?_
  refine aw_lload (pc := 58) (j := 0) dJ10_round_2_58 rfl ?_
  refine aw_l2i (pc := 60) dJ10_round_2_60 ?_
  refine aw_lshr (pc := 61) dJ10_round_2_61 ?_
  refine aw_lconst (pc := 62) (v := (1 : Int64)) dJ10_round_2_62 rfl ?_
  refine aw_ladd (pc := 63) dJ10_round_2_63 ?_
  refine aw_iconst (pc := 64) (v := (1 : Int32)) dJ10_round_2_64 rfl ?_
  refine aw_lshr (pc := 65) dJ10_round_2_65 ?_
  exact aw_lret (pc := 66) dJ10_round_2_66 rfl h
theorem w_J10_round_2 {G : ZG} {d : Nat} {Q : Option Value → ZS → Prop} {X : String → Nat → ZS → Prop} {kc ks : Nat} {a0 : UInt64} {σ : ZS} (h : f_J10_round_2 G d Q X a0 σ) : AW G (kJ10_round_2 d) Q X kc ks 0 [(0, .double a0)] [] σ := by
  refine aw_dload_n (pc := 0) (j := 0) dJ10_round_2_0 rfl rfl ?_
  refine aw_d2raw (pc := 1) dJ10_round_2_1 q1714 q979 q978 q280 (Nat.le_of_ble_eq_true rfl) ?_
  refine aw_lstore_n (pc := 4) (i := 2) (lo2 := [(2, .long a0.toInt64), (0, .double a0)]) dJ10_round_2_4 rfl (Nat.le_of_ble_eq_true rfl) (by simp [cat_rf, cat_i, cat_l, cat_f, cat_d]) ?_
  refine aw_lload_n (pc := 5) (j := 0) dJ10_round_2_5 rfl rfl ?_
  refine aw_ldc2 (pc := 6) (v := (9218868437227405312 : Int64)) dJ10_round_2_6 q1753 ?_
  refine aw_land (pc := 9) dJ10_round_2_9 ?_
  refine aw_bipush (pc := 10) (v := (52 : Int32)) dJ10_round_2_10 rfl ?_
  refine aw_lshr (pc := 12) dJ10_round_2_12 ?_
  refine aw_nmL (fun y1 hy1 => ?_)
  replace h := h y1 hy1
  refine aw_lstore (pc := 13) (i := 4) (lo2 := [(4, .long y1), (2, .long a0.toInt64), (0, .double a0)]) dJ10_round_2_13 (Nat.le_of_ble_eq_true rfl) (by simp [cat_rf, cat_i, cat_l, cat_f, cat_d]) ?_
  refine aw_ldc2 (pc := 15) (v := (1074 : Int64)) dJ10_round_2_15 q1908 ?_
  refine aw_lload (pc := 18) (j := 0) dJ10_round_2_18 rfl ?_
  refine aw_lsub (pc := 20) dJ10_round_2_20 ?_
  refine aw_nmL (fun y2 hy2 => ?_)
  replace h := h y2 hy2
  refine aw_lstore (pc := 21) (i := 6) (lo2 := [(6, .long y2), (4, .long y1), (2, .long a0.toInt64), (0, .double a0)]) dJ10_round_2_21 (Nat.le_of_ble_eq_true rfl) (by simp [cat_rf, cat_i, cat_l, cat_f, cat_d]) ?_
  refine aw_lload (pc := 23) (j := 0) dJ10_round_2_23 rfl ?_
  refine aw_ldc2 (pc := 25) (v := (-64 : Int64)) dJ10_round_2_25 q1909 ?_
  refine aw_land (pc := 28) dJ10_round_2_28 ?_
  refine aw_lconst (pc := 29) (v := (0 : Int64)) dJ10_round_2_29 rfl ?_
  refine aw_lcmp (pc := 30) dJ10_round_2_30 ?_
  refine aw_if_ne (pc := 31) (tgt := 67) dJ10_round_2_31 (by decide) (fun z => ?_) (fun z => ?_)
  · replace h := h.2 z
    refine aw_dload_n (pc := 67) (j := 3) dJ10_round_2_67 rfl rfl ?_
    refine aw_d2l (pc := 68) dJ10_round_2_68 ?_
    exact aw_lret (pc := 69) dJ10_round_2_69 rfl h
  · replace h := h.1 z
    refine aw_lload_n (pc := 34) (j := 2) dJ10_round_2_34 rfl rfl ?_
    refine aw_ldc2 (pc := 35) (v := (4503599627370495 : Int64)) dJ10_round_2_35 q1910 ?_
    refine aw_land (pc := 38) dJ10_round_2_38 ?_
    refine aw_ldc2 (pc := 39) (v := (4503599627370496 : Int64)) dJ10_round_2_39 q1911 ?_
    refine aw_lor (pc := 42) dJ10_round_2_42 ?_
    refine aw_nmL (fun y3 hy3 => ?_)
    replace h := h y3 hy3
    refine aw_lstore (pc := 43) (i := 8) (lo2 := [(8, .long y3), (6, .long y2), (4, .long y1), (2, .long a0.toInt64), (0, .double a0)]) dJ10_round_2_43 (Nat.le_of_ble_eq_true rfl) (by simp [cat_rf, cat_i, cat_l, cat_f, cat_d]) ?_
    refine aw_lload_n (pc := 45) (j := 3) dJ10_round_2_45 rfl rfl ?_
    refine aw_lconst (pc := 46) (v := (0 : Int64)) dJ10_round_2_46 rfl ?_
    refine aw_lcmp (pc := 47) dJ10_round_2_47 ?_
    refine aw_if_ge (pc := 48) (tgt := 56) dJ10_round_2_48 (by decide) (fun z => ?_) (fun z => ?_)
    · replace h := h.1 z
      exact aw_sub [1, 0] rfl (w_J10_round_2_56 h)
    · replace h := h.2 z
      refine aw_lload (pc := 51) (j := 0) dJ10_round_2_51 rfl ?_
      refine aw_lneg (pc := 53) dJ10_round_2_53 ?_
      refine aw_lstore (pc := 54) (i := 8) (lo2 := [(8, .long (-y3)), (6, .long y2), (4, .long y1), (2, .long a0.toInt64), (0, .double a0)]) dJ10_round_2_54 (Nat.le_of_ble_eq_true rfl) (by simp [cat_rf, cat_i, cat_l, cat_f, cat_d]) ?_
      exact aw_sub [1, 0] rfl (w_J10_round_2_56 h)
theorem pf_J10_round_2 : plainFor yJ10_round_2 = true := by decide +kernel
theorem zm_J10_round_2 {G : ZG} {d : Nat} {Q : Option Value → ZS → Prop} {X : String → Nat → ZS → Prop}  {a0 : UInt64} {σ : ZS} (h : f_J10_round_2 G d Q X a0 σ) : ZM G yJ10_round_2 d 0 0 [.double a0] σ Q X :=
  zm_ofF (own := RJ10) (code := cJ10_round_2) (maxL := 10) (ret := (some .long)) (ini := false) (lo := [(0, .double a0)]) pf_J10_round_2 rfl (fun _ => by contradiction) q1907 q281 (by decide) (show (lg_sl [.double a0]).length ≤ 10 from by simp [lg_sl, cat_rf, cat_i, cat_l, cat_f, cat_d]) (by simp [lv_args, cat_rf, cat_i, cat_l, cat_f, cat_d]) (w_J10_round_2 (kc := 0) (ks := 0) h)
theorem w_J10_ulp_2_102 {G : ZG} {d : Nat} {Q : Option Value → ZS → Prop} {X : String → Nat → ZS → Prop} {kc ks : Nat} {w0 : UInt64} {σ : ZS} (h : f_J10_ulp_2_102 G d Q X w0 σ) : AW G (kJ10_ulp_2 d) Q X kc ks 102 [] [.double w0] σ := by
  exact aw_dret (pc := 102) dJ10_ulp_2_102 rfl h
theorem w_J10_ulp_2 {G : ZG} {d : Nat} {Q : Option Value → ZS → Prop} {X : String → Nat → ZS → Prop} {kc ks : Nat} {a0 : UInt64} {σ : ZS} (h : f_J10_ulp_2 G d Q X a0 σ) : AW G (kJ10_ulp_2 d) Q X kc ks 0 [(0, .double a0)] [] σ := by
  refine aw_dload_n (pc := 0) (j := 0) dJ10_ulp_2_0 rfl rfl ?_
  refine aw_cs0I (pc := 1) (As := [.double a0]) (st := []) dJ10_ulp_2_1 q1920 q1852 q281 q1853 yh_J10_getExponent_2 yl_J10_getExponent_2 rfl (Nat.le_of_ble_eq_true rfl) h (fun v1 σ2 h => ?_) (fun E5 q6 σ7 h => ax_out rfl h)
  refine aw_istore_n (pc := 4) (i := 2) (lo2 := [(2, .int v1), (0, .double a0)]) dJ10_ulp_2_4 rfl (Nat.le_of_ble_eq_true rfl) (by simp [cat_rf, cat_i, cat_l, cat_f, cat_d]) ?_
  refine aw_iload_n (pc := 5) (j := 0) dJ10_ulp_2_5 rfl rfl ?_
  by_cases z : v1 = (-1023)
  · replace h := h.1 z
    refine aw_lsw (pc := 6) (off := 33) (tgt := 39) dJ10_ulp_2_6 (by decide) (by rw [z]; decide) (by decide) ?_
    refine aw_ldc2d (pc := 39) (v := (1 : UInt64)) dJ10_ulp_2_39 q1922 ?_
    refine aw_goto (pc := 42) (tgt := 102) dJ10_ulp_2_42 (by decide) ?_
    exact aw_sub [] rfl (w_J10_ulp_2_102 h)
  replace h := h.2 z
  have zm1023 := z
  clear z
  by_cases z : v1 = 1024
  · replace h := h.1 z
    refine aw_lsw (pc := 6) (off := 26) (tgt := 32) dJ10_ulp_2_6 (by decide) (by rw [z]; decide) (by decide) ?_
    refine aw_dload_n (pc := 32) (j := 1) dJ10_ulp_2_32 rfl rfl ?_
    refine aw_cs0D (pc := 33) (As := [.double a0]) (st := []) dJ10_ulp_2_33 q1921 q1790 q281 q1791 yh_J10_abs_4 yl_J10_abs_4 rfl (Nat.le_of_ble_eq_true rfl) h (fun v10 σ11 h => ?_) (fun E14 q15 σ16 h => ax_out rfl h)
    refine aw_goto (pc := 36) (tgt := 102) dJ10_ulp_2_36 (by decide) ?_
    exact aw_sub [] rfl (w_J10_ulp_2_102 h)
  replace h := h.2 z
  have z1024 := z
  clear z
  refine aw_lswd (pc := 6) (tgt := 45) dJ10_ulp_2_6 (by decide) (by decide) (fun q hq => ?_) ?_
  · simp only [List.mem_cons, List.not_mem_nil, or_false] at hq
    rcases hq with e9 | e9 <;> subst e9
    · exact fun e => zm1023 (Int32.toInt_inj.mp (e.trans (by decide)))
    · exact fun e => z1024 (Int32.toInt_inj.mp (e.trans (by decide)))
  refine aw_gets (pc := 45) (q := ("java/lang/Math", "$assertionsDisabled", "Z", .int (1))) dJ10_ulp_2_45 (by simp [zSt]) q1750 ?_
  refine aw_if_ne (pc := 48) (tgt := 73) dJ10_ulp_2_48 (by decide) (fun z => ?_) (fun z => ?_)
  · refine aw_iload_n (pc := 73) (j := 0) dJ10_ulp_2_73 rfl rfl ?_
    refine aw_bipush (pc := 74) (v := (52 : Int32)) dJ10_ulp_2_74 rfl ?_
    refine aw_isub (pc := 76) dJ10_ulp_2_76 ?_
    refine aw_nmI (fun y19 hy19 => ?_)
    replace h := h y19 hy19
    refine aw_istore_n (pc := 77) (i := 2) (lo2 := [(2, .int y19), (0, .double a0)]) dJ10_ulp_2_77 rfl (Nat.le_of_ble_eq_true rfl) (by simp [cat_rf, cat_i, cat_l, cat_f, cat_d]) ?_
    refine aw_iload_n (pc := 78) (j := 0) dJ10_ulp_2_78 rfl rfl ?_
    refine aw_sipush (pc := 79) (v := (-1022 : Int32)) dJ10_ulp_2_79 rfl ?_
    refine aw_icmp_lt (pc := 82) (tgt := 92) dJ10_ulp_2_82 (by decide) (fun z => ?_) (fun z => ?_)
    · replace h := h.1 z
      refine aw_lconst (pc := 92) (v := (1 : Int64)) dJ10_ulp_2_92 rfl ?_
      refine aw_iload_n (pc := 93) (j := 0) dJ10_ulp_2_93 rfl rfl ?_
      refine aw_sipush (pc := 94) (v := (-1074 : Int32)) dJ10_ulp_2_94 rfl ?_
      refine aw_isub (pc := 97) dJ10_ulp_2_97 ?_
      refine aw_lshl (pc := 98) dJ10_ulp_2_98 ?_
      refine aw_raw2d (pc := 99) dJ10_ulp_2_99 q1737 q775 q774 q280 h.1 (Nat.le_of_ble_eq_true rfl) ?_
      replace h := h.2
      exact aw_sub [] rfl (w_J10_ulp_2_102 h)
    · replace h := h.2 z
      refine aw_iload_n (pc := 85) (j := 0) dJ10_ulp_2_85 rfl rfl ?_
      refine aw_cs0D (pc := 86) (As := [.int y19]) (st := []) dJ10_ulp_2_86 q1747 q1748 q281 q1749 yh_J10_powerOfTwoD yl_J10_powerOfTwoD rfl (Nat.le_of_ble_eq_true rfl) h (fun v20 σ21 h => ?_) (fun E24 q25 σ26 h => ax_out rfl h)
      refine aw_goto (pc := 89) (tgt := 102) dJ10_ulp_2_89 (by decide) ?_
      exact aw_sub [] rfl (w_J10_ulp_2_102 h)
  · exact absurd z (by decide)
theorem pf_J10_ulp_2 : plainFor yJ10_ulp_2 = true := by decide +kernel
theorem zm_J10_ulp_2 {G : ZG} {d : Nat} {Q : Option Value → ZS → Prop} {X : String → Nat → ZS → Prop}  {a0 : UInt64} {σ : ZS} (h : f_J10_ulp_2 G d Q X a0 σ) : ZM G yJ10_ulp_2 d 0 0 [.double a0] σ Q X :=
  zm_ofF (own := RJ10) (code := cJ10_ulp_2) (maxL := 3) (ret := (some .double)) (ini := false) (lo := [(0, .double a0)]) pf_J10_ulp_2 rfl (fun _ => by contradiction) q1919 q281 (by decide) (show (lg_sl [.double a0]).length ≤ 3 from by simp [lg_sl, cat_rf, cat_i, cat_l, cat_f, cat_d]) (by simp [lv_args, cat_rf, cat_i, cat_l, cat_f, cat_d]) (w_J10_ulp_2 (kc := 0) (ks := 0) h)
theorem w_J10_nextUp_2_29 {G : ZG} {d : Nat} {Q : Option Value → ZS → Prop} {X : String → Nat → ZS → Prop} {kc ks : Nat} {w0 : Int64} {w1 : Int64} {σ : ZS} (h : f_J10_nextUp_2_29 G d Q X w0 w1 σ) : AW G (kJ10_nextUp_2 d) Q X kc ks 29 [] [.long w0, .long w1] σ := by
  refine aw_ladd (pc := 29) dJ10_nextUp_2_29 ?_
  refine aw_raw2d (pc := 30) dJ10_nextUp_2_30 q1737 q775 q774 q280 h.1 (Nat.le_of_ble_eq_true rfl) ?_
  replace h := h.2
  exact aw_dret (pc := 33) dJ10_nextUp_2_33 rfl h
theorem w_J10_nextUp_2 {G : ZG} {d : Nat} {Q : Option Value → ZS → Prop} {X : String → Nat → ZS → Prop} {kc ks : Nat} {a0 : UInt64} {σ : ZS} (h : f_J10_nextUp_2 G d Q X a0 σ) : AW G (kJ10_nextUp_2 d) Q X kc ks 0 [(0, .double a0)] [] σ := by
  refine aw_dload_n (pc := 0) (j := 0) dJ10_nextUp_2_0 rfl rfl ?_
  refine aw_ldc2d (pc := 1) (v := (9218868437227405312 : UInt64)) dJ10_nextUp_2_1 q1926 ?_
  refine aw_dcmp (pc := 4) dJ10_nextUp_2_4 ?_
  refine aw_if_ge (pc := 5) (tgt := 34) dJ10_nextUp_2_5 (by decide) (fun z => ?_) (fun z => ?_)
  · replace h := h.1 z
    refine aw_dload_n (pc := 34) (j := 0) dJ10_nextUp_2_34 rfl rfl ?_
    exact aw_dret (pc := 35) dJ10_nextUp_2_35 rfl h
  · replace h := h.2 z
    refine aw_dload_n (pc := 8) (j := 0) dJ10_nextUp_2_8 rfl rfl ?_
    refine aw_dconst0 (pc := 9) dJ10_nextUp_2_9 ?_
    refine aw_dadd (pc := 10) dJ10_nextUp_2_10 h.1 ?_
    replace h := h.2
    refine aw_d2raw (pc := 11) dJ10_nextUp_2_11 q1714 q979 q978 q280 (Nat.le_of_ble_eq_true rfl) ?_
    refine aw_nmL (fun y1 hy1 => ?_)
    replace h := h y1 hy1
    refine aw_lstore_n (pc := 14) (i := 2) (lo2 := [(2, .long y1), (0, .double a0)]) dJ10_nextUp_2_14 rfl (Nat.le_of_ble_eq_true rfl) (by simp [cat_rf, cat_i, cat_l, cat_f, cat_d]) ?_
    refine aw_lload_n (pc := 15) (j := 0) dJ10_nextUp_2_15 rfl rfl ?_
    refine aw_lload_n (pc := 16) (j := 0) dJ10_nextUp_2_16 rfl rfl ?_
    refine aw_lconst (pc := 17) (v := (0 : Int64)) dJ10_nextUp_2_17 rfl ?_
    refine aw_lcmp (pc := 18) dJ10_nextUp_2_18 ?_
    refine aw_if_lt (pc := 19) (tgt := 26) dJ10_nextUp_2_19 (by decide) (fun z => ?_) (fun z => ?_)
    · replace h := h.1 z
      refine aw_ldc2 (pc := 26) (v := (-1 : Int64)) dJ10_nextUp_2_26 q1927 ?_
      exact aw_sub [] rfl (w_J10_nextUp_2_29 h)
    · replace h := h.2 z
      refine aw_lconst (pc := 22) (v := (1 : Int64)) dJ10_nextUp_2_22 rfl ?_
      refine aw_goto (pc := 23) (tgt := 29) dJ10_nextUp_2_23 (by decide) ?_
      exact aw_sub [] rfl (w_J10_nextUp_2_29 h)
theorem pf_J10_nextUp_2 : plainFor yJ10_nextUp_2 = true := by decide +kernel
theorem zm_J10_nextUp_2 {G : ZG} {d : Nat} {Q : Option Value → ZS → Prop} {X : String → Nat → ZS → Prop}  {a0 : UInt64} {σ : ZS} (h : f_J10_nextUp_2 G d Q X a0 σ) : ZM G yJ10_nextUp_2 d 0 0 [.double a0] σ Q X :=
  zm_ofF (own := RJ10) (code := cJ10_nextUp_2) (maxL := 4) (ret := (some .double)) (ini := false) (lo := [(0, .double a0)]) pf_J10_nextUp_2 rfl (fun _ => by contradiction) q1925 q281 (by decide) (show (lg_sl [.double a0]).length ≤ 4 from by simp [lg_sl, cat_rf, cat_i, cat_l, cat_f, cat_d]) (by simp [lv_args, cat_rf, cat_i, cat_l, cat_f, cat_d]) (w_J10_nextUp_2 (kc := 0) (ks := 0) h)
theorem w_J13_charAt {G : ZG} {d : Nat} {Q : Option Value → ZS → Prop} {X : String → Nat → ZS → Prop} {kc ks : Nat} {a0 : Option Nat} {a1 : Int32} {σ : ZS} (h : f_J13_charAt G d Q X a0 a1 σ) : AW G (kJ13_charAt d) Q X kc ks 0 [(0, va_rf a0), (1, .int a1)] [] σ := by
  refine aw_iload_n (pc := 0) (j := 1) dJ13_charAt_0 rfl rfl ?_
  refine aw_aload_n (pc := 1) (j := 0) dJ13_charAt_1 rfl rfl ?_
  refine aw_sln (pc := 2) dJ13_charAt_2 h (fun v1 h => ?_)
  refine aw_cs0V (pc := 3) (As := [.int a1, .int v1]) (st := []) dJ13_charAt_3 q1018 q1019 q273 q1020 yh_J4_checkIndex yl_J4_checkIndex rfl (Nat.le_of_ble_eq_true rfl) h (fun σ3 h => ?_) (fun E6 q7 σ8 h => ax_out rfl h)
  refine aw_aload_n (pc := 6) (j := 0) dJ13_charAt_6 rfl rfl ?_
  refine aw_iload_n (pc := 7) (j := 1) dJ13_charAt_7 rfl rfl ?_
  refine aw_sbl (pc := 8) dJ13_charAt_8 h (fun v11 h => ?_)
  refine aw_sipush (pc := 9) (v := (255 : Int32)) dJ13_charAt_9 rfl ?_
  refine aw_iand (pc := 12) dJ13_charAt_12 ?_
  refine aw_i2c (pc := 13) dJ13_charAt_13 ?_
  exact aw_iret (pc := 14) dJ13_charAt_14 rfl h.1 h.2
theorem zm_J13_charAt {G : ZG} {d : Nat} {Q : Option Value → ZS → Prop} {X : String → Nat → ZS → Prop}  {a0 : Option Nat} {a1 : Int32} {σ : ZS} (h : f_J13_charAt G d Q X a0 a1 σ) : ZM G yJ13_charAt d 0 0 [va_rf a0, .int a1] σ Q X :=
  zm_of (own := RJ13) (code := cJ13_charAt) (maxL := 2) (ret := (some .char)) (ini := false) (lo := [(0, va_rf a0), (1, .int a1)]) (by decide) rfl (fun _ => by contradiction) q1017 q289 (by decide) (show (lg_sl [va_rf a0, .int a1]).length ≤ 2 from by simp [lg_sl, cat_rf, cat_i, cat_l, cat_f, cat_d]) (by simp [lv_args, cat_rf, cat_i, cat_l, cat_f, cat_d]) (w_J13_charAt (kc := 0) (ks := 0) h)
theorem w_J14_checkIndex_9 {G : ZG} {d : Nat} {Q : Option Value → ZS → Prop} {X : String → Nat → ZS → Prop} {kc ks : Nat} {a0 : Int32} {a1 : Int32} {a2 : Option Nat} {σ : ZS} (h : f_J14_checkIndex_9 G d Q X a0 a1 a2 σ) : AW G (kJ14_checkIndex d) Q X kc ks 9 [(0, .int a0), (1, .int a1), (2, va_rf a2)] [] σ := by
  refine aw_aload_n (pc := 9) (j := 2) dJ14_checkIndex_9 rfl rfl ?_
  refine aw_iload_n (pc := 10) (j := 0) dJ14_checkIndex_10 rfl rfl ?_
  refine aw_iload_n (pc := 11) (j := 1) dJ14_checkIndex_11 rfl rfl ?_
  exact h.elim
theorem w_J14_checkIndex {G : ZG} {d : Nat} {Q : Option Value → ZS → Prop} {X : String → Nat → ZS → Prop} {kc ks : Nat} {a0 : Int32} {a1 : Int32} {a2 : Option Nat} {σ : ZS} (h : f_J14_checkIndex G d Q X a0 a1 a2 σ) : AW G (kJ14_checkIndex d) Q X kc ks 0 [(0, .int a0), (1, .int a1), (2, va_rf a2)] [] σ := by
  refine aw_iload_n (pc := 0) (j := 0) dJ14_checkIndex_0 rfl rfl ?_
  refine aw_if_lt (pc := 1) (tgt := 9) dJ14_checkIndex_1 (by decide) (fun z => ?_) (fun z => ?_)
  · replace h := h.1 z
    exact w_J14_checkIndex_9 h
  · replace h := h.2 z
    refine aw_iload_n (pc := 4) (j := 0) dJ14_checkIndex_4 rfl rfl ?_
    refine aw_iload_n (pc := 5) (j := 1) dJ14_checkIndex_5 rfl rfl ?_
    refine aw_icmp_lt (pc := 6) (tgt := 16) dJ14_checkIndex_6 (by decide) (fun z => ?_) (fun z => ?_)
    · replace h := h.1 z
      refine aw_iload_n (pc := 16) (j := 0) dJ14_checkIndex_16 rfl rfl ?_
      exact aw_iret (pc := 17) dJ14_checkIndex_17 rfl rfl h
    · replace h := h.2 z
      exact w_J14_checkIndex_9 h
theorem zm_J14_checkIndex {G : ZG} {d : Nat} {Q : Option Value → ZS → Prop} {X : String → Nat → ZS → Prop}  {a0 : Int32} {a1 : Int32} {a2 : Option Nat} {σ : ZS} (h : f_J14_checkIndex G d Q X a0 a1 a2 σ) : ZM G yJ14_checkIndex d 0 0 [.int a0, .int a1, va_rf a2] σ Q X :=
  zm_of (own := RJ14) (code := cJ14_checkIndex) (maxL := 3) (ret := (some .int)) (ini := false) (lo := [(0, .int a0), (1, .int a1), (2, va_rf a2)]) (by decide) rfl (fun _ => by contradiction) q1025 q290 (by decide) (show (lg_sl [.int a0, .int a1, va_rf a2]).length ≤ 3 from by simp [lg_sl, cat_rf, cat_i, cat_l, cat_f, cat_d]) (by simp [lv_args, cat_rf, cat_i, cat_l, cat_f, cat_d]) (w_J14_checkIndex (kc := 0) (ks := 0) h)
theorem w_J17_floor {G : ZG} {d : Nat} {Q : Option Value → ZS → Prop} {X : String → Nat → ZS → Prop} {kc ks : Nat} {a0 : UInt64} {σ : ZS} (h : f_J17_floor G d Q X a0 σ) : AW G (kJ17_floor d) Q X kc ks 0 [(0, .double a0)] [] σ := by
  refine aw_dload_n (pc := 0) (j := 0) dJ17_floor_0 rfl rfl ?_
  refine aw_ldc2d (pc := 1) (v := (13830554455654793216 : UInt64)) dJ17_floor_1 q1847 ?_
  refine aw_dconst0 (pc := 4) dJ17_floor_4 ?_
  refine aw_ldc2d (pc := 5) (v := (13830554455654793216 : UInt64)) dJ17_floor_5 q1847 ?_
  refine aw_cs0D (pc := 8) (As := [.double a0, .double (13830554455654793216 : UInt64), .double FP.dconst0, .double (13830554455654793216 : UInt64)]) (st := []) dJ17_floor_8 q1848 q1849 q293 q1850 yh_J17_floorOrCeil yl_J17_floorOrCeil rfl (Nat.le_of_ble_eq_true rfl) h (fun v1 σ2 h => ?_) (fun E5 q6 σ7 h => ax_out rfl h)
  exact aw_dret (pc := 11) dJ17_floor_11 rfl h
theorem zm_J17_floor {G : ZG} {d : Nat} {Q : Option Value → ZS → Prop} {X : String → Nat → ZS → Prop}  {a0 : UInt64} {σ : ZS} (h : f_J17_floor G d Q X a0 σ) : ZM G yJ17_floor d 0 0 [.double a0] σ Q X :=
  zm_of (own := RJ17) (code := cJ17_floor) (maxL := 2) (ret := (some .double)) (ini := false) (lo := [(0, .double a0)]) (by decide) rfl (fun _ => by contradiction) q1846 q293 (by decide) (show (lg_sl [.double a0]).length ≤ 2 from by simp [lg_sl, cat_rf, cat_i, cat_l, cat_f, cat_d]) (by simp [lv_args, cat_rf, cat_i, cat_l, cat_f, cat_d]) (w_J17_floor (kc := 0) (ks := 0) h)
theorem w_J17_floorOrCeil_125 {G : ZG} {d : Nat} {Q : Option Value → ZS → Prop} {X : String → Nat → ZS → Prop} {kc ks : Nat} {a13 : UInt64} {σ : ZS} (h : f_J17_floorOrCeil_125 G d Q X a13 σ) : AW G (kJ17_floorOrCeil d) Q X kc ks 125 [(13, .double a13)] [] σ := by
  refine aw_dload (pc := 125) (j := 0) dJ17_floorOrCeil_125 rfl ?_
  exact aw_dret (pc := 127) dJ17_floorOrCeil_127 rfl h
theorem w_J17_floorOrCeil_33 {G : ZG} {d : Nat} {Q : Option Value → ZS → Prop} {X : String → Nat → ZS → Prop} {kc ks : Nat} {w0 : UInt64} {σ : ZS} (h : f_J17_floorOrCeil_33 G d Q X w0 σ) : AW G (kJ17_floorOrCeil d) Q X kc ks 33 [] [.double w0] σ := by
  exact aw_dret (pc := 33) dJ17_floorOrCeil_33 rfl h
theorem w_J17_floorOrCeil {G : ZG} {d : Nat} {Q : Option Value → ZS → Prop} {X : String → Nat → ZS → Prop} {kc ks : Nat} {a0 : UInt64} {a2 : UInt64} {a4 : UInt64} {a6 : UInt64} {σ : ZS} (h : f_J17_floorOrCeil G d Q X a0 a2 a4 a6 σ) : AW G (kJ17_floorOrCeil d) Q X kc ks 0 [(0, .double a0), (2, .double a2), (4, .double a4), (6, .double a6)] [] σ := by
  refine aw_dload_n (pc := 0) (j := 0) dJ17_floorOrCeil_0 rfl rfl ?_
  refine aw_cs0I (pc := 1) (As := [.double a0]) (st := []) dJ17_floorOrCeil_1 q1851 q1852 q281 q1853 yh_J10_getExponent_2 yl_J10_getExponent_2 rfl (Nat.le_of_ble_eq_true rfl) h (fun v1 σ2 h => ?_) (fun E5 q6 σ7 h => ax_out rfl h)
  refine aw_istore (pc := 4) (i := 8) (lo2 := [(8, .int v1), (0, .double a0), (2, .double a2), (4, .double a4), (6, .double a6)]) dJ17_floorOrCeil_4 (Nat.le_of_ble_eq_true rfl) (by simp [cat_rf, cat_i, cat_l, cat_f, cat_d]) ?_
  refine aw_iload (pc := 6) (j := 0) dJ17_floorOrCeil_6 rfl ?_
  refine aw_if_ge (pc := 8) (tgt := 34) dJ17_floorOrCeil_8 (by decide) (fun z => ?_) (fun z => ?_)
  · replace h := h.1 z
    refine aw_iload (pc := 34) (j := 0) dJ17_floorOrCeil_34 rfl ?_
    refine aw_bipush (pc := 36) (v := (52 : Int32)) dJ17_floorOrCeil_36 rfl ?_
    refine aw_icmp_lt (pc := 38) (tgt := 43) dJ17_floorOrCeil_38 (by decide) (fun z => ?_) (fun z => ?_)
    · replace h := h.1 z
      refine aw_gets (pc := 43) (q := ("java/lang/StrictMath", "$assertionsDisabled", "Z", .int (1))) dJ17_floorOrCeil_43 (by simp [zSt]) q1854 ?_
      refine aw_if_ne (pc := 46) (tgt := 69) dJ17_floorOrCeil_46 (by decide) (fun z => ?_) (fun z => ?_)
      · refine aw_dload_n (pc := 69) (j := 1) dJ17_floorOrCeil_69 rfl rfl ?_
        refine aw_d2raw (pc := 70) dJ17_floorOrCeil_70 q1856 q979 q978 q280 (Nat.le_of_ble_eq_true rfl) ?_
        refine aw_lstore (pc := 73) (i := 9) (lo2 := [(9, .long a0.toInt64), (8, .int v1), (0, .double a0), (2, .double a2), (4, .double a4), (6, .double a6)]) dJ17_floorOrCeil_73 (Nat.le_of_ble_eq_true rfl) (by simp [cat_rf, cat_i, cat_l, cat_f, cat_d]) ?_
        refine aw_ldc2 (pc := 75) (v := (4503599627370495 : Int64)) dJ17_floorOrCeil_75 q1857 ?_
        refine aw_iload (pc := 78) (j := 1) dJ17_floorOrCeil_78 rfl ?_
        refine aw_lshr (pc := 80) dJ17_floorOrCeil_80 ?_
        refine aw_nmL (fun y10 hy10 => ?_)
        replace h := h y10 hy10
        refine aw_lstore (pc := 81) (i := 11) (lo2 := [(11, .long y10), (9, .long a0.toInt64), (8, .int v1), (0, .double a0), (2, .double a2), (4, .double a4), (6, .double a6)]) dJ17_floorOrCeil_81 (Nat.le_of_ble_eq_true rfl) (by simp [cat_rf, cat_i, cat_l, cat_f, cat_d]) ?_
        refine aw_lload (pc := 83) (j := 0) dJ17_floorOrCeil_83 rfl ?_
        refine aw_lload (pc := 85) (j := 1) dJ17_floorOrCeil_85 rfl ?_
        refine aw_land (pc := 87) dJ17_floorOrCeil_87 ?_
        refine aw_lconst (pc := 88) (v := (0 : Int64)) dJ17_floorOrCeil_88 rfl ?_
        refine aw_lcmp (pc := 89) dJ17_floorOrCeil_89 ?_
        refine aw_if_ne (pc := 90) (tgt := 95) dJ17_floorOrCeil_90 (by decide) (fun z => ?_) (fun z => ?_)
        · replace h := h.2 z
          refine aw_lload (pc := 95) (j := 1) dJ17_floorOrCeil_95 rfl ?_
          refine aw_lload (pc := 97) (j := 0) dJ17_floorOrCeil_97 rfl ?_
          refine aw_ldc2 (pc := 99) (v := (-1 : Int64)) dJ17_floorOrCeil_99 q1858 ?_
          refine aw_lxor (pc := 102) dJ17_floorOrCeil_102 ?_
          refine aw_land (pc := 103) dJ17_floorOrCeil_103 ?_
          refine aw_raw2d (pc := 104) dJ17_floorOrCeil_104 q1859 q775 q774 q280 h.1 (Nat.le_of_ble_eq_true rfl) ?_
          replace h := h.2
          refine aw_nmD (fun y11 hy11 => ?_)
          replace h := h y11 hy11
          refine aw_dstore (pc := 107) (i := 13) (lo2 := [(13, .double y11), (11, .long y10), (9, .long a0.toInt64), (8, .int v1), (0, .double a0), (2, .double a2), (4, .double a4), (6, .double a6)]) dJ17_floorOrCeil_107 (Nat.le_of_ble_eq_true rfl) (by simp [cat_rf, cat_i, cat_l, cat_f, cat_d]) ?_
          refine aw_dload (pc := 109) (j := 7) dJ17_floorOrCeil_109 rfl ?_
          refine aw_dload_n (pc := 111) (j := 4) dJ17_floorOrCeil_111 rfl rfl ?_
          refine aw_dmul (pc := 112) dJ17_floorOrCeil_112 h.1 ?_
          replace h := h.2
          refine aw_dconst0 (pc := 113) dJ17_floorOrCeil_113 ?_
          refine aw_dcmp (pc := 114) dJ17_floorOrCeil_114 ?_
          refine aw_if_le (pc := 115) (tgt := 125) dJ17_floorOrCeil_115 (by decide) (fun z => ?_) (fun z => ?_)
          · replace h := h.1 z
            exact aw_sub [0] rfl (w_J17_floorOrCeil_125 h)
          · replace h := h.2 z
            refine aw_dload (pc := 118) (j := 0) dJ17_floorOrCeil_118 rfl ?_
            refine aw_dload (pc := 120) (j := 7) dJ17_floorOrCeil_120 rfl ?_
            refine aw_dadd (pc := 122) dJ17_floorOrCeil_122 h.1 ?_
            replace h := h.2
            refine aw_nmD (fun y12 hy12 => ?_)
            replace h := h y12 hy12
            refine aw_dstore (pc := 123) (i := 13) (lo2 := [(13, .double y12), (11, .long y10), (9, .long a0.toInt64), (8, .int v1), (0, .double a0), (2, .double a2), (4, .double a4), (6, .double a6)]) dJ17_floorOrCeil_123 (Nat.le_of_ble_eq_true rfl) (by simp [cat_rf, cat_i, cat_l, cat_f, cat_d]) ?_
            exact aw_sub [0] rfl (w_J17_floorOrCeil_125 h)
        · replace h := h.1 z
          refine aw_dload_n (pc := 93) (j := 3) dJ17_floorOrCeil_93 rfl rfl ?_
          exact aw_dret (pc := 94) dJ17_floorOrCeil_94 rfl h
      · exact absurd z (by decide)
    · replace h := h.2 z
      refine aw_dload_n (pc := 41) (j := 1) dJ17_floorOrCeil_41 rfl rfl ?_
      exact aw_dret (pc := 42) dJ17_floorOrCeil_42 rfl h
  · replace h := h.2 z
    refine aw_dload_n (pc := 11) (j := 1) dJ17_floorOrCeil_11 rfl rfl ?_
    refine aw_dconst0 (pc := 12) dJ17_floorOrCeil_12 ?_
    refine aw_dcmp (pc := 13) dJ17_floorOrCeil_13 ?_
    refine aw_if_ne (pc := 14) (tgt := 21) dJ17_floorOrCeil_14 (by decide) (fun z => ?_) (fun z => ?_)
    · replace h := h.2 z
      refine aw_dload_n (pc := 21) (j := 1) dJ17_floorOrCeil_21 rfl rfl ?_
      refine aw_dconst0 (pc := 22) dJ17_floorOrCeil_22 ?_
      refine aw_dcmp (pc := 23) dJ17_floorOrCeil_23 ?_
      refine aw_if_ge (pc := 24) (tgt := 31) dJ17_floorOrCeil_24 (by decide) (fun z => ?_) (fun z => ?_)
      · replace h := h.1 z
        refine aw_dload (pc := 31) (j := 3) dJ17_floorOrCeil_31 rfl ?_
        exact aw_sub [] rfl (w_J17_floorOrCeil_33 h)
      · replace h := h.2 z
        refine aw_dload_n (pc := 27) (j := 2) dJ17_floorOrCeil_27 rfl rfl ?_
        refine aw_goto (pc := 28) (tgt := 33) dJ17_floorOrCeil_28 (by decide) ?_
        exact aw_sub [] rfl (w_J17_floorOrCeil_33 h)
    · replace h := h.1 z
      refine aw_dload_n (pc := 17) (j := 1) dJ17_floorOrCeil_17 rfl rfl ?_
      refine aw_goto (pc := 18) (tgt := 33) dJ17_floorOrCeil_18 (by decide) ?_
      exact aw_sub [] rfl (w_J17_floorOrCeil_33 h)
theorem zm_J17_floorOrCeil {G : ZG} {d : Nat} {Q : Option Value → ZS → Prop} {X : String → Nat → ZS → Prop}  {a0 : UInt64} {a2 : UInt64} {a4 : UInt64} {a6 : UInt64} {σ : ZS} (h : f_J17_floorOrCeil G d Q X a0 a2 a4 a6 σ) : ZM G yJ17_floorOrCeil d 0 0 [.double a0, .double a2, .double a4, .double a6] σ Q X :=
  zm_of (own := RJ17) (code := cJ17_floorOrCeil) (maxL := 15) (ret := (some .double)) (ini := false) (lo := [(0, .double a0), (2, .double a2), (4, .double a4), (6, .double a6)]) (by decide) rfl (fun _ => by contradiction) q1850 q293 (by decide) (show (lg_sl [.double a0, .double a2, .double a4, .double a6]).length ≤ 15 from by simp [lg_sl, cat_rf, cat_i, cat_l, cat_f, cat_d]) (by simp [lv_args, cat_rf, cat_i, cat_l, cat_f, cat_d]) (w_J17_floorOrCeil (kc := 0) (ks := 0) h)
theorem w_J17_ceil {G : ZG} {d : Nat} {Q : Option Value → ZS → Prop} {X : String → Nat → ZS → Prop} {kc ks : Nat} {a0 : UInt64} {σ : ZS} (h : f_J17_ceil G d Q X a0 σ) : AW G (kJ17_ceil d) Q X kc ks 0 [(0, .double a0)] [] σ := by
  refine aw_dload_n (pc := 0) (j := 0) dJ17_ceil_0 rfl rfl ?_
  refine aw_ldc2d (pc := 1) (v := (9223372036854775808 : UInt64)) dJ17_ceil_1 q1866 ?_
  refine aw_dconst1 (pc := 4) dJ17_ceil_4 ?_
  refine aw_dconst1 (pc := 5) dJ17_ceil_5 ?_
  refine aw_cs0D (pc := 6) (As := [.double a0, .double (9223372036854775808 : UInt64), .double FP.dconst1, .double FP.dconst1]) (st := []) dJ17_ceil_6 q1848 q1849 q293 q1850 yh_J17_floorOrCeil yl_J17_floorOrCeil rfl (Nat.le_of_ble_eq_true rfl) h (fun v1 σ2 h => ?_) (fun E5 q6 σ7 h => ax_out rfl h)
  exact aw_dret (pc := 9) dJ17_ceil_9 rfl h
theorem zm_J17_ceil {G : ZG} {d : Nat} {Q : Option Value → ZS → Prop} {X : String → Nat → ZS → Prop}  {a0 : UInt64} {σ : ZS} (h : f_J17_ceil G d Q X a0 σ) : ZM G yJ17_ceil d 0 0 [.double a0] σ Q X :=
  zm_of (own := RJ17) (code := cJ17_ceil) (maxL := 2) (ret := (some .double)) (ini := false) (lo := [(0, .double a0)]) (by decide) rfl (fun _ => by contradiction) q1865 q293 (by decide) (show (lg_sl [.double a0]).length ≤ 2 from by simp [lg_sl, cat_rf, cat_i, cat_l, cat_f, cat_d]) (by simp [lv_args, cat_rf, cat_i, cat_l, cat_f, cat_d]) (w_J17_ceil (kc := 0) (ks := 0) h)
theorem w_J17_rint_28 {G : ZG} {d : Nat} {Q : Option Value → ZS → Prop} {X : String → Nat → ZS → Prop} {kc ks : Nat} {a0 : UInt64} {a4 : UInt64} {σ : ZS} (h : f_J17_rint_28 G d Q X a0 a4 σ) : AW G (kJ17_rint d) Q X kc ks 28 [(0, .double a0), (4, .double a4)] [] σ := by
  refine aw_dload (pc := 28) (j := 1) dJ17_rint_28 rfl ?_
  refine aw_dload_n (pc := 30) (j := 0) dJ17_rint_30 rfl rfl ?_
  refine aw_dmul (pc := 31) dJ17_rint_31 h.1 ?_
  replace h := h.2
  exact aw_dret (pc := 32) dJ17_rint_32 rfl h
theorem w_J17_rint {G : ZG} {d : Nat} {Q : Option Value → ZS → Prop} {X : String → Nat → ZS → Prop} {kc ks : Nat} {a0 : UInt64} {σ : ZS} (h : f_J17_rint G d Q X a0 σ) : AW G (kJ17_rint d) Q X kc ks 0 [(0, .double a0)] [] σ := by
  refine aw_ldc2d (pc := 0) (v := (4841369599423283200 : UInt64)) dJ17_rint_0 q1873 ?_
  refine aw_dstore_n (pc := 3) (i := 2) (lo2 := [(2, .double (4841369599423283200 : UInt64)), (0, .double a0)]) dJ17_rint_3 rfl (Nat.le_of_ble_eq_true rfl) (by simp [cat_rf, cat_i, cat_l, cat_f, cat_d]) ?_
  refine aw_dconst1 (pc := 4) dJ17_rint_4 ?_
  refine aw_dload_n (pc := 5) (j := 1) dJ17_rint_5 rfl rfl ?_
  refine aw_cs0D (pc := 6) (As := [.double FP.dconst1, .double a0]) (st := []) dJ17_rint_6 q1874 q1733 q281 q1734 yh_J10_copySign_2 yl_J10_copySign_2 rfl (Nat.le_of_ble_eq_true rfl) h (fun v1 σ2 h => ?_) (fun E5 q6 σ7 h => ax_out rfl h)
  refine aw_dstore (pc := 9) (i := 4) (lo2 := [(4, .double v1), (2, .double (4841369599423283200 : UInt64)), (0, .double a0)]) dJ17_rint_9 (Nat.le_of_ble_eq_true rfl) (by simp [cat_rf, cat_i, cat_l, cat_f, cat_d]) ?_
  refine aw_dload_n (pc := 11) (j := 2) dJ17_rint_11 rfl rfl ?_
  refine aw_cs0D (pc := 12) (As := [.double a0]) (st := []) dJ17_rint_12 q1875 q1790 q281 q1791 yh_J10_abs_4 yl_J10_abs_4 rfl (Nat.le_of_ble_eq_true rfl) h (fun v10 σ11 h => ?_) (fun E14 q15 σ16 h => ax_out rfl h)
  refine aw_dstore_n (pc := 15) (i := 0) (lo2 := [(0, .double v10), (4, .double v1), (2, .double (4841369599423283200 : UInt64))]) dJ17_rint_15 rfl (Nat.le_of_ble_eq_true rfl) (by simp [cat_rf, cat_i, cat_l, cat_f, cat_d]) ?_
  refine aw_dload_n (pc := 16) (j := 0) dJ17_rint_16 rfl rfl ?_
  refine aw_dload_n (pc := 17) (j := 2) dJ17_rint_17 rfl rfl ?_
  refine aw_dcmp (pc := 18) dJ17_rint_18 ?_
  refine aw_if_ge (pc := 19) (tgt := 28) dJ17_rint_19 (by decide) (fun z => ?_) (fun z => ?_)
  · replace h := h.1 z
    exact aw_sub [0, 1] rfl (w_J17_rint_28 h)
  · replace h := h.2 z
    refine aw_dload_n (pc := 22) (j := 2) dJ17_rint_22 rfl rfl ?_
    refine aw_dload_n (pc := 23) (j := 0) dJ17_rint_23 rfl rfl ?_
    refine aw_dadd (pc := 24) dJ17_rint_24 h.1 ?_
    replace h := h.2
    refine aw_dload_n (pc := 25) (j := 2) dJ17_rint_25 rfl rfl ?_
    refine aw_dsub (pc := 26) dJ17_rint_26 h.1 ?_
    replace h := h.2
    refine aw_nmD (fun y19 hy19 => ?_)
    replace h := h y19 hy19
    refine aw_dstore_n (pc := 27) (i := 0) (lo2 := [(0, .double y19), (4, .double v1), (2, .double (4841369599423283200 : UInt64))]) dJ17_rint_27 rfl (Nat.le_of_ble_eq_true rfl) (by simp [cat_rf, cat_i, cat_l, cat_f, cat_d]) ?_
    exact aw_sub [0, 1] rfl (w_J17_rint_28 h)
theorem zm_J17_rint {G : ZG} {d : Nat} {Q : Option Value → ZS → Prop} {X : String → Nat → ZS → Prop}  {a0 : UInt64} {σ : ZS} (h : f_J17_rint G d Q X a0 σ) : ZM G yJ17_rint d 0 0 [.double a0] σ Q X :=
  zm_of (own := RJ17) (code := cJ17_rint) (maxL := 6) (ret := (some .double)) (ini := false) (lo := [(0, .double a0)]) (by decide) rfl (fun _ => by contradiction) q1872 q293 (by decide) (show (lg_sl [.double a0]).length ≤ 6 from by simp [lg_sl, cat_rf, cat_i, cat_l, cat_f, cat_d]) (by simp [lv_args, cat_rf, cat_i, cat_l, cat_f, cat_d]) (w_J17_rint (kc := 0) (ks := 0) h)
theorem w_J4_length {G : ZG} {d : Nat} {Q : Option Value → ZS → Prop} {X : String → Nat → ZS → Prop} {kc ks : Nat} {a0 : Option Nat} {σ : ZS} (h : f_J4_length G d Q X a0 σ) : AW G (kJ4_length d) Q X kc ks 0 [(0, va_rf a0)] [] σ := by
  refine aw_aload_n (pc := 0) (j := 0) dJ4_length_0 rfl rfl ?_
  refine aw_sgV (pc := 1) dJ4_length_1 q3085 h (fun v1 h => ?_)
  refine aw_sln (pc := 4) dJ4_length_4 h (fun v2 h => ?_)
  refine aw_aload_n (pc := 5) (j := 0) dJ4_length_5 rfl rfl ?_
  refine aw_sv0I (pc := 6) (As := []) (st := [.int v2]) dJ4_length_6 q1001 q1002 q1003 q1004 yh_J4_coder yl_J4_coder rfl (Nat.le_of_ble_eq_true rfl) h (fun v3 σ4 h => ?_) (fun E7 q8 σ9 h => ax_out rfl h)
  refine aw_ishr (pc := 9) dJ4_length_9 ?_
  exact aw_iret (pc := 10) dJ4_length_10 rfl rfl h
theorem zm_J4_length {G : ZG} {d : Nat} {Q : Option Value → ZS → Prop} {X : String → Nat → ZS → Prop}  {a0 : Option Nat} {σ : ZS} (h : f_J4_length G d Q X a0 σ) : ZM G yJ4_length d 0 0 [va_rf a0] σ Q X :=
  zm_of (own := RJ4) (code := cJ4_length) (maxL := 1) (ret := (some .int)) (ini := false) (lo := [(0, va_rf a0)]) (by decide) rfl (fun _ => by contradiction) q1000 q273 (by decide) (show (lg_sl [va_rf a0]).length ≤ 1 from by simp [lg_sl, cat_rf, cat_i, cat_l, cat_f, cat_d]) (by simp [lv_args, cat_rf, cat_i, cat_l, cat_f, cat_d]) (w_J4_length (kc := 0) (ks := 0) h)
theorem w_J4_coder_14 {G : ZG} {d : Nat} {Q : Option Value → ZS → Prop} {X : String → Nat → ZS → Prop} {kc ks : Nat} {w0 : Int32} {σ : ZS} (h : f_J4_coder_14 G d Q X w0 σ) : AW G (kJ4_coder d) Q X kc ks 14 [] [.int w0] σ := by
  exact aw_iret (pc := 14) dJ4_coder_14 rfl h.1 h.2
theorem w_J4_coder {G : ZG} {d : Nat} {Q : Option Value → ZS → Prop} {X : String → Nat → ZS → Prop} {kc ks : Nat} {a0 : Option Nat} {σ : ZS} (h : f_J4_coder G d Q X a0 σ) : AW G (kJ4_coder d) Q X kc ks 0 [(0, va_rf a0)] [] σ := by
  refine aw_gets (pc := 0) (q := ("java/lang/String", "COMPACT_STRINGS", "Z", .int (1))) dJ4_coder_0 (by simp [zSt]) q1005 ?_
  refine aw_if_eq (pc := 3) (tgt := 13) dJ4_coder_3 (by decide) (fun z => ?_) (fun z => ?_)
  · exact absurd z (by decide)
  · refine aw_aload_n (pc := 6) (j := 0) dJ4_coder_6 rfl rfl ?_
    refine aw_sgC (pc := 7) dJ4_coder_7 q3086 h.1 ?_
    replace h := h.2
    refine aw_goto (pc := 10) (tgt := 14) dJ4_coder_10 (by decide) ?_
    exact aw_sub [] rfl (w_J4_coder_14 h)
theorem zm_J4_coder {G : ZG} {d : Nat} {Q : Option Value → ZS → Prop} {X : String → Nat → ZS → Prop}  {a0 : Option Nat} {σ : ZS} (h : f_J4_coder G d Q X a0 σ) : ZM G yJ4_coder d 0 0 [va_rf a0] σ Q X :=
  zm_of (own := RJ4) (code := cJ4_coder) (maxL := 1) (ret := (some .byte)) (ini := false) (lo := [(0, va_rf a0)]) (by decide) rfl (fun _ => by contradiction) q1004 q273 (by decide) (show (lg_sl [va_rf a0]).length ≤ 1 from by simp [lg_sl, cat_rf, cat_i, cat_l, cat_f, cat_d]) (by simp [lv_args, cat_rf, cat_i, cat_l, cat_f, cat_d]) (w_J4_coder (kc := 0) (ks := 0) h)
theorem w_J4_charAt {G : ZG} {d : Nat} {Q : Option Value → ZS → Prop} {X : String → Nat → ZS → Prop} {kc ks : Nat} {a0 : Option Nat} {a1 : Int32} {σ : ZS} (h : f_J4_charAt G d Q X a0 a1 σ) : AW G (kJ4_charAt d) Q X kc ks 0 [(0, va_rf a0), (1, .int a1)] [] σ := by
  refine aw_aload_n (pc := 0) (j := 0) dJ4_charAt_0 rfl rfl ?_
  refine aw_sv0I (pc := 1) (As := []) (st := []) dJ4_charAt_1 q1011 q1012 q1013 q1014 yh_J4_isLatin1 yl_J4_isLatin1 rfl (Nat.le_of_ble_eq_true rfl) h (fun v1 σ2 h => ?_) (fun E5 q6 σ7 h => ax_out rfl h)
  refine aw_if_eq (pc := 4) (tgt := 16) dJ4_charAt_4 (by decide) (fun z => ?_) (fun z => ?_)
  · replace h := h.1 z
    refine aw_aload_n (pc := 16) (j := 0) dJ4_charAt_16 rfl rfl ?_
    refine aw_sgV (pc := 17) dJ4_charAt_17 q3085 h (fun v10 h => ?_)
    refine aw_iload_n (pc := 20) (j := 1) dJ4_charAt_20 rfl rfl ?_
    refine aw_cs0I (pc := 21) (As := [va_rf v10, .int a1]) (st := []) dJ4_charAt_21 q1026 q1027 q291 q1028 yh_J15_charAt yl_J15_charAt rfl (Nat.le_of_ble_eq_true rfl) h (fun v11 σ12 h => ?_) (fun E15 q16 σ17 h => ax_out rfl h)
    exact aw_iret (pc := 24) dJ4_charAt_24 rfl h.1 h.2
  · replace h := h.2 z
    refine aw_aload_n (pc := 7) (j := 0) dJ4_charAt_7 rfl rfl ?_
    refine aw_sgV (pc := 8) dJ4_charAt_8 q3085 h (fun v20 h => ?_)
    refine aw_iload_n (pc := 11) (j := 1) dJ4_charAt_11 rfl rfl ?_
    refine aw_cs0I (pc := 12) (As := [va_rf v20, .int a1]) (st := []) dJ4_charAt_12 q1015 q1016 q289 q1017 yh_J13_charAt yl_J13_charAt rfl (Nat.le_of_ble_eq_true rfl) h (fun v21 σ22 h => ?_) (fun E25 q26 σ27 h => ax_out rfl h)
    exact aw_iret (pc := 15) dJ4_charAt_15 rfl h.1 h.2
theorem zm_J4_charAt {G : ZG} {d : Nat} {Q : Option Value → ZS → Prop} {X : String → Nat → ZS → Prop}  {a0 : Option Nat} {a1 : Int32} {σ : ZS} (h : f_J4_charAt G d Q X a0 a1 σ) : ZM G yJ4_charAt d 0 0 [va_rf a0, .int a1] σ Q X :=
  zm_of (own := RJ4) (code := cJ4_charAt) (maxL := 2) (ret := (some .char)) (ini := false) (lo := [(0, va_rf a0), (1, .int a1)]) (by decide) rfl (fun _ => by contradiction) q1010 q273 (by decide) (show (lg_sl [va_rf a0, .int a1]).length ≤ 2 from by simp [lg_sl, cat_rf, cat_i, cat_l, cat_f, cat_d]) (by simp [lv_args, cat_rf, cat_i, cat_l, cat_f, cat_d]) (w_J4_charAt (kc := 0) (ks := 0) h)
theorem w_J4_isLatin1_18 {G : ZG} {d : Nat} {Q : Option Value → ZS → Prop} {X : String → Nat → ZS → Prop} {kc ks : Nat} {w0 : Int32} {σ : ZS} (h : f_J4_isLatin1_18 G d Q X w0 σ) : AW G (kJ4_isLatin1 d) Q X kc ks 18 [] [.int w0] σ := by
  exact aw_iret (pc := 18) dJ4_isLatin1_18 rfl (nar_b h.1) h.2
theorem w_J4_isLatin1_17 {G : ZG} {d : Nat} {Q : Option Value → ZS → Prop} {X : String → Nat → ZS → Prop} {kc ks : Nat} {σ : ZS} (h : f_J4_isLatin1_17 G d Q X σ) : AW G (kJ4_isLatin1 d) Q X kc ks 17 [] [] σ := by
  refine aw_iconst (pc := 17) (v := (0 : Int32)) dJ4_isLatin1_17 rfl ?_
  exact w_J4_isLatin1_18 h
theorem w_J4_isLatin1 {G : ZG} {d : Nat} {Q : Option Value → ZS → Prop} {X : String → Nat → ZS → Prop} {kc ks : Nat} {a0 : Option Nat} {σ : ZS} (h : f_J4_isLatin1 G d Q X a0 σ) : AW G (kJ4_isLatin1 d) Q X kc ks 0 [(0, va_rf a0)] [] σ := by
  refine aw_gets (pc := 0) (q := ("java/lang/String", "COMPACT_STRINGS", "Z", .int (1))) dJ4_isLatin1_0 (by simp [zSt]) q1005 ?_
  refine aw_if_eq (pc := 3) (tgt := 17) dJ4_isLatin1_3 (by decide) (fun z => ?_) (fun z => ?_)
  · exact absurd z (by decide)
  · refine aw_aload_n (pc := 6) (j := 0) dJ4_isLatin1_6 rfl rfl ?_
    refine aw_sgC (pc := 7) dJ4_isLatin1_7 q3086 h.1 ?_
    replace h := h.2
    refine aw_if_ne (pc := 10) (tgt := 17) dJ4_isLatin1_10 (by decide) (fun z => ?_) (fun z => ?_)
    · exact absurd z (by decide)
    · refine aw_iconst (pc := 13) (v := (1 : Int32)) dJ4_isLatin1_13 rfl ?_
      refine aw_goto (pc := 14) (tgt := 18) dJ4_isLatin1_14 (by decide) ?_
      exact aw_sub [] rfl (w_J4_isLatin1_18 h)
theorem zm_J4_isLatin1 {G : ZG} {d : Nat} {Q : Option Value → ZS → Prop} {X : String → Nat → ZS → Prop}  {a0 : Option Nat} {σ : ZS} (h : f_J4_isLatin1 G d Q X a0 σ) : ZM G yJ4_isLatin1 d 0 0 [va_rf a0] σ Q X :=
  zm_of (own := RJ4) (code := cJ4_isLatin1) (maxL := 1) (ret := (some .boolean)) (ini := false) (lo := [(0, va_rf a0)]) (by decide) rfl (fun _ => by contradiction) q1014 q273 (by decide) (show (lg_sl [va_rf a0]).length ≤ 1 from by simp [lg_sl, cat_rf, cat_i, cat_l, cat_f, cat_d]) (by simp [lv_args, cat_rf, cat_i, cat_l, cat_f, cat_d]) (w_J4_isLatin1 (kc := 0) (ks := 0) h)
theorem w_J4_checkIndex {G : ZG} {d : Nat} {Q : Option Value → ZS → Prop} {X : String → Nat → ZS → Prop} {kc ks : Nat} {a0 : Int32} {a1 : Int32} {σ : ZS} (h : f_J4_checkIndex G d Q X a0 a1 σ) : AW G (kJ4_checkIndex d) Q X kc ks 0 [(0, .int a0), (1, .int a1)] [] σ := by
  refine aw_iload_n (pc := 0) (j := 0) dJ4_checkIndex_0 rfl rfl ?_
  refine aw_iload_n (pc := 1) (j := 1) dJ4_checkIndex_1 rfl rfl ?_
  refine aw_getsq (pc := 2) dJ4_checkIndex_2 q1021 (fun v1 => ?_)
  replace h := h v1
  refine aw_cs0I (pc := 5) (As := [.int a0, .int a1, va_rf v1]) (st := []) dJ4_checkIndex_5 q1023 q1024 q290 q1025 yh_J14_checkIndex yl_J14_checkIndex rfl (Nat.le_of_ble_eq_true rfl) h (fun v2 σ3 h => ?_) (fun E6 q7 σ8 h => ax_out rfl h)
  refine aw_pop (pc := 8) dJ4_checkIndex_8 rfl ?_
  exact aw_vret (pc := 9) dJ4_checkIndex_9 rfl h
theorem zm_J4_checkIndex {G : ZG} {d : Nat} {Q : Option Value → ZS → Prop} {X : String → Nat → ZS → Prop}  {a0 : Int32} {a1 : Int32} {σ : ZS} (h : f_J4_checkIndex G d Q X a0 a1 σ) : ZM G yJ4_checkIndex d 0 0 [.int a0, .int a1] σ Q X :=
  zm_of (own := RJ4) (code := cJ4_checkIndex) (maxL := 2) (ret := none) (ini := false) (lo := [(0, .int a0), (1, .int a1)]) (by decide) rfl (fun _ => by contradiction) q1020 q273 (by decide) (show (lg_sl [.int a0, .int a1]).length ≤ 2 from by simp [lg_sl, cat_rf, cat_i, cat_l, cat_f, cat_d]) (by simp [lv_args, cat_rf, cat_i, cat_l, cat_f, cat_d]) (w_J4_checkIndex (kc := 0) (ks := 0) h)
theorem w_J8_floatToIntBits {G : ZG} {d : Nat} {Q : Option Value → ZS → Prop} {X : String → Nat → ZS → Prop} {kc ks : Nat} {a0 : UInt32} {σ : ZS} (h : f_J8_floatToIntBits G d Q X a0 σ) : AW G (kJ8_floatToIntBits d) Q X kc ks 0 [(0, .float a0)] [] σ := by
  refine aw_fload_n (pc := 0) (j := 0) dJ8_floatToIntBits_0 rfl rfl ?_
  refine aw_cs0I (pc := 1) (As := [.float a0]) (st := []) dJ8_floatToIntBits_1 q964 q965 q279 q966 yh_J8_isNaN yl_J8_isNaN rfl (Nat.le_of_ble_eq_true rfl) h (fun v1 σ2 h => ?_) (fun E5 q6 σ7 h => ax_out rfl h)
  refine aw_if_ne (pc := 4) (tgt := 12) dJ8_floatToIntBits_4 (by decide) (fun z => ?_) (fun z => ?_)
  · replace h := h.2 z
    refine aw_ldc (pc := 12) (v := (2143289344 : Int32)) dJ8_floatToIntBits_12 q970 ?_
    exact aw_iret (pc := 14) dJ8_floatToIntBits_14 rfl rfl h
  · replace h := h.1 z
    refine aw_fload_n (pc := 7) (j := 0) dJ8_floatToIntBits_7 rfl rfl ?_
    refine aw_f2raw (pc := 8) dJ8_floatToIntBits_8 q967 q969 q968 q279 (Nat.le_of_ble_eq_true rfl) ?_
    exact aw_iret (pc := 11) dJ8_floatToIntBits_11 rfl rfl h
theorem pf_J8_floatToIntBits : plainFor yJ8_floatToIntBits = true := by decide +kernel
theorem zm_J8_floatToIntBits {G : ZG} {d : Nat} {Q : Option Value → ZS → Prop} {X : String → Nat → ZS → Prop}  {a0 : UInt32} {σ : ZS} (h : f_J8_floatToIntBits G d Q X a0 σ) : ZM G yJ8_floatToIntBits d 0 0 [.float a0] σ Q X :=
  zm_ofF (own := RJ8) (code := cJ8_floatToIntBits) (maxL := 1) (ret := (some .int)) (ini := false) (lo := [(0, .float a0)]) pf_J8_floatToIntBits rfl (fun _ => by contradiction) q963 q279 (by decide) (show (lg_sl [.float a0]).length ≤ 1 from by simp [lg_sl, cat_rf, cat_i, cat_l, cat_f, cat_d]) (by simp [lv_args, cat_rf, cat_i, cat_l, cat_f, cat_d]) (w_J8_floatToIntBits (kc := 0) (ks := 0) h)
theorem w_J8_isNaN_11 {G : ZG} {d : Nat} {Q : Option Value → ZS → Prop} {X : String → Nat → ZS → Prop} {kc ks : Nat} {w0 : Int32} {σ : ZS} (h : f_J8_isNaN_11 G d Q X w0 σ) : AW G (kJ8_isNaN d) Q X kc ks 11 [] [.int w0] σ := by
  exact aw_iret (pc := 11) dJ8_isNaN_11 rfl (nar_b h.1) h.2
theorem w_J8_isNaN {G : ZG} {d : Nat} {Q : Option Value → ZS → Prop} {X : String → Nat → ZS → Prop} {kc ks : Nat} {a0 : UInt32} {σ : ZS} (h : f_J8_isNaN G d Q X a0 σ) : AW G (kJ8_isNaN d) Q X kc ks 0 [(0, .float a0)] [] σ := by
  refine aw_fload_n (pc := 0) (j := 0) dJ8_isNaN_0 rfl rfl ?_
  refine aw_fload_n (pc := 1) (j := 0) dJ8_isNaN_1 rfl rfl ?_
  refine aw_fcmp (pc := 2) dJ8_isNaN_2 ?_
  refine aw_if_eq (pc := 3) (tgt := 10) dJ8_isNaN_3 (by decide) (fun z => ?_) (fun z => ?_)
  · replace h := h.1 z
    refine aw_iconst (pc := 10) (v := (0 : Int32)) dJ8_isNaN_10 rfl ?_
    exact aw_sub [] rfl (w_J8_isNaN_11 h)
  · replace h := h.2 z
    refine aw_iconst (pc := 6) (v := (1 : Int32)) dJ8_isNaN_6 rfl ?_
    refine aw_goto (pc := 7) (tgt := 11) dJ8_isNaN_7 (by decide) ?_
    exact aw_sub [] rfl (w_J8_isNaN_11 h)
theorem pf_J8_isNaN : plainFor yJ8_isNaN = true := by decide +kernel
theorem zm_J8_isNaN {G : ZG} {d : Nat} {Q : Option Value → ZS → Prop} {X : String → Nat → ZS → Prop}  {a0 : UInt32} {σ : ZS} (h : f_J8_isNaN G d Q X a0 σ) : ZM G yJ8_isNaN d 0 0 [.float a0] σ Q X :=
  zm_ofF (own := RJ8) (code := cJ8_isNaN) (maxL := 1) (ret := (some .boolean)) (ini := false) (lo := [(0, .float a0)]) pf_J8_isNaN rfl (fun _ => by contradiction) q966 q279 (by decide) (show (lg_sl [.float a0]).length ≤ 1 from by simp [lg_sl, cat_rf, cat_i, cat_l, cat_f, cat_d]) (by simp [lv_args, cat_rf, cat_i, cat_l, cat_f, cat_d]) (w_J8_isNaN (kc := 0) (ks := 0) h)
theorem w_J9_doubleToLongBits {G : ZG} {d : Nat} {Q : Option Value → ZS → Prop} {X : String → Nat → ZS → Prop} {kc ks : Nat} {a0 : UInt64} {σ : ZS} (h : f_J9_doubleToLongBits G d Q X a0 σ) : AW G (kJ9_doubleToLongBits d) Q X kc ks 0 [(0, .double a0)] [] σ := by
  refine aw_dload_n (pc := 0) (j := 0) dJ9_doubleToLongBits_0 rfl rfl ?_
  refine aw_cs0I (pc := 1) (As := [.double a0]) (st := []) dJ9_doubleToLongBits_1 q974 q975 q280 q976 yh_J9_isNaN yl_J9_isNaN rfl (Nat.le_of_ble_eq_true rfl) h (fun v1 σ2 h => ?_) (fun E5 q6 σ7 h => ax_out rfl h)
  refine aw_if_ne (pc := 4) (tgt := 12) dJ9_doubleToLongBits_4 (by decide) (fun z => ?_) (fun z => ?_)
  · replace h := h.2 z
    refine aw_ldc2 (pc := 12) (v := (9221120237041090560 : Int64)) dJ9_doubleToLongBits_12 q980 ?_
    exact aw_lret (pc := 15) dJ9_doubleToLongBits_15 rfl h
  · replace h := h.1 z
    refine aw_dload_n (pc := 7) (j := 0) dJ9_doubleToLongBits_7 rfl rfl ?_
    refine aw_d2raw (pc := 8) dJ9_doubleToLongBits_8 q977 q979 q978 q280 (Nat.le_of_ble_eq_true rfl) ?_
    exact aw_lret (pc := 11) dJ9_doubleToLongBits_11 rfl h
theorem zm_J9_doubleToLongBits {G : ZG} {d : Nat} {Q : Option Value → ZS → Prop} {X : String → Nat → ZS → Prop}  {a0 : UInt64} {σ : ZS} (h : f_J9_doubleToLongBits G d Q X a0 σ) : ZM G yJ9_doubleToLongBits d 0 0 [.double a0] σ Q X :=
  zm_of (own := RJ9) (code := cJ9_doubleToLongBits) (maxL := 2) (ret := (some .long)) (ini := false) (lo := [(0, .double a0)]) (by decide) rfl (fun _ => by contradiction) q973 q280 (by decide) (show (lg_sl [.double a0]).length ≤ 2 from by simp [lg_sl, cat_rf, cat_i, cat_l, cat_f, cat_d]) (by simp [lv_args, cat_rf, cat_i, cat_l, cat_f, cat_d]) (w_J9_doubleToLongBits (kc := 0) (ks := 0) h)
theorem w_J9_isNaN_11 {G : ZG} {d : Nat} {Q : Option Value → ZS → Prop} {X : String → Nat → ZS → Prop} {kc ks : Nat} {w0 : Int32} {σ : ZS} (h : f_J9_isNaN_11 G d Q X w0 σ) : AW G (kJ9_isNaN d) Q X kc ks 11 [] [.int w0] σ := by
  exact aw_iret (pc := 11) dJ9_isNaN_11 rfl (nar_b h.1) h.2
theorem w_J9_isNaN {G : ZG} {d : Nat} {Q : Option Value → ZS → Prop} {X : String → Nat → ZS → Prop} {kc ks : Nat} {a0 : UInt64} {σ : ZS} (h : f_J9_isNaN G d Q X a0 σ) : AW G (kJ9_isNaN d) Q X kc ks 0 [(0, .double a0)] [] σ := by
  refine aw_dload_n (pc := 0) (j := 0) dJ9_isNaN_0 rfl rfl ?_
  refine aw_dload_n (pc := 1) (j := 0) dJ9_isNaN_1 rfl rfl ?_
  refine aw_dcmp (pc := 2) dJ9_isNaN_2 ?_
  refine aw_if_eq (pc := 3) (tgt := 10) dJ9_isNaN_3 (by decide) (fun z => ?_) (fun z => ?_)
  · replace h := h.1 z
    refine aw_iconst (pc := 10) (v := (0 : Int32)) dJ9_isNaN_10 rfl ?_
    exact aw_sub [] rfl (w_J9_isNaN_11 h)
  · replace h := h.2 z
    refine aw_iconst (pc := 6) (v := (1 : Int32)) dJ9_isNaN_6 rfl ?_
    refine aw_goto (pc := 7) (tgt := 11) dJ9_isNaN_7 (by decide) ?_
    exact aw_sub [] rfl (w_J9_isNaN_11 h)
theorem zm_J9_isNaN {G : ZG} {d : Nat} {Q : Option Value → ZS → Prop} {X : String → Nat → ZS → Prop}  {a0 : UInt64} {σ : ZS} (h : f_J9_isNaN G d Q X a0 σ) : ZM G yJ9_isNaN d 0 0 [.double a0] σ Q X :=
  zm_of (own := RJ9) (code := cJ9_isNaN) (maxL := 2) (ret := (some .boolean)) (ini := false) (lo := [(0, .double a0)]) (by decide) rfl (fun _ => by contradiction) q976 q280 (by decide) (show (lg_sl [.double a0]).length ≤ 2 from by simp [lg_sl, cat_rf, cat_i, cat_l, cat_f, cat_d]) (by simp [lv_args, cat_rf, cat_i, cat_l, cat_f, cat_d]) (w_J9_isNaN (kc := 0) (ks := 0) h)
/-! methods of java/lang/Math that an entry of the machine runs (printed by gen/mkover.py) -/
theorem zo_n64 {a : UInt64} (h : vf_n64 a) : FP.dIsNaN a = false := by
  have h1 := (n64_v a).mp h
  show decide (FP.Core.decode FP.Core.b64 a.toNat = .nan) = false
  exact decide_eq_false h1
theorem zo_n32 {a : UInt32} (h : vf_n32 a) : FP.fIsNaN a = false := by
  have h1 := (n32_v a).mp h
  show decide (FP.Core.decode FP.Core.b32 a.toNat = .nan) = false
  exact decide_eq_false h1
theorem zo_run {m : Sem (Option Value)} {v : Option Value} {e : Env} {S : State} (hw : wpRun m (fun x s₂ _ => x = v ∧ s₂ = S) (fun _ _ _ => False) e S) : ∃ acts, m.run e S = .ok v S acts := by
  have hw' := (wpRun_iff_run _ _ _ _ _).mp hw
  cases hr : m.run e S with
  | ok v s₂ acts₂ => rw [hr] at hw'; obtain ⟨rfl, rfl⟩ := hw'; exact ⟨_, rfl⟩
  | ctl x s₂ acts₂ => rw [hr] at hw'; cases x <;> exact hw'.elim
theorem zo_runC {m : Sem (Option Value)} {m2 : MethodId} {as : Array Value} {e : Env} {S : State} (hw : wpRun m (fun _ _ _ => False) (fun x s₂ _ => x = .call m2 as 1 #[] ∧ s₂ = S) e S) : ∃ acts, m.run e S = .ctl (.call m2 as 1 #[]) S acts := by
  have hw' := (wpRun_iff_run _ _ _ _ _).mp hw
  cases hr : m.run e S with
  | ok v s₂ acts₂ => rw [hr] at hw'; exact hw'.elim
  | ctl x s₂ acts₂ => rw [hr] at hw'; cases x <;> first | exact hw'.elim | (obtain ⟨e1, e2⟩ := hw'; cases e1; subst e2; exact ⟨_, rfl⟩) | (obtain ⟨e1, e2⟩ := hw'; cases e1)
theorem zo_givF {a0 : UInt32} {maxL : Nat} (hL : maxL = 1) (j : Nat) : zo_given ([.float a0] : List Value).toArray maxL (1 + j) = ([.float a0] : List Value).toArray := by
  subst hL
  have e : zo_given ([.float a0] : List Value).toArray 1 (1 + j) = ([.float a0] : List Value).toArray.extract 0 (1 + j) := rfl
  rw [e]
  simp
  exact List.take_of_length_le (Nat.le_add_right _ _)
theorem zo_givD {a0 : UInt64} {maxL : Nat} (hL : maxL = 2) (j : Nat) : zo_given ([.double a0] : List Value).toArray maxL (1 + j) = ([.double a0] : List Value).toArray := by
  subst hL
  have e : zo_given ([.double a0] : List Value).toArray 2 (1 + j) = ([.double a0] : List Value).toArray.extract 0 (1 + j) := rfl
  rw [e]
  simp
  exact List.take_of_length_le (Nat.le_add_right _ _)
theorem zo_givFF {a0 : UInt32} {a1 : UInt32} {maxL : Nat} (hL : maxL = 2) (j : Nat) : zo_given ([.float a0, .float a1] : List Value).toArray maxL (2 + j) = ([.float a0, .float a1] : List Value).toArray := by
  subst hL
  have e : zo_given ([.float a0, .float a1] : List Value).toArray 2 (2 + j) = ([.float a0, .float a1] : List Value).toArray.extract 0 (2 + j) := rfl
  rw [e]
  simp
  exact List.take_of_length_le (Nat.le_add_right _ _)
theorem zo_givDD {a0 : UInt64} {a1 : UInt64} {maxL : Nat} (hL : maxL = 4) (j : Nat) : zo_given ([.double a0, .double a1] : List Value).toArray maxL (2 + j) = ([.double a0, .double a1] : List Value).toArray := by
  subst hL
  have e : zo_given ([.double a0, .double a1] : List Value).toArray 4 (2 + j) = ([.double a0, .double a1] : List Value).toArray.extract 0 (2 + j) := rfl
  rw [e]
  simp
  exact List.take_of_length_le (Nat.le_add_right _ _)
def zo_row_max_3 : NativeRow := (NativeRow.find? Jvm.Native.java_lang_Math.nans.rows "java/lang/Math" "max" "(FF)F").get (by decide +kernel)
set_option maxRecDepth 100000 in
theorem zo_row_max_3_is (p : Program) : NativeRow.find? p.tables.natives "java/lang/Math" "max" "(FF)F" = some zo_row_max_3 := by
  cases p <;> rfl
theorem zo_row_max_3_run {a0 : UInt32} {a1 : UInt32} (h0 : vf_n32 a0) (h1 : vf_n32 a1) (e : Env) (S : State) : ∃ acts, (zo_row_max_3.sem #[.float a0, .float a1]).run e S = .ok (some (.float (Jvm.Native.java_lang_Math.nans.pick32 true a0 a1))) S acts := by
  have hsem : zo_row_max_3.sem #[.float a0, .float a1] = (do
      let r ← if FP.fIsNaN a0 then anyNaN32 a0 else if FP.fIsNaN a1 then anyNaN32 a1 else Pure.pure (Jvm.Native.java_lang_Math.nans.pick32 true a0 a1)
      mark "nat.java_lang_Math.max/float"
      Pure.pure (some (.float r))) := rfl
  refine zo_run ?_
  rw [hsem]
  simp [jvm, wpRun, zo_n32 h0, zo_n32 h1]
theorem zm_J10_max_3 {G : ZG} {d : Nat} {Q : Option Value → ZS → Prop} {X : String → Nat → ZS → Prop} {a0 : UInt32} {a1 : UInt32} {σ : ZS} (h0 : vf_n32 a0) (h1 : vf_n32 a1) (h : Q (some (.float (Jvm.Native.java_lang_Math.nans.pick32 true a0 a1))) σ) : ZM G yJ10_max_3 d 0 0 [.float a0, .float a1] σ Q X :=
  zm_over (row := zo_row_max_3) (code := cJ10_max_3) (maxL := 2) (ret := (some .float)) (np := 2) zo_row_max_3_is (by decide) (by decide +kernel) (fun j => zo_givFF (by decide) j) q1701 (by decide) (zo_row_max_3_run h0 h1) h
def zo_row_min_3 : NativeRow := (NativeRow.find? Jvm.Native.java_lang_Math.nans.rows "java/lang/Math" "min" "(FF)F").get (by decide +kernel)
set_option maxRecDepth 100000 in
theorem zo_row_min_3_is (p : Program) : NativeRow.find? p.tables.natives "java/lang/Math" "min" "(FF)F" = some zo_row_min_3 := by
  cases p <;> rfl
theorem zo_row_min_3_run {a0 : UInt32} {a1 : UInt32} (h0 : vf_n32 a0) (h1 : vf_n32 a1) (e : Env) (S : State) : ∃ acts, (zo_row_min_3.sem #[.float a0, .float a1]).run e S = .ok (some (.float (Jvm.Native.java_lang_Math.nans.pick32 false a0 a1))) S acts := by
  have hsem : zo_row_min_3.sem #[.float a0, .float a1] = (do
      let r ← if FP.fIsNaN a0 then anyNaN32 a0 else if FP.fIsNaN a1 then anyNaN32 a1 else Pure.pure (Jvm.Native.java_lang_Math.nans.pick32 false a0 a1)
      mark "nat.java_lang_Math.min/float"
      Pure.pure (some (.float r))) := rfl
  refine zo_run ?_
  rw [hsem]
  simp [jvm, wpRun, zo_n32 h0, zo_n32 h1]
theorem zm_J10_min_3 {G : ZG} {d : Nat} {Q : Option Value → ZS → Prop} {X : String → Nat → ZS → Prop} {a0 : UInt32} {a1 : UInt32} {σ : ZS} (h0 : vf_n32 a0) (h1 : vf_n32 a1) (h : Q (some (.float (Jvm.Native.java_lang_Math.nans.pick32 false a0 a1))) σ) : ZM G yJ10_min_3 d 0 0 [.float a0, .float a1] σ Q X :=
  zm_over (row := zo_row_min_3) (code := cJ10_min_3) (maxL := 2) (ret := (some .float)) (np := 2) zo_row_min_3_is (by decide) (by decide +kernel) (fun j => zo_givFF (by decide) j) q1707 (by decide) (zo_row_min_3_run h0 h1) h
def zo_row_max_4 : NativeRow := (NativeRow.find? Jvm.Native.java_lang_Math.nans.rows "java/lang/Math" "max" "(DD)D").get (by decide +kernel)
set_option maxRecDepth 100000 in
theorem zo_row_max_4_is (p : Program) : NativeRow.find? p.tables.natives "java/lang/Math" "max" "(DD)D" = some zo_row_max_4 := by
  cases p <;> rfl
theorem zo_row_max_4_run {a0 : UInt64} {a1 : UInt64} (h0 : vf_n64 a0) (h1 : vf_n64 a1) (e : Env) (S : State) : ∃ acts, (zo_row_max_4.sem #[.double a0, .double a1]).run e S = .ok (some (.double (Jvm.Native.java_lang_Math.nans.pick64 true a0 a1))) S acts := by
  have hsem : zo_row_max_4.sem #[.double a0, .double a1] = (do
      let r ← if FP.dIsNaN a0 then anyNaN64 a0 else if FP.dIsNaN a1 then anyNaN64 a1 else Pure.pure (Jvm.Native.java_lang_Math.nans.pick64 true a0 a1)
      mark "nat.java_lang_Math.max"
      Pure.pure (some (.double r))) := rfl
  refine zo_run ?_
  rw [hsem]
  simp [jvm, wpRun, zo_n64 h0, zo_n64 h1]
theorem zm_J10_max_4 {G : ZG} {d : Nat} {Q : Option Value → ZS → Prop} {X : String → Nat → ZS → Prop} {a0 : UInt64} {a1 : UInt64} {σ : ZS} (h0 : vf_n64 a0) (h1 : vf_n64 a1) (h : Q (some (.double (Jvm.Native.java_lang_Math.nans.pick64 true a0 a1))) σ) : ZM G yJ10_max_4 d 0 0 [.double a0, .double a1] σ Q X :=
  zm_over (row := zo_row_max_4) (code := cJ10_max_4) (maxL := 4) (ret := (some .double)) (np := 2) zo_row_max_4_is (by decide) (by decide +kernel) (fun j => zo_givDD (by decide) j) q1713 (by decide) (zo_row_max_4_run h0 h1) h
def zo_row_min_4 : NativeRow := (NativeRow.find? Jvm.Native.java_lang_Math.nans.rows "java/lang/Math" "min" "(DD)D").get (by decide +kernel)
set_option maxRecDepth 100000 in
theorem zo_row_min_4_is (p : Program) : NativeRow.find? p.tables.natives "java/lang/Math" "min" "(DD)D" = some zo_row_min_4 := by
  cases p <;> rfl
theorem zo_row_min_4_run {a0 : UInt64} {a1 : UInt64} (h0 : vf_n64 a0) (h1 : vf_n64 a1) (e : Env) (S : State) : ∃ acts, (zo_row_min_4.sem #[.double a0, .double a1]).run e S = .ok (some (.double (Jvm.Native.java_lang_Math.nans.pick64 false a0 a1))) S acts := by
  have hsem : zo_row_min_4.sem #[.double a0, .double a1] = (do
      let r ← if FP.dIsNaN a0 then anyNaN64 a0 else if FP.dIsNaN a1 then anyNaN64 a1 else Pure.pure (Jvm.Native.java_lang_Math.nans.pick64 false a0 a1)
      mark "nat.java_lang_Math.min"
      Pure.pure (some (.double r))) := rfl
  refine zo_run ?_
  rw [hsem]
  simp [jvm, wpRun, zo_n64 h0, zo_n64 h1]
theorem zm_J10_min_4 {G : ZG} {d : Nat} {Q : Option Value → ZS → Prop} {X : String → Nat → ZS → Prop} {a0 : UInt64} {a1 : UInt64} {σ : ZS} (h0 : vf_n64 a0) (h1 : vf_n64 a1) (h : Q (some (.double (Jvm.Native.java_lang_Math.nans.pick64 false a0 a1))) σ) : ZM G yJ10_min_4 d 0 0 [.double a0, .double a1] σ Q X :=
  zm_over (row := zo_row_min_4) (code := cJ10_min_4) (maxL := 4) (ret := (some .double)) (np := 2) zo_row_min_4_is (by decide) (by decide +kernel) (fun j => zo_givDD (by decide) j) q1719 (by decide) (zo_row_min_4_run h0 h1) h
def zo_row_copySign : NativeRow := (NativeRow.find? Jvm.Native.java_lang_Math.nans.rows "java/lang/Math" "copySign" "(FF)F").get (by decide +kernel)
set_option maxRecDepth 100000 in
theorem zo_row_copySign_is (p : Program) : NativeRow.find? p.tables.natives "java/lang/Math" "copySign" "(FF)F" = some zo_row_copySign := by
  cases p <;> rfl
theorem zo_row_copySign_run {a0 : UInt32} {a1 : UInt32} (h1 : vf_n32 a1) (e : Env) (S : State) : ∃ acts, (zo_row_copySign.sem #[.float a0, .float a1]).run e S = .ok (some (.float ((a0 &&& 0x7fffffff) ||| (if (a1 >>> 31 == 1) = true then 0x80000000 else 0)))) S acts := by
  have hsem : zo_row_copySign.sem #[.float a0, .float a1] = (do
      let negative ← Jvm.Native.java_lang_Math.nans.signOf (FP.fIsNaN a1) (a1 >>> 31 == 1)
      mark "nat.java_lang_Math.copySign/float"
      Pure.pure (some (.float ((a0 &&& 0x7fffffff) ||| (if negative then 0x80000000 else 0))))) := rfl
  refine zo_run ?_
  rw [hsem]
  simp [jvm, wpRun, zo_n32 h1, Jvm.Native.java_lang_Math.nans.signOf]
theorem zm_J10_copySign {G : ZG} {d : Nat} {Q : Option Value → ZS → Prop} {X : String → Nat → ZS → Prop} {a0 : UInt32} {a1 : UInt32} {σ : ZS} (h1 : vf_n32 a1) (h : Q (some (.float ((a0 &&& 0x7fffffff) ||| (if (a1 >>> 31 == 1) = true then 0x80000000 else 0)))) σ) : ZM G yJ10_copySign d 0 0 [.float a0, .float a1] σ Q X :=
  zm_over (row := zo_row_copySign) (code := cJ10_copySign) (maxL := 2) (ret := (some .float)) (np := 2) zo_row_copySign_is (by decide) (by decide +kernel) (fun j => zo_givFF (by decide) j) q1727 (by decide) (zo_row_copySign_run h1) h
def zo_row_copySign_2 : NativeRow := (NativeRow.find? Jvm.Native.java_lang_Math.nans.rows "java/lang/Math" "copySign" "(DD)D").get (by decide +kernel)
set_option maxRecDepth 100000 in
theorem zo_row_copySign_2_is (p : Program) : NativeRow.find? p.tables.natives "java/lang/Math" "copySign" "(DD)D" = some zo_row_copySign_2 := by
  cases p <;> rfl
theorem zo_row_copySign_2_run {a0 : UInt64} {a1 : UInt64} (h1 : vf_n64 a1) (e : Env) (S : State) : ∃ acts, (zo_row_copySign_2.sem #[.double a0, .double a1]).run e S = .ok (some (.double ((a0 &&& 0x7fffffffffffffff) ||| (if (a1 >>> 63 == 1) = true then 0x8000000000000000 else 0)))) S acts := by
  have hsem : zo_row_copySign_2.sem #[.double a0, .double a1] = (do
      let negative ← Jvm.Native.java_lang_Math.nans.signOf (FP.dIsNaN a1) (a1 >>> 63 == 1)
      mark "nat.java_lang_Math.copySign"
      Pure.pure (some (.double ((a0 &&& 0x7fffffffffffffff) ||| (if negative then 0x8000000000000000 else 0))))) := rfl
  refine zo_run ?_
  rw [hsem]
  simp [jvm, wpRun, zo_n64 h1, Jvm.Native.java_lang_Math.nans.signOf]
theorem zm_J10_copySign_2 {G : ZG} {d : Nat} {Q : Option Value → ZS → Prop} {X : String → Nat → ZS → Prop} {a0 : UInt64} {a1 : UInt64} {σ : ZS} (h1 : vf_n64 a1) (h : Q (some (.double ((a0 &&& 0x7fffffffffffffff) ||| (if (a1 >>> 63 == 1) = true then 0x8000000000000000 else 0)))) σ) : ZM G yJ10_copySign_2 d 0 0 [.double a0, .double a1] σ Q X :=
  zm_over (row := zo_row_copySign_2) (code := cJ10_copySign_2) (maxL := 4) (ret := (some .double)) (np := 2) zo_row_copySign_2_is (by decide) (by decide +kernel) (fun j => zo_givDD (by decide) j) q1734 (by decide) (zo_row_copySign_2_run h1) h
def zo_row_abs_3 : NativeRow := (NativeRow.find? Jvm.Native.java_lang_Math.nans.rows "java/lang/Math" "abs" "(F)F").get (by decide +kernel)
set_option maxRecDepth 100000 in
theorem zo_row_abs_3_is (p : Program) : NativeRow.find? p.tables.natives "java/lang/Math" "abs" "(F)F" = some zo_row_abs_3 := by
  cases p <;> rfl
theorem zo_row_abs_3_run {a0 : UInt32} (h0 : vf_n32 a0) (e : Env) (S : State) : ∃ acts, (zo_row_abs_3.sem #[.float a0]).run e S = .ok (some (.float (a0 &&& 0x7fffffff))) S acts := by
  have hsem : zo_row_abs_3.sem #[.float a0] = (do
      let r ← anyNaN32 (a0 &&& 0x7fffffff)
      mark "nat.java_lang_Math.abs/float"
      Pure.pure (some (.float r))) := rfl
  have hn : (a0 &&& 0x7fffffff) &&& 0x7fffffff ≤ 0x7f800000 := by rw [UInt32.and_assoc, UInt32.and_self]; exact h0
  refine zo_run ?_
  rw [hsem]
  simp [jvm, wpRun, anyNaN32, hn]
theorem zm_J10_abs_3 {G : ZG} {d : Nat} {Q : Option Value → ZS → Prop} {X : String → Nat → ZS → Prop} {a0 : UInt32} {σ : ZS} (h0 : vf_n32 a0) (h : Q (some (.float (a0 &&& 0x7fffffff))) σ) : ZM G yJ10_abs_3 d 0 0 [.float a0] σ Q X :=
  zm_over (row := zo_row_abs_3) (code := cJ10_abs_3) (maxL := 1) (ret := (some .float)) (np := 1) zo_row_abs_3_is (by decide) (by decide +kernel) (fun j => zo_givF (by decide) j) q1788 (by decide) (zo_row_abs_3_run h0) h
def zo_row_abs_4 : NativeRow := (NativeRow.find? Jvm.Native.java_lang_Math.nans.rows "java/lang/Math" "abs" "(D)D").get (by decide +kernel)
set_option maxRecDepth 100000 in
theorem zo_row_abs_4_is (p : Program) : NativeRow.find? p.tables.natives "java/lang/Math" "abs" "(D)D" = some zo_row_abs_4 := by
  cases p <;> rfl
theorem zo_row_abs_4_run {a0 : UInt64} (h0 : vf_n64 a0) (e : Env) (S : State) : ∃ acts, (zo_row_abs_4.sem #[.double a0]).run e S = .ok (some (.double (a0 &&& 0x7fffffffffffffff))) S acts := by
  have hsem : zo_row_abs_4.sem #[.double a0] = (do
      let r ← anyNaN64 (a0 &&& 0x7fffffffffffffff)
      mark "nat.java_lang_Math.abs"
      Pure.pure (some (.double r))) := rfl
  have hn : (a0 &&& 0x7fffffffffffffff) &&& 0x7fffffffffffffff ≤ 0x7ff0000000000000 := by rw [UInt64.and_assoc, UInt64.and_self]; exact h0
  refine zo_run ?_
  rw [hsem]
  simp [jvm, wpRun, anyNaN64, hn]
theorem zm_J10_abs_4 {G : ZG} {d : Nat} {Q : Option Value → ZS → Prop} {X : String → Nat → ZS → Prop} {a0 : UInt64} {σ : ZS} (h0 : vf_n64 a0) (h : Q (some (.double (a0 &&& 0x7fffffffffffffff))) σ) : ZM G yJ10_abs_4 d 0 0 [.double a0] σ Q X :=
  zm_over (row := zo_row_abs_4) (code := cJ10_abs_4) (maxL := 2) (ret := (some .double)) (np := 1) zo_row_abs_4_is (by decide) (by decide +kernel) (fun j => zo_givD (by decide) j) q1791 (by decide) (zo_row_abs_4_run h0) h
def zo_row_signum : NativeRow := (NativeRow.find? Jvm.Native.java_lang_Math.nans.rows "java/lang/Math" "signum" "(F)F").get (by decide +kernel)
set_option maxRecDepth 100000 in
theorem zo_row_signum_is (p : Program) : NativeRow.find? p.tables.natives "java/lang/Math" "signum" "(F)F" = some zo_row_signum := by
  cases p <;> rfl
theorem zo_row_signum_run {a0 : UInt32} (h0 : vf_n32 a0) (e : Env) (S : State) : ∃ acts, (zo_row_signum.sem #[.float a0]).run e S = .ok (some (.float (if (a0 <<< 1 == 0) = true then a0 else (a0 &&& 0x80000000) ||| 0x3f800000))) S acts := by
  have hsem : zo_row_signum.sem #[.float a0] = (do
      let r ← if FP.fIsNaN a0 then anyNaN32 a0 else Pure.pure (if (a0 <<< 1 == 0) = true then a0 else (a0 &&& 0x80000000) ||| 0x3f800000)
      mark "nat.java_lang_Math.signum/float"
      Pure.pure (some (.float r))) := rfl
  refine zo_run ?_
  rw [hsem]
  simp [jvm, wpRun, zo_n32 h0]
theorem zm_J10_signum {G : ZG} {d : Nat} {Q : Option Value → ZS → Prop} {X : String → Nat → ZS → Prop} {a0 : UInt32} {σ : ZS} (h0 : vf_n32 a0) (h : Q (some (.float (if (a0 <<< 1 == 0) = true then a0 else (a0 &&& 0x80000000) ||| 0x3f800000))) σ) : ZM G yJ10_signum d 0 0 [.float a0] σ Q X :=
  zm_over (row := zo_row_signum) (code := cJ10_signum) (maxL := 1) (ret := (some .float)) (np := 1) zo_row_signum_is (by decide) (by decide +kernel) (fun j => zo_givF (by decide) j) q1878 (by decide) (zo_row_signum_run h0) h
def zo_row_signum_2 : NativeRow := (NativeRow.find? Jvm.Native.java_lang_Math.nans.rows "java/lang/Math" "signum" "(D)D").get (by decide +kernel)
set_option maxRecDepth 100000 in
theorem zo_row_signum_2_is (p : Program) : NativeRow.find? p.tables.natives "java/lang/Math" "signum" "(D)D" = some zo_row_signum_2 := by
  cases p <;> rfl
theorem zo_row_signum_2_run {a0 : UInt64} (h0 : vf_n64 a0) (e : Env) (S : State) : ∃ acts, (zo_row_signum_2.sem #[.double a0]).run e S = .ok (some (.double (if (a0 <<< 1 == 0) = true then a0 else (a0 &&& 0x8000000000000000) ||| 0x3ff0000000000000))) S acts := by
  have hsem : zo_row_signum_2.sem #[.double a0] = (do
      let r ← if FP.dIsNaN a0 then anyNaN64 a0 else Pure.pure (if (a0 <<< 1 == 0) = true then a0 else (a0 &&& 0x8000000000000000) ||| 0x3ff0000000000000)
      mark "nat.java_lang_Math.signum"
      Pure.pure (some (.double r))) := rfl
  refine zo_run ?_
  rw [hsem]
  simp [jvm, wpRun, zo_n64 h0]
theorem zm_J10_signum_2 {G : ZG} {d : Nat} {Q : Option Value → ZS → Prop} {X : String → Nat → ZS → Prop} {a0 : UInt64} {σ : ZS} (h0 : vf_n64 a0) (h : Q (some (.double (if (a0 <<< 1 == 0) = true then a0 else (a0 &&& 0x8000000000000000) ||| 0x3ff0000000000000))) σ) : ZM G yJ10_signum_2 d 0 0 [.double a0] σ Q X :=
  zm_over (row := zo_row_signum_2) (code := cJ10_signum_2) (maxL := 2) (ret := (some .double)) (np := 1) zo_row_signum_2_is (by decide) (by decide +kernel) (fun j => zo_givD (by decide) j) q1914 (by decide) (zo_row_signum_2_run h0) h
theorem zn_J17_floor {G : ZG} {d : Nat} {Q : Option Value → ZS → Prop} {X : String → Nat → ZS → Prop} {a0 : UInt64} {σ : ZS} (h : f_J17_floor G d Q X a0 σ) : ZN G yJ17_floor d [.double a0] σ Q X :=
  zn_of (own := RJ17) (code := cJ17_floor) (maxL := 2) (ret := (some .double)) (ini := false) (lo := [(0, .double a0)]) (by decide) rfl (fun _ => by contradiction) q1846 q293 (by decide) (show (lg_sl [.double a0]).length ≤ 2 from by simp [lg_sl, cat_rf, cat_i, cat_l, cat_f, cat_d]) (by simp [lv_args, cat_rf, cat_i, cat_l, cat_f, cat_d]) (w_J17_floor (kc := 0) (ks := 0) h)
def zo_row_floor : NativeRow := (NativeRow.find? Jvm.Native.java_lang_Math.nans.rows "java/lang/Math" "floor" "(D)D").get (by decide +kernel)
set_option maxRecDepth 100000 in
theorem zo_row_floor_is (p : Program) : NativeRow.find? p.tables.natives "java/lang/Math" "floor" "(D)D" = some zo_row_floor := by
  cases p <;> rfl
theorem zo_row_floor_call {a0 : UInt64} (e : Env) (S : State) (m2 : MethodId) (k : Class) (h : S.methodNamed? yJ17_floor = some m2) (hk : S.vm.classes[m2.cls]? = some k) (hi : k.init = .initialized) : ∃ acts, (zo_row_floor.sem #[.double a0]).run e S = .ctl (.call m2 #[.double a0] 1 #[]) S acts := by
  have hsem : zo_row_floor.sem #[.double a0] = (do
      let c ← classNamed "java/lang/StrictMath"
      ensureInit c
      let some i := (← theClass c).findMethod "floor" "(D)D" | modelBug ("StrictMath lacks " ++ "floor")
      callThen ⟨c, i⟩ #[.double a0] 1 #[]) := rfl
  refine zo_runC ?_
  have hf : S.vm.findClass "java/lang/StrictMath" = some m2.cls := findClass_of_methodNamed h
  have hm : k.findMethod "floor" "(D)D" = some m2.idx := findMethod_of_methodNamed h hk
  rw [hsem]
  simp [jvm, wpRun, W.classNamed_ready hf, hk, hi, hm]
theorem zo_row_floor_res (e : Env) (S : State) (r : UInt64) (h : vf_n64 r) : ∃ acts, (zo_row_floor.resume 1 #[] (.returned (some (.double r)))).run e S = .ok (some (.double r)) S acts := by
  have hsem : zo_row_floor.resume 1 #[] (.returned (some (.double r))) = (do
      let r ← anyNaN64 r
      mark "nat.java_lang_Math.floor"
      Pure.pure (some (.double r))) := rfl
  refine zo_run ?_
  rw [hsem]
  unfold vf_n64 at h
  simp [jvm, wpRun, anyNaN64, h]
theorem zm_J10_floor {G : ZG} {d : Nat} {Q : Option Value → ZS → Prop} {X : String → Nat → ZS → Prop} {a0 : UInt64} {σ : ZS} (h : f_J17_floor G d (fun v σ' => ∃ r, v = some (.double r) ∧ vf_n64 r ∧ Q v σ') (fun _ _ _ => False) a0 σ) : ZM G yJ10_floor (d + 18) 0 0 [.double a0] σ Q X :=
  zm_strict (y2 := yJ17_floor) (row := zo_row_floor) (code := cJ10_floor) (maxL := 2) (ret := (some .double)) (np := 1) zo_row_floor_is (by decide) (by decide +kernel) (by decide) (fun j => zo_givD (by decide) j) q1843 (by decide) (Nat.le_refl _) zo_row_floor_call zo_row_floor_res (zn_J17_floor h)
theorem zn_J17_ceil {G : ZG} {d : Nat} {Q : Option Value → ZS → Prop} {X : String → Nat → ZS → Prop} {a0 : UInt64} {σ : ZS} (h : f_J17_ceil G d Q X a0 σ) : ZN G yJ17_ceil d [.double a0] σ Q X :=
  zn_of (own := RJ17) (code := cJ17_ceil) (maxL := 2) (ret := (some .double)) (ini := false) (lo := [(0, .double a0)]) (by decide) rfl (fun _ => by contradiction) q1865 q293 (by decide) (show (lg_sl [.double a0]).length ≤ 2 from by simp [lg_sl, cat_rf, cat_i, cat_l, cat_f, cat_d]) (by simp [lv_args, cat_rf, cat_i, cat_l, cat_f, cat_d]) (w_J17_ceil (kc := 0) (ks := 0) h)
def zo_row_ceil : NativeRow := (NativeRow.find? Jvm.Native.java_lang_Math.nans.rows "java/lang/Math" "ceil" "(D)D").get (by decide +kernel)
set_option maxRecDepth 100000 in
theorem zo_row_ceil_is (p : Program) : NativeRow.find? p.tables.natives "java/lang/Math" "ceil" "(D)D" = some zo_row_ceil := by
  cases p <;> rfl
theorem zo_row_ceil_call {a0 : UInt64} (e : Env) (S : State) (m2 : MethodId) (k : Class) (h : S.methodNamed? yJ17_ceil = some m2) (hk : S.vm.classes[m2.cls]? = some k) (hi : k.init = .initialized) : ∃ acts, (zo_row_ceil.sem #[.double a0]).run e S = .ctl (.call m2 #[.double a0] 1 #[]) S acts := by
  have hsem : zo_row_ceil.sem #[.double a0] = (do
      let c ← classNamed "java/lang/StrictMath"
      ensureInit c
      let some i := (← theClass c).findMethod "ceil" "(D)D" | modelBug ("StrictMath lacks " ++ "ceil")
      callThen ⟨c, i⟩ #[.double a0] 1 #[]) := rfl
  refine zo_runC ?_
  have hf : S.vm.findClass "java/lang/StrictMath" = some m2.cls := findClass_of_methodNamed h
  have hm : k.findMethod "ceil" "(D)D" = some m2.idx := findMethod_of_methodNamed h hk
  rw [hsem]
  simp [jvm, wpRun, W.classNamed_ready hf, hk, hi, hm]
theorem zo_row_ceil_res (e : Env) (S : State) (r : UInt64) (h : vf_n64 r) : ∃ acts, (zo_row_ceil.resume 1 #[] (.returned (some (.double r)))).run e S = .ok (some (.double r)) S acts := by
  have hsem : zo_row_ceil.resume 1 #[] (.returned (some (.double r))) = (do
      let r ← anyNaN64 r
      mark "nat.java_lang_Math.ceil"
      Pure.pure (some (.double r))) := rfl
  refine zo_run ?_
  rw [hsem]
  unfold vf_n64 at h
  simp [jvm, wpRun, anyNaN64, h]
theorem zm_J10_ceil {G : ZG} {d : Nat} {Q : Option Value → ZS → Prop} {X : String → Nat → ZS → Prop} {a0 : UInt64} {σ : ZS} (h : f_J17_ceil G d (fun v σ' => ∃ r, v = some (.double r) ∧ vf_n64 r ∧ Q v σ') (fun _ _ _ => False) a0 σ) : ZM G yJ10_ceil (d + 18) 0 0 [.double a0] σ Q X :=
  zm_strict (y2 := yJ17_ceil) (row := zo_row_ceil) (code := cJ10_ceil) (maxL := 2) (ret := (some .double)) (np := 1) zo_row_ceil_is (by decide) (by decide +kernel) (by decide) (fun j => zo_givD (by decide) j) q1862 (by decide) (Nat.le_refl _) zo_row_ceil_call zo_row_ceil_res (zn_J17_ceil h)
theorem zn_J17_rint {G : ZG} {d : Nat} {Q : Option Value → ZS → Prop} {X : String → Nat → ZS → Prop} {a0 : UInt64} {σ : ZS} (h : f_J17_rint G d Q X a0 σ) : ZN G yJ17_rint d [.double a0] σ Q X :=
  zn_of (own := RJ17) (code := cJ17_rint) (maxL := 6) (ret := (some .double)) (ini := false) (lo := [(0, .double a0)]) (by decide) rfl (fun _ => by contradiction) q1872 q293 (by decide) (show (lg_sl [.double a0]).length ≤ 6 from by simp [lg_sl, cat_rf, cat_i, cat_l, cat_f, cat_d]) (by simp [lv_args, cat_rf, cat_i, cat_l, cat_f, cat_d]) (w_J17_rint (kc := 0) (ks := 0) h)
def zo_row_rint : NativeRow := (NativeRow.find? Jvm.Native.java_lang_Math.nans.rows "java/lang/Math" "rint" "(D)D").get (by decide +kernel)
set_option maxRecDepth 100000 in
theorem zo_row_rint_is (p : Program) : NativeRow.find? p.tables.natives "java/lang/Math" "rint" "(D)D" = some zo_row_rint := by
  cases p <;> rfl
theorem zo_row_rint_call {a0 : UInt64} (e : Env) (S : State) (m2 : MethodId) (k : Class) (h : S.methodNamed? yJ17_rint = some m2) (hk : S.vm.classes[m2.cls]? = some k) (hi : k.init = .initialized) : ∃ acts, (zo_row_rint.sem #[.double a0]).run e S = .ctl (.call m2 #[.double a0] 1 #[]) S acts := by
  have hsem : zo_row_rint.sem #[.double a0] = (do
      let c ← classNamed "java/lang/StrictMath"
      ensureInit c
      let some i := (← theClass c).findMethod "rint" "(D)D" | modelBug ("StrictMath lacks " ++ "rint")
      callThen ⟨c, i⟩ #[.double a0] 1 #[]) := rfl
  refine zo_runC ?_
  have hf : S.vm.findClass "java/lang/StrictMath" = some m2.cls := findClass_of_methodNamed h
  have hm : k.findMethod "rint" "(D)D" = some m2.idx := findMethod_of_methodNamed h hk
  rw [hsem]
  simp [jvm, wpRun, W.classNamed_ready hf, hk, hi, hm]
theorem zo_row_rint_res (e : Env) (S : State) (r : UInt64) (h : vf_n64 r) : ∃ acts, (zo_row_rint.resume 1 #[] (.returned (some (.double r)))).run e S = .ok (some (.double r)) S acts := by
  have hsem : zo_row_rint.resume 1 #[] (.returned (some (.double r))) = (do
      let r ← anyNaN64 r
      mark "nat.java_lang_Math.rint"
      Pure.pure (some (.double r))) := rfl
  refine zo_run ?_
  rw [hsem]
  unfold vf_n64 at h
  simp [jvm, wpRun, anyNaN64, h]
theorem zm_J10_rint {G : ZG} {d : Nat} {Q : Option Value → ZS → Prop} {X : String → Nat → ZS → Prop} {a0 : UInt64} {σ : ZS} (h : f_J17_rint G d (fun v σ' => ∃ r, v = some (.double r) ∧ vf_n64 r ∧ Q v σ') (fun _ _ _ => False) a0 σ) : ZM G yJ10_rint (d + 18) 0 0 [.double a0] σ Q X :=
  zm_strict (y2 := yJ17_rint) (row := zo_row_rint) (code := cJ10_rint) (maxL := 2) (ret := (some .double)) (np := 1) zo_row_rint_is (by decide) (by decide +kernel) (by decide) (fun j => zo_givD (by decide) j) q1869 (by decide) (Nat.le_refl _) zo_row_rint_call zo_row_rint_res (zn_J17_rint h)
