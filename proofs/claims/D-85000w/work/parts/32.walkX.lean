theorem yh_J2_init : yJ2_init.cls ≠ "java/lang/invoke/MethodHandle" ∧ yJ2_init.cls ≠ "java/lang/invoke/VarHandle" := by decide +kernel
theorem yl_J2_init : (parseMethodDescriptor yJ2_init.desc).map (fun d => d.parameters.length) = some 0 := by decide +kernel
theorem yh_X4_copyOf : yX4_copyOf.cls ≠ "java/lang/invoke/MethodHandle" ∧ yX4_copyOf.cls ≠ "java/lang/invoke/VarHandle" := by decide +kernel
theorem yl_X4_copyOf : (parseMethodDescriptor yX4_copyOf.desc).map (fun d => d.parameters.length) = some 0 := by decide +kernel
theorem yh_X4_init : yX4_init.cls ≠ "java/lang/invoke/MethodHandle" ∧ yX4_init.cls ≠ "java/lang/invoke/VarHandle" := by decide +kernel
theorem yl_X4_init : (parseMethodDescriptor yX4_init.desc).map (fun d => d.parameters.length) = some 1 := by decide +kernel
theorem yh_X4_isAway : yX4_isAway.cls ≠ "java/lang/invoke/MethodHandle" ∧ yX4_isAway.cls ≠ "java/lang/invoke/VarHandle" := by decide +kernel
theorem yl_X4_isAway : (parseMethodDescriptor yX4_isAway.desc).map (fun d => d.parameters.length) = some 0 := by decide +kernel
theorem yh_X4_kind : yX4_kind.cls ≠ "java/lang/invoke/MethodHandle" ∧ yX4_kind.cls ≠ "java/lang/invoke/VarHandle" := by decide +kernel
theorem yl_X4_kind : (parseMethodDescriptor yX4_kind.desc).map (fun d => d.parameters.length) = some 0 := by decide +kernel
theorem yh_X4_price : yX4_price.cls ≠ "java/lang/invoke/MethodHandle" ∧ yX4_price.cls ≠ "java/lang/invoke/VarHandle" := by decide +kernel
theorem yl_X4_price : (parseMethodDescriptor yX4_price.desc).map (fun d => d.parameters.length) = some 0 := by decide +kernel
theorem yh_X5_init : yX5_init.cls ≠ "java/lang/invoke/MethodHandle" ∧ yX5_init.cls ≠ "java/lang/invoke/VarHandle" := by decide +kernel
theorem yl_X5_init : (parseMethodDescriptor yX5_init.desc).map (fun d => d.parameters.length) = some 0 := by decide +kernel
theorem yh_X8_isLess : yX8_isLess.cls ≠ "java/lang/invoke/MethodHandle" ∧ yX8_isLess.cls ≠ "java/lang/invoke/VarHandle" := by decide +kernel
theorem yl_X8_isLess : (parseMethodDescriptor yX8_isLess.desc).map (fun d => d.parameters.length) = some 1 := by decide +kernel
abbrev kX1_init (d : Nat) : AWC := (RX1, cX1_init, 1, none, [], true, d)
abbrev kX2_init (d : Nat) : AWC := (RX2, cX2_init, 1, none, [], true, d)
abbrev kX2_begin (d : Nat) : AWC := (RX2, cX2_begin, 2, none, [], false, d)
abbrev kX2_add (d : Nat) : AWC := (RX2, cX2_add, 2, none, [], false, d)
abbrev kX2_has (d : Nat) : AWC := (RX2, cX2_has, 2, (some .boolean), [], false, d)
abbrev kX2_takes (d : Nat) : AWC := (RX2, cX2_takes, 3, none, [], false, d)
abbrev kX2_price (d : Nat) : AWC := (RX2, cX2_price, 3, (some .int), [], false, d)
abbrev kX4_init (d : Nat) : AWC := (RX4, cX4_init, 2, none, [], true, d)
abbrev kX4_price (d : Nat) : AWC := (RX4, cX4_price, 1, (some .int), [], false, d)
abbrev kX4_kind (d : Nat) : AWC := (RX4, cX4_kind, 1, (some .int), [], false, d)
abbrev kX4_isAway (d : Nat) : AWC := (RX4, cX4_isAway, 1, (some .boolean), [], false, d)
abbrev kX4_copied (d : Nat) : AWC := (RX4, cX4_copied, 2, (some (.object "ColumnHouse$Column")), [], false, d)
abbrev kX4_copyOf (d : Nat) : AWC := (RX4, cX4_copyOf, 1, (some (.object "java/lang/Object")), [], false, d)
abbrev kX4_isBoxed (d : Nat) : AWC := (RX4, cX4_isBoxed, 1, (some .boolean), [], false, d)
abbrev kX5_init (d : Nat) : AWC := (RX5, cX5_init, 1, none, [], true, d)
abbrev kX5_isLike (d : Nat) : AWC := (RX5, cX5_isLike, 2, (some .boolean), [], false, d)
abbrev kX5_isAhead (d : Nat) : AWC := (RX5, cX5_isAhead, 2, (some .boolean), [], false, d)
abbrev kX6_init (d : Nat) : AWC := (RX6, cX6_init, 2, none, [], true, d)
abbrev kX6_value (d : Nat) : AWC := (RX6, cX6_value, 1, (some .double), [], false, d)
abbrev kX6_sort (d : Nat) : AWC := (RX6, cX6_sort, 1, (some .int), [], false, d)
abbrev kX6_told (d : Nat) : AWC := (RX6, cX6_told, 1, (some .long), [], false, d)
abbrev kX7_init (d : Nat) : AWC := (RX7, cX7_init, 3, none, [], true, d)
abbrev kX7_value (d : Nat) : AWC := (RX7, cX7_value, 1, (some .double), [], false, d)
abbrev kX7_sort (d : Nat) : AWC := (RX7, cX7_sort, 1, (some .int), [], false, d)
abbrev kX7_told (d : Nat) : AWC := (RX7, cX7_told, 1, (some .long), [], false, d)
abbrev kX8_init (d : Nat) : AWC := (RX8, cX8_init, 3, none, [], true, d)
abbrev kX8_sort (d : Nat) : AWC := (RX8, cX8_sort, 1, (some .int), [], false, d)
abbrev kX8_told (d : Nat) : AWC := (RX8, cX8_told, 3, (some .long), [], false, d)
abbrev kX8_isLess (d : Nat) : AWC := (RX8, cX8_isLess, 2, (some .boolean), [], false, d)
abbrev kX8_isAhead (d : Nat) : AWC := (RX8, cX8_isAhead, 2, (some .boolean), [], false, d)
abbrev kX9_isLike (d : Nat) : AWC := (RX9, cX9_isLike, 2, (some .boolean), [], false, d)
def f_X1_init (G : ZG) (d : Nat) (Q : Option Value → ZS → Prop) (X : String → Nat → ZS → Prop) (a0 : Option Nat) (σ : ZS) : Prop :=
  ∃ b10, a0 = some b10 ∧ cs0V G yJ2_init d (va_rf (some b10) :: []) σ (fun σ2 => pI σ2 5 7 a0 (-1 : Int32) (fun σ11 => pI σ11 5 8 a0 (-1 : Int32) (fun σ12 => Q none σ12))) X
def f_X2_init (G : ZG) (d : Nat) (Q : Option Value → ZS → Prop) (X : String → Nat → ZS → Prop) (kc ks : Nat) (a0 : Option Nat) (σ : ZS) : Prop :=
  a0 ≠ none ∧ nA σ kc ks 19 16 (16 : Int32) (fun r1 σ2 kc3 ks4 => pR σ2 3 2 a0 (some r1) (fun σ5 => Q none σ5)) False
def f_X2_begin (G : ZG) (d : Nat) (Q : Option Value → ZS → Prop) (X : String → Nat → ZS → Prop) (a0 : Option Nat) (a1 : Int32) (σ : ZS) : Prop :=
  pI σ 3 0 a0 a1 (fun σ1 => pI σ1 3 1 a0 (0 : Int32) (fun σ2 => Q none σ2))
def f_X2_add (G : ZG) (d : Nat) (Q : Option Value → ZS → Prop) (X : String → Nat → ZS → Prop) (a0 : Option Nat) (a1 : Option Nat) (σ : ZS) : Prop :=
  gR σ 3 2 a0 (fun v1 => gI σ 3 1 a0 (fun v2 => qR σ v1 v2 a1 (fun σ3 => gI σ3 3 1 a0 (fun v4 => pI σ3 3 1 a0 (v4 + (1 : Int32)) (fun σ5 => Q none σ5)))))
def f_X2_has_17 (G : ZG) (d : Nat) (Q : Option Value → ZS → Prop) (X : String → Nat → ZS → Prop) (w0 : Int32) (σ : ZS) : Prop :=
  zb w0 ∧ Q (some (.int w0)) σ
def f_X2_has_16 (G : ZG) (d : Nat) (Q : Option Value → ZS → Prop) (X : String → Nat → ZS → Prop) (σ : ZS) : Prop :=
  f_X2_has_17 G d Q X (0 : Int32) σ
def f_X2_has (G : ZG) (d : Nat) (Q : Option Value → ZS → Prop) (X : String → Nat → ZS → Prop) (a0 : Option Nat) (a1 : Int32) (σ : ZS) : Prop :=
  zif (a1 < 0) (f_X2_has_16 G d Q X σ) (gI σ 3 1 a0 (fun v1 => zif (v1 ≤ a1) (f_X2_has_16 G d Q X σ) (f_X2_has_17 G d Q X (1 : Int32) σ)))
def g_X2_takes_18 (G : ZG) (d : Nat) (Q : Option Value → ZS → Prop) (X : String → Nat → ZS → Prop) (a0 : Option Nat) (a1 : Option Nat) (R18 : Int32 × ZS → Prop) (s : Int32 × ZS) : Prop :=
  gI s.2 3 1 a0 (fun v1 => zif (v1 ≤ s.1) (Q none s.2) (gR s.2 3 2 a0 (fun v2 => gR s.2 3 2 a1 (fun v3 => aR s.2 v3 s.1 (fun v4 => qR s.2 v2 s.1 v4 (fun σ5 => R18 ((s.1 + 1), σ5)))))))
def f_X2_takes_18 (G : ZG) (d : Nat) (Q : Option Value → ZS → Prop) (X : String → Nat → ZS → Prop) (a0 : Option Nat) (a1 : Option Nat) (a2 : Int32) (σ : ZS) : Prop := KT (g_X2_takes_18 G d Q X a0 a1) (a2, σ)
def f_X2_takes (G : ZG) (d : Nat) (Q : Option Value → ZS → Prop) (X : String → Nat → ZS → Prop) (a0 : Option Nat) (a1 : Option Nat) (σ : ZS) : Prop :=
  gI σ 3 0 a1 (fun v1 => pI σ 3 0 a0 v1 (fun σ2 => gI σ2 3 1 a1 (fun v3 => pI σ2 3 1 a0 v3 (fun σ4 => f_X2_takes_18 G d Q X a0 a1 (0 : Int32) σ4))))
def g_X2_price_4 (G : ZG) (d : Nat) (Q : Option Value → ZS → Prop) (X : String → Nat → ZS → Prop) (a0 : Option Nat) (R4 : Int32 × Int32 × ZS → Prop) (s : Int32 × Int32 × ZS) : Prop :=
  gI s.2.2 3 1 a0 (fun v1 => zif (v1 ≤ s.2.1) (Q (some (.int s.1)) s.2.2) (gR s.2.2 3 2 a0 (fun v2 => aR s.2.2 v2 s.2.1 (fun v3 => cv0I G yX4_price d 4 v3 [] s.2.2 (fun v4 σ5 => ∀ y13, y13 = (s.1 + v4) → R4 (y13, (s.2.1 + 1), σ5)) X))))
def f_X2_price_4 (G : ZG) (d : Nat) (Q : Option Value → ZS → Prop) (X : String → Nat → ZS → Prop) (a0 : Option Nat) (a1 : Int32) (a2 : Int32) (σ : ZS) : Prop := KT (g_X2_price_4 G d Q X a0) (a1, a2, σ)
def f_X2_price (G : ZG) (d : Nat) (Q : Option Value → ZS → Prop) (X : String → Nat → ZS → Prop) (a0 : Option Nat) (σ : ZS) : Prop :=
  f_X2_price_4 G d Q X a0 (0 : Int32) (0 : Int32) σ
def f_X4_init (G : ZG) (d : Nat) (Q : Option Value → ZS → Prop) (X : String → Nat → ZS → Prop) (a0 : Option Nat) (a1 : Option Nat) (σ : ZS) : Prop :=
  a0 ≠ none ∧ pR σ 4 0 a0 a1 (fun σ1 => pR σ1 4 1 a0 a1 (fun σ2 => Q none σ2))
def f_X4_price_14 (G : ZG) (d : Nat) (Q : Option Value → ZS → Prop) (X : String → Nat → ZS → Prop) (w0 : Int32) (σ : ZS) : Prop :=
  Q (some (.int w0)) σ
def f_X4_price (G : ZG) (d : Nat) (Q : Option Value → ZS → Prop) (X : String → Nat → ZS → Prop) (a0 : Option Nat) (σ : ZS) : Prop :=
  cv0I G yX4_kind d 4 a0 [] σ (fun v1 σ2 => zif ((8 : Int32) ≤ v1) (f_X4_price_14 G d Q X (4 : Int32) σ2) (f_X4_price_14 G d Q X (1 : Int32) σ2)) X
def f_X4_kind_141 (G : ZG) (d : Nat) (Q : Option Value → ZS → Prop) (X : String → Nat → ZS → Prop) (w0 : Int32) (σ : ZS) : Prop :=
  Q (some (.int w0)) σ
def f_X4_kind (G : ZG) (d : Nat) (Q : Option Value → ZS → Prop) (X : String → Nat → ZS → Prop) (a0 : Option Nat) (σ : ZS) : Prop :=
  gR σ 4 0 a0 (fun v1 => ist σ 14 v1 (fun v2 => zif (v2 = 0) (gR σ 4 0 a0 (fun v3 => ist σ 16 v3 (fun v4 => zif (v4 = 0) (gR σ 4 0 a0 (fun v5 => ist σ 17 v5 (fun v6 => zif (v6 = 0) (gR σ 4 0 a0 (fun v7 => ist σ 10 v7 (fun v8 => zif (v8 = 0) (gR σ 4 0 a0 (fun v9 => ist σ 11 v9 (fun v10 => zif (v10 = 0) (gR σ 4 0 a0 (fun v11 => ist σ 12 v11 (fun v12 => zif (v12 = 0) (gR σ 4 0 a0 (fun v13 => ist σ 13 v13 (fun v14 => zif (v14 = 0) (gR σ 4 0 a0 (fun v15 => ist σ 15 v15 (fun v16 => zif (v16 = 0) (gR σ 4 0 a0 (fun v17 => ist σ 21 v17 (fun v18 => zif (v18 = 0) (gR σ 4 0 a0 (fun v19 => ist σ 22 v19 (fun v20 => zif (v20 = 0) (gR σ 4 0 a0 (fun v21 => ist σ 20 v21 (fun v22 => zif (v22 = 0) (f_X4_kind_141 G d Q X (11 : Int32) σ) (f_X4_kind_141 G d Q X (8 : Int32) σ)))) (Q (some (.int (10 : Int32))) σ)))) (Q (some (.int (9 : Int32))) σ)))) (Q (some (.int (7 : Int32))) σ)))) (Q (some (.int (6 : Int32))) σ)))) (Q (some (.int (5 : Int32))) σ)))) (Q (some (.int (4 : Int32))) σ)))) (Q (some (.int (3 : Int32))) σ)))) (Q (some (.int (2 : Int32))) σ)))) (Q (some (.int (1 : Int32))) σ)))) (Q (some (.int (0 : Int32))) σ)))
def f_X4_isAway_12 (G : ZG) (d : Nat) (Q : Option Value → ZS → Prop) (X : String → Nat → ZS → Prop) (w0 : Int32) (σ : ZS) : Prop :=
  zb w0 ∧ Q (some (.int w0)) σ
def f_X4_isAway (G : ZG) (d : Nat) (Q : Option Value → ZS → Prop) (X : String → Nat → ZS → Prop) (a0 : Option Nat) (σ : ZS) : Prop :=
  gR σ 4 1 a0 (fun v1 => zif (v1 = none) (f_X4_isAway_12 G d Q X (1 : Int32) σ) (f_X4_isAway_12 G d Q X (0 : Int32) σ))
def f_X4_copied_24 (G : ZG) (d : Nat) (Q : Option Value → ZS → Prop) (X : String → Nat → ZS → Prop) (kc ks : Nat) (a1 : Option Nat) (σ : ZS) : Prop :=
  Q (some (va_rf a1)) σ
def f_X4_copied (G : ZG) (d : Nat) (Q : Option Value → ZS → Prop) (X : String → Nat → ZS → Prop) (kc ks : Nat) (a0 : Option Nat) (σ : ZS) : Prop :=
  nO σ kc ks 4 2 (fun r1 σ2 kc3 ks4 => cvR G yX4_copyOf d kc3 ks4 4 a0 [] σ2 (fun v5 σ6 kc7 ks8 => cs0V G yX4_init d (va_rf (some r1) :: [va_rf v5]) σ6 (fun σ15 => ∀ y23, y23 = (some r1) → cv0I G yX4_isAway d 4 a0 [] σ15 (fun v24 σ25 => zif (v24 = 0) (f_X4_copied_24 G d Q X kc7 ks8 y23 σ25) (pR σ25 4 1 y23 (none : Option Nat) (fun σ33 => f_X4_copied_24 G d Q X kc7 ks8 y23 σ33))) X) X) (fun E9 q10 σ11 _ _ => X E9 q10 σ11))
def f_X4_copyOf (G : ZG) (d : Nat) (Q : Option Value → ZS → Prop) (X : String → Nat → ZS → Prop) (kc ks : Nat) (a0 : Option Nat) (σ : ZS) : Prop :=
  gR σ 4 0 a0 (fun v1 => ist σ 14 v1 (fun v2 => zif (v2 = 0) (gR σ 4 0 a0 (fun v3 => ist σ 16 v3 (fun v4 => zif (v4 = 0) (gR σ 4 0 a0 (fun v5 => ist σ 17 v5 (fun v6 => zif (v6 = 0) (gR σ 4 0 a0 (fun v7 => ist σ 10 v7 (fun v8 => zif (v8 = 0) (gR σ 4 0 a0 (fun v9 => ist σ 11 v9 (fun v10 => zif (v10 = 0) (gR σ 4 0 a0 (fun v11 => ist σ 12 v11 (fun v12 => zif (v12 = 0) (gR σ 4 0 a0 (fun v13 => ist σ 13 v13 (fun v14 => zif (v14 = 0) (gR σ 4 0 a0 (fun v15 => ist σ 15 v15 (fun v16 => zif (v16 = 0) (gR σ 4 0 a0 (fun v17 => ist σ 20 v17 (fun v18 => zif (v18 = 0) (gR σ 4 0 a0 (fun v19 => kst σ 23 v19 (cln σ kc ks 23 60 v19 (fun r20 σ21 kc22 ks23 => Q (some (va_rf (some r20))) σ21) False) False)) (gR σ 4 0 a0 (fun v24 => kst σ 20 v24 (cln σ kc ks 20 60 v24 (fun r25 σ26 kc27 ks28 => Q (some (va_rf (some r25))) σ26) False) False))))) (gR σ 4 0 a0 (fun v29 => kst σ 15 v29 (cln σ kc ks 15 60 v29 (fun r30 σ31 kc32 ks33 => Q (some (va_rf (some r30))) σ31) False) False))))) (gR σ 4 0 a0 (fun v34 => kst σ 13 v34 (cln σ kc ks 13 60 v34 (fun r35 σ36 kc37 ks38 => Q (some (va_rf (some r35))) σ36) False) False))))) (gR σ 4 0 a0 (fun v39 => kst σ 12 v39 (cln σ kc ks 12 60 v39 (fun r40 σ41 kc42 ks43 => Q (some (va_rf (some r40))) σ41) False) False))))) (gR σ 4 0 a0 (fun v44 => kst σ 11 v44 (cln σ kc ks 11 60 v44 (fun r45 σ46 kc47 ks48 => Q (some (va_rf (some r45))) σ46) False) False))))) (gR σ 4 0 a0 (fun v49 => kst σ 10 v49 (cln σ kc ks 10 60 v49 (fun r50 σ51 kc52 ks53 => Q (some (va_rf (some r50))) σ51) False) False))))) (gR σ 4 0 a0 (fun v54 => kst σ 17 v54 (cln σ kc ks 17 60 v54 (fun r55 σ56 kc57 ks58 => Q (some (va_rf (some r55))) σ56) False) False))))) (gR σ 4 0 a0 (fun v59 => kst σ 16 v59 (cln σ kc ks 16 60 v59 (fun r60 σ61 kc62 ks63 => Q (some (va_rf (some r60))) σ61) False) False))))) (gR σ 4 0 a0 (fun v64 => kst σ 14 v64 (cln σ kc ks 14 60 v64 (fun r65 σ66 kc67 ks68 => Q (some (va_rf (some r65))) σ66) False) False))))
def f_X4_isBoxed (G : ZG) (d : Nat) (Q : Option Value → ZS → Prop) (X : String → Nat → ZS → Prop) (a0 : Option Nat) (σ : ZS) : Prop :=
  gR σ 4 0 a0 (fun v1 => ist σ 20 v1 (fun v2 => zb v2 ∧ Q (some (.int v2)) σ))
def f_X5_init (G : ZG) (d : Nat) (Q : Option Value → ZS → Prop) (X : String → Nat → ZS → Prop) (a0 : Option Nat) (σ : ZS) : Prop :=
  a0 ≠ none ∧ Q none σ
def f_X5_isLike_27 (G : ZG) (d : Nat) (Q : Option Value → ZS → Prop) (X : String → Nat → ZS → Prop) (w0 : Int32) (σ : ZS) : Prop :=
  zb w0 ∧ Q (some (.int w0)) σ
def f_X5_isLike_26 (G : ZG) (d : Nat) (Q : Option Value → ZS → Prop) (X : String → Nat → ZS → Prop) (σ : ZS) : Prop :=
  f_X5_isLike_27 G d Q X (0 : Int32) σ
def f_X5_isLike (G : ZG) (d : Nat) (Q : Option Value → ZS → Prop) (X : String → Nat → ZS → Prop) (a0 : Option Nat) (a1 : Option Nat) (σ : ZS) : Prop :=
  ist σ 24 a1 (fun v1 => zif (v1 = 0) (f_X5_isLike_26 G d Q X σ) (pf0D G [(6, yX6_value), (7, yX7_value)] d a0 [] σ (fun v2 σ3 => kst σ3 24 a1 (pf0D G [(6, yX6_value), (7, yX7_value)] d a1 [] σ3 (fun v7 σ8 => zif ((Op.cmpValue (FP.dcmp v2 v7) .l) = 0) (f_X5_isLike_27 G d Q X (1 : Int32) σ8) (f_X5_isLike_26 G d Q X σ8)) X False) False) X False))
def f_X5_isAhead_27 (G : ZG) (d : Nat) (Q : Option Value → ZS → Prop) (X : String → Nat → ZS → Prop) (w0 : Int32) (σ : ZS) : Prop :=
  zb w0 ∧ Q (some (.int w0)) σ
def f_X5_isAhead_22 (G : ZG) (d : Nat) (Q : Option Value → ZS → Prop) (X : String → Nat → ZS → Prop) (σ : ZS) : Prop :=
  f_X5_isAhead_27 G d Q X (1 : Int32) σ
def f_X5_isAhead (G : ZG) (d : Nat) (Q : Option Value → ZS → Prop) (X : String → Nat → ZS → Prop) (a0 : Option Nat) (a1 : Option Nat) (σ : ZS) : Prop :=
  ist σ 24 a1 (fun v1 => zif (v1 = 0) (f_X5_isAhead_22 G d Q X σ) (pf0D G [(6, yX6_value), (7, yX7_value)] d a0 [] σ (fun v2 σ3 => kst σ3 24 a1 (pf0D G [(6, yX6_value), (7, yX7_value)] d a1 [] σ3 (fun v7 σ8 => zif (0 ≤ (Op.cmpValue (FP.dcmp v2 v7) .g)) (f_X5_isAhead_27 G d Q X (0 : Int32) σ8) (f_X5_isAhead_22 G d Q X σ8)) X False) False) X False))
def f_X6_init (G : ZG) (d : Nat) (Q : Option Value → ZS → Prop) (X : String → Nat → ZS → Prop) (a0 : Option Nat) (a1 : Int32) (σ : ZS) : Prop :=
  ∃ b10, a0 = some b10 ∧ cs0V G yX5_init d (va_rf (some b10) :: []) σ (fun σ2 => pI σ2 6 0 a0 a1 (fun σ11 => Q none σ11)) X
def f_X6_value (G : ZG) (d : Nat) (Q : Option Value → ZS → Prop) (X : String → Nat → ZS → Prop) (a0 : Option Nat) (σ : ZS) : Prop :=
  gI σ 6 0 a0 (fun v1 => Q (some (.double (FP.i2d v1))) σ)
def f_X6_sort (G : ZG) (d : Nat) (Q : Option Value → ZS → Prop) (X : String → Nat → ZS → Prop) (a0 : Option Nat) (σ : ZS) : Prop :=
  Q (some (.int (1 : Int32))) σ
def f_X6_told (G : ZG) (d : Nat) (Q : Option Value → ZS → Prop) (X : String → Nat → ZS → Prop) (a0 : Option Nat) (σ : ZS) : Prop :=
  gI σ 6 0 a0 (fun v1 => Q (some (.long v1.toInt64)) σ)
def f_X7_init (G : ZG) (d : Nat) (Q : Option Value → ZS → Prop) (X : String → Nat → ZS → Prop) (a0 : Option Nat) (a1 : UInt64) (σ : ZS) : Prop :=
  ∃ b10, a0 = some b10 ∧ cs0V G yX5_init d (va_rf (some b10) :: []) σ (fun σ2 => pD σ2 7 0 a0 a1 (fun σ11 => Q none σ11)) X
def f_X7_value (G : ZG) (d : Nat) (Q : Option Value → ZS → Prop) (X : String → Nat → ZS → Prop) (a0 : Option Nat) (σ : ZS) : Prop :=
  gD σ 7 0 a0 (fun v1 => Q (some (.double v1)) σ)
def f_X7_sort (G : ZG) (d : Nat) (Q : Option Value → ZS → Prop) (X : String → Nat → ZS → Prop) (a0 : Option Nat) (σ : ZS) : Prop :=
  Q (some (.int (2 : Int32))) σ
def f_X7_told (G : ZG) (d : Nat) (Q : Option Value → ZS → Prop) (X : String → Nat → ZS → Prop) (a0 : Option Nat) (σ : ZS) : Prop :=
  gD σ 7 0 a0 (fun v1 => cs0L G yJ9_doubleToLongBits d [.double v1] σ (fun v2 σ3 => Q (some (.long v2)) σ3) X)
def f_X8_init (G : ZG) (d : Nat) (Q : Option Value → ZS → Prop) (X : String → Nat → ZS → Prop) (a0 : Option Nat) (a1 : Int64) (σ : ZS) : Prop :=
  a0 ≠ none ∧ pL σ 8 0 a0 a1 (fun σ1 => Q none σ1)
def f_X8_sort (G : ZG) (d : Nat) (Q : Option Value → ZS → Prop) (X : String → Nat → ZS → Prop) (a0 : Option Nat) (σ : ZS) : Prop :=
  Q (some (.int (3 : Int32))) σ
def f_X8_told_29 (G : ZG) (d : Nat) (Q : Option Value → ZS → Prop) (X : String → Nat → ZS → Prop) (a1 : Int64) (σ : ZS) : Prop :=
  Q (some (.long a1)) σ
def g_X8_told_5 (G : ZG) (d : Nat) (Q : Option Value → ZS → Prop) (X : String → Nat → ZS → Prop) (R5 : Int64 × ZS → Prop) (s : Int64 × ZS) : Prop :=
  zif ((lg_cmp s.1 (0 : Int64)) = 0) (f_X8_told_29 G d Q X s.1 s.2) (zif ((lg_cmp (s.1 &&& (255 : Int64)) (0 : Int64)) = 0) (∀ y1, y1 = ((s.1).toUInt64 >>> (((8 : Int32)).toInt64.toUInt64 &&& Int64.toUInt64 63)).toInt64 → R5 (y1, s.2)) (f_X8_told_29 G d Q X s.1 s.2))
def f_X8_told_5 (G : ZG) (d : Nat) (Q : Option Value → ZS → Prop) (X : String → Nat → ZS → Prop) (a1 : Int64) (σ : ZS) : Prop := KT (g_X8_told_5 G d Q X) (a1, σ)
def f_X8_told (G : ZG) (d : Nat) (Q : Option Value → ZS → Prop) (X : String → Nat → ZS → Prop) (a0 : Option Nat) (σ : ZS) : Prop :=
  gL σ 8 0 a0 (fun v1 => f_X8_told_5 G d Q X v1 σ)
def f_X8_isLess_25 (G : ZG) (d : Nat) (Q : Option Value → ZS → Prop) (X : String → Nat → ZS → Prop) (w0 : Int32) (σ : ZS) : Prop :=
  zb w0 ∧ Q (some (.int w0)) σ
def f_X8_isLess (G : ZG) (d : Nat) (Q : Option Value → ZS → Prop) (X : String → Nat → ZS → Prop) (a0 : Option Nat) (a1 : Option Nat) (σ : ZS) : Prop :=
  gL σ 8 0 a0 (fun v1 => gL σ 8 0 a1 (fun v2 => zif (0 ≤ (lg_cmp (v1 + (-9223372036854775808 : Int64)) (v2 + (-9223372036854775808 : Int64)))) (f_X8_isLess_25 G d Q X (0 : Int32) σ) (f_X8_isLess_25 G d Q X (1 : Int32) σ)))
def f_X8_isAhead_23 (G : ZG) (d : Nat) (Q : Option Value → ZS → Prop) (X : String → Nat → ZS → Prop) (w0 : Int32) (σ : ZS) : Prop :=
  zb w0 ∧ Q (some (.int w0)) σ
def f_X8_isAhead_22 (G : ZG) (d : Nat) (Q : Option Value → ZS → Prop) (X : String → Nat → ZS → Prop) (σ : ZS) : Prop :=
  f_X8_isAhead_23 G d Q X (0 : Int32) σ
def f_X8_isAhead (G : ZG) (d : Nat) (Q : Option Value → ZS → Prop) (X : String → Nat → ZS → Prop) (a0 : Option Nat) (a1 : Option Nat) (σ : ZS) : Prop :=
  ist σ 8 a1 (fun v1 => zif (v1 = 0) (f_X8_isAhead_22 G d Q X σ) (kst σ 8 a1 (cv0I G yX8_isLess d 8 a0 [va_rf a1] σ (fun v2 σ3 => zif (v2 = 0) (f_X8_isAhead_22 G d Q X σ3) (f_X8_isAhead_23 G d Q X (1 : Int32) σ3)) X) False))
def f_X9_isLike_40 (G : ZG) (d : Nat) (Q : Option Value → ZS → Prop) (X : String → Nat → ZS → Prop) (w0 : Int32) (σ : ZS) : Prop :=
  zb w0 ∧ Q (some (.int w0)) σ
def f_X9_isLike_39 (G : ZG) (d : Nat) (Q : Option Value → ZS → Prop) (X : String → Nat → ZS → Prop) (σ : ZS) : Prop :=
  f_X9_isLike_40 G d Q X (0 : Int32) σ
def f_X9_isLike (G : ZG) (d : Nat) (Q : Option Value → ZS → Prop) (X : String → Nat → ZS → Prop) (a0 : Option Nat) (a1 : Option Nat) (σ : ZS) : Prop :=
  zif (a1 = none) (f_X9_isLike_39 G d Q X σ) (pf0I G [(6, yX6_sort), (7, yX7_sort), (8, yX8_sort)] d a0 [] σ (fun v1 σ2 => pf0I G [(6, yX6_sort), (7, yX7_sort), (8, yX8_sort)] d a1 [] σ2 (fun v6 σ7 => zif (v1 = v6) (pf0L G [(6, yX6_told), (7, yX7_told), (8, yX8_told)] d a0 [] σ7 (fun v11 σ12 => pf0L G [(6, yX6_told), (7, yX7_told), (8, yX8_told)] d a1 [] σ12 (fun v16 σ17 => zif ((lg_cmp v11 v16) = 0) (f_X9_isLike_40 G d Q X (1 : Int32) σ17) (f_X9_isLike_39 G d Q X σ17)) X False) X False) (f_X9_isLike_39 G d Q X σ7)) X False) X False)
theorem w_X1_init {G : ZG} {d : Nat} {Q : Option Value → ZS → Prop} {X : String → Nat → ZS → Prop} {kc ks : Nat} {a0 : Option Nat} {σ : ZS} (h : f_X1_init G d Q X a0 σ) : AW G (kX1_init d) Q X kc ks 0 [(0, va_rf a0)] [] σ := by
  refine aw_aload_n (pc := 0) (j := 0) dX1_init_0 rfl rfl ?_
  obtain ⟨b10, hb10, h⟩ := h
  first | subst hb10 | rw [hb10]
  refine aw_ci0 (pc := 1) (b := b10) (As := []) (st := []) dX1_init_1 q366 q367 q368 rfl yh_J2_init yl_J2_init rfl (Nat.le_of_ble_eq_true rfl) h (fun σ2 h => ?_) (fun E5 q6 σ7 h => ax_out rfl h)
  refine aw_aload_n (pc := 4) (j := 0) dX1_init_4 rfl rfl ?_
  refine aw_iconst (pc := 5) (v := (-1 : Int32)) dX1_init_5 rfl ?_
  refine aw_putI (pc := 6) (ci := 4) (k := 7) dX1_init_6 rfl (Nat.le_of_ble_eq_true rfl) rfl q374 rfl rfl rfl h (fun σ11 h => ?_)
  refine aw_aload_n (pc := 9) (j := 0) dX1_init_9 rfl rfl ?_
  refine aw_iconst (pc := 10) (v := (-1 : Int32)) dX1_init_10 rfl ?_
  refine aw_putI (pc := 11) (ci := 4) (k := 8) dX1_init_11 rfl (Nat.le_of_ble_eq_true rfl) rfl q376 rfl rfl rfl h (fun σ12 h => ?_)
  exact aw_vret (pc := 14) dX1_init_14 rfl h
theorem zm_X1_init {G : ZG} {d : Nat} {Q : Option Value → ZS → Prop} {X : String → Nat → ZS → Prop}  {a0 : Option Nat} {σ : ZS} (h : f_X1_init G d Q X a0 σ) : ZM G yX1_init d 0 0 [va_rf a0] σ Q X :=
  zm_of (own := RX1) (code := cX1_init) (maxL := 1) (ret := none) (ini := true) (lo := [(0, va_rf a0)]) (by decide) rfl (fun _ => rfl) q365 q269 (by decide) (show (lg_sl [va_rf a0]).length ≤ 1 from by simp [lg_sl, cat_rf, cat_i, cat_l, cat_f, cat_d]) (by simp [lv_args, cat_rf, cat_i, cat_l, cat_f, cat_d]) (w_X1_init (kc := 0) (ks := 0) h)
theorem w_X2_init {G : ZG} {d : Nat} {Q : Option Value → ZS → Prop} {X : String → Nat → ZS → Prop} {kc ks : Nat} {a0 : Option Nat} {σ : ZS} (h : f_X2_init G d Q X kc ks a0 σ) : AW G (kX2_init d) Q X kc ks 0 [(0, va_rf a0)] [] σ := by
  refine aw_aload_n (pc := 0) (j := 0) dX2_init_0 rfl rfl ?_
  refine aw_objinit (pc := 1) dX2_init_1 q401 q300 q301 (Nat.le_of_ble_eq_true rfl) h.1 ?_
  replace h := h.2
  refine aw_aload_n (pc := 4) (j := 0) dX2_init_4 rfl rfl ?_
  refine aw_bipush (pc := 5) (v := (16 : Int32)) dX2_init_5 rfl ?_
  refine aw_anewC (pc := 7) dX2_init_7 q402 h (fun r1 σ2 kc3 ks4 h => ?_)
  refine aw_putRF (pc := 10) (ci := 2) (k := 2) dX2_init_10 rfl (Nat.le_of_ble_eq_true rfl) rfl q408 rfl rfl rfl (nar_rf _) (fit_rf _ rfl) h (fun σ5 h => ?_)
  exact aw_vret (pc := 13) dX2_init_13 rfl h
theorem zm_X2_init {G : ZG} {d : Nat} {Q : Option Value → ZS → Prop} {X : String → Nat → ZS → Prop} {kc ks : Nat} {a0 : Option Nat} {σ : ZS} (h : f_X2_init G d Q X kc ks a0 σ) : ZM G yX2_init d kc ks [va_rf a0] σ Q X :=
  zm_of (own := RX2) (code := cX2_init) (maxL := 1) (ret := none) (ini := true) (lo := [(0, va_rf a0)]) (by decide) rfl (fun _ => rfl) q400 q270 (by decide) (show (lg_sl [va_rf a0]).length ≤ 1 from by simp [lg_sl, cat_rf, cat_i, cat_l, cat_f, cat_d]) (by simp [lv_args, cat_rf, cat_i, cat_l, cat_f, cat_d]) (w_X2_init (kc := kc) (ks := ks) h)
theorem w_X2_begin {G : ZG} {d : Nat} {Q : Option Value → ZS → Prop} {X : String → Nat → ZS → Prop} {kc ks : Nat} {a0 : Option Nat} {a1 : Int32} {σ : ZS} (h : f_X2_begin G d Q X a0 a1 σ) : AW G (kX2_begin d) Q X kc ks 0 [(0, va_rf a0), (1, .int a1)] [] σ := by
  refine aw_aload_n (pc := 0) (j := 0) dX2_begin_0 rfl rfl ?_
  refine aw_iload_n (pc := 1) (j := 1) dX2_begin_1 rfl rfl ?_
  refine aw_putI (pc := 2) (ci := 2) (k := 0) dX2_begin_2 rfl (Nat.le_of_ble_eq_true rfl) rfl q404 rfl rfl rfl h (fun σ1 h => ?_)
  refine aw_aload_n (pc := 5) (j := 0) dX2_begin_5 rfl rfl ?_
  refine aw_iconst (pc := 6) (v := (0 : Int32)) dX2_begin_6 rfl ?_
  refine aw_putI (pc := 7) (ci := 2) (k := 1) dX2_begin_7 rfl (Nat.le_of_ble_eq_true rfl) rfl q406 rfl rfl rfl h (fun σ2 h => ?_)
  exact aw_vret (pc := 10) dX2_begin_10 rfl h
theorem zm_X2_begin {G : ZG} {d : Nat} {Q : Option Value → ZS → Prop} {X : String → Nat → ZS → Prop}  {a0 : Option Nat} {a1 : Int32} {σ : ZS} (h : f_X2_begin G d Q X a0 a1 σ) : ZM G yX2_begin d 0 0 [va_rf a0, .int a1] σ Q X :=
  zm_of (own := RX2) (code := cX2_begin) (maxL := 2) (ret := none) (ini := false) (lo := [(0, va_rf a0), (1, .int a1)]) (by decide) rfl (fun _ => by contradiction) q597 q270 (by decide) (show (lg_sl [va_rf a0, .int a1]).length ≤ 2 from by simp [lg_sl, cat_rf, cat_i, cat_l, cat_f, cat_d]) (by simp [lv_args, cat_rf, cat_i, cat_l, cat_f, cat_d]) (w_X2_begin (kc := 0) (ks := 0) h)
theorem w_X2_add {G : ZG} {d : Nat} {Q : Option Value → ZS → Prop} {X : String → Nat → ZS → Prop} {kc ks : Nat} {a0 : Option Nat} {a1 : Option Nat} {σ : ZS} (h : f_X2_add G d Q X a0 a1 σ) : AW G (kX2_add d) Q X kc ks 0 [(0, va_rf a0), (1, va_rf a1)] [] σ := by
  refine aw_aload_n (pc := 0) (j := 0) dX2_add_0 rfl rfl ?_
  refine aw_getR (pc := 1) (ci := 2) (k := 2) dX2_add_1 rfl (Nat.le_of_ble_eq_true rfl) q408 rfl h (fun v1 h => ?_)
  refine aw_aload_n (pc := 4) (j := 0) dX2_add_4 rfl rfl ?_
  refine aw_getI (pc := 5) (ci := 2) (k := 1) dX2_add_5 rfl (Nat.le_of_ble_eq_true rfl) q406 rfl h (fun v2 h => ?_)
  refine aw_aload_n (pc := 8) (j := 1) dX2_add_8 rfl rfl ?_
  refine aw_aast (pc := 9) dX2_add_9 h (fun σ3 h => ?_)
  refine aw_aload_n (pc := 10) (j := 0) dX2_add_10 rfl rfl ?_
  refine aw_dup (pc := 11) dX2_add_11 (cat_rf _) ?_
  refine aw_getI (pc := 12) (ci := 2) (k := 1) dX2_add_12 rfl (Nat.le_of_ble_eq_true rfl) q406 rfl h (fun v4 h => ?_)
  refine aw_iconst (pc := 15) (v := (1 : Int32)) dX2_add_15 rfl ?_
  refine aw_iadd (pc := 16) dX2_add_16 ?_
  refine aw_putI (pc := 17) (ci := 2) (k := 1) dX2_add_17 rfl (Nat.le_of_ble_eq_true rfl) rfl q406 rfl rfl rfl h (fun σ5 h => ?_)
  exact aw_vret (pc := 20) dX2_add_20 rfl h
theorem zm_X2_add {G : ZG} {d : Nat} {Q : Option Value → ZS → Prop} {X : String → Nat → ZS → Prop}  {a0 : Option Nat} {a1 : Option Nat} {σ : ZS} (h : f_X2_add G d Q X a0 a1 σ) : ZM G yX2_add d 0 0 [va_rf a0, va_rf a1] σ Q X :=
  zm_of (own := RX2) (code := cX2_add) (maxL := 2) (ret := none) (ini := false) (lo := [(0, va_rf a0), (1, va_rf a1)]) (by decide) rfl (fun _ => by contradiction) q682 q270 (by decide) (show (lg_sl [va_rf a0, va_rf a1]).length ≤ 2 from by simp [lg_sl, cat_rf, cat_i, cat_l, cat_f, cat_d]) (by simp [lv_args, cat_rf, cat_i, cat_l, cat_f, cat_d]) (w_X2_add (kc := 0) (ks := 0) h)
theorem w_X2_has_17 {G : ZG} {d : Nat} {Q : Option Value → ZS → Prop} {X : String → Nat → ZS → Prop} {kc ks : Nat} {w0 : Int32} {σ : ZS} (h : f_X2_has_17 G d Q X w0 σ) : AW G (kX2_has d) Q X kc ks 17 [] [.int w0] σ := by
  exact aw_iret (pc := 17) dX2_has_17 rfl (nar_b h.1) h.2
theorem w_X2_has_16 {G : ZG} {d : Nat} {Q : Option Value → ZS → Prop} {X : String → Nat → ZS → Prop} {kc ks : Nat} {σ : ZS} (h : f_X2_has_16 G d Q X σ) : AW G (kX2_has d) Q X kc ks 16 [] [] σ := by
  refine aw_iconst (pc := 16) (v := (0 : Int32)) dX2_has_16 rfl ?_
  exact w_X2_has_17 h
theorem w_X2_has {G : ZG} {d : Nat} {Q : Option Value → ZS → Prop} {X : String → Nat → ZS → Prop} {kc ks : Nat} {a0 : Option Nat} {a1 : Int32} {σ : ZS} (h : f_X2_has G d Q X a0 a1 σ) : AW G (kX2_has d) Q X kc ks 0 [(0, va_rf a0), (1, .int a1)] [] σ := by
  refine aw_iload_n (pc := 0) (j := 1) dX2_has_0 rfl rfl ?_
  refine aw_if_lt (pc := 1) (tgt := 16) dX2_has_1 (by decide) (fun z => ?_) (fun z => ?_)
  · replace h := h.1 z
    exact aw_sub [] rfl (w_X2_has_16 h)
  · replace h := h.2 z
    refine aw_iload_n (pc := 4) (j := 1) dX2_has_4 rfl rfl ?_
    refine aw_aload_n (pc := 5) (j := 0) dX2_has_5 rfl rfl ?_
    refine aw_getI (pc := 6) (ci := 2) (k := 1) dX2_has_6 rfl (Nat.le_of_ble_eq_true rfl) q406 rfl h (fun v1 h => ?_)
    refine aw_icmp_ge (pc := 9) (tgt := 16) dX2_has_9 (by decide) (fun z => ?_) (fun z => ?_)
    · replace h := h.1 z
      exact aw_sub [] rfl (w_X2_has_16 h)
    · replace h := h.2 z
      refine aw_iconst (pc := 12) (v := (1 : Int32)) dX2_has_12 rfl ?_
      refine aw_goto (pc := 13) (tgt := 17) dX2_has_13 (by decide) ?_
      exact aw_sub [] rfl (w_X2_has_17 h)
theorem zm_X2_has {G : ZG} {d : Nat} {Q : Option Value → ZS → Prop} {X : String → Nat → ZS → Prop}  {a0 : Option Nat} {a1 : Int32} {σ : ZS} (h : f_X2_has G d Q X a0 a1 σ) : ZM G yX2_has d 0 0 [va_rf a0, .int a1] σ Q X :=
  zm_of (own := RX2) (code := cX2_has) (maxL := 2) (ret := (some .boolean)) (ini := false) (lo := [(0, va_rf a0), (1, .int a1)]) (by decide) rfl (fun _ => by contradiction) q694 q270 (by decide) (show (lg_sl [va_rf a0, .int a1]).length ≤ 2 from by simp [lg_sl, cat_rf, cat_i, cat_l, cat_f, cat_d]) (by simp [lv_args, cat_rf, cat_i, cat_l, cat_f, cat_d]) (w_X2_has (kc := 0) (ks := 0) h)
theorem w_X2_takes_18 {G : ZG} {d : Nat} {Q : Option Value → ZS → Prop} {X : String → Nat → ZS → Prop} {kc ks : Nat} {a0 : Option Nat} {a1 : Option Nat} {a2 : Int32} {σ : ZS} (h : f_X2_takes_18 G d Q X a0 a1 a2 σ) : AW G (kX2_takes d) Q X kc ks 18 [(0, va_rf a0), (1, va_rf a1), (2, .int a2)] [] σ := by
  refine KT_use h (fun s => AW G (kX2_takes d) Q X kc ks 18 [(0, va_rf a0), (1, va_rf a1), (2, .int s.1)] [] s.2) (fun s h => ?_)
  have hR18 : ∀ s : Int32 × ZS, (fun s : Int32 × ZS => AW G (kX2_takes d) Q X kc ks 18 [(0, va_rf a0), (1, va_rf a1), (2, .int s.1)] [] s.2) s → AW G (kX2_takes d) Q X kc ks 18 [(0, va_rf a0), (1, va_rf a1), (2, .int s.1)] [] s.2 := fun s h => h
  refine aw_iload_n (pc := 18) (j := 2) dX2_takes_18 rfl rfl ?_
  refine aw_aload_n (pc := 19) (j := 0) dX2_takes_19 rfl rfl ?_
  refine aw_getI (pc := 20) (ci := 2) (k := 1) dX2_takes_20 rfl (Nat.le_of_ble_eq_true rfl) q406 rfl h (fun v1 h => ?_)
  refine aw_icmp_ge (pc := 23) (tgt := 44) dX2_takes_23 (by decide) (fun z => ?_) (fun z => ?_)
  · replace h := h.1 z
    exact aw_vret (pc := 44) dX2_takes_44 rfl h
  · replace h := h.2 z
    refine aw_aload_n (pc := 26) (j := 0) dX2_takes_26 rfl rfl ?_
    refine aw_getR (pc := 27) (ci := 2) (k := 2) dX2_takes_27 rfl (Nat.le_of_ble_eq_true rfl) q408 rfl h (fun v2 h => ?_)
    refine aw_iload_n (pc := 30) (j := 2) dX2_takes_30 rfl rfl ?_
    refine aw_aload_n (pc := 31) (j := 1) dX2_takes_31 rfl rfl ?_
    refine aw_getR (pc := 32) (ci := 2) (k := 2) dX2_takes_32 rfl (Nat.le_of_ble_eq_true rfl) q408 rfl h (fun v3 h => ?_)
    refine aw_iload_n (pc := 35) (j := 2) dX2_takes_35 rfl rfl ?_
    refine aw_aald (pc := 36) dX2_takes_36 h (fun v4 h => ?_)
    refine aw_aast (pc := 37) dX2_takes_37 h (fun σ5 h => ?_)
    refine aw_iinc (pc := 38) (j := 2) (v := (s.1 + 1)) (lo2 := [(2, .int (s.1 + 1)), (0, va_rf a0), (1, va_rf a1)]) dX2_takes_38 rfl rfl (Nat.le_of_ble_eq_true rfl) (by simp [cat_rf, cat_i, cat_l, cat_f, cat_d]) ?_
    refine aw_goto (pc := 41) (tgt := 18) dX2_takes_41 (by decide) ?_
    exact aw_sub [1, 2, 0] rfl (hR18 ((s.1 + 1), σ5) h)
theorem w_X2_takes {G : ZG} {d : Nat} {Q : Option Value → ZS → Prop} {X : String → Nat → ZS → Prop} {kc ks : Nat} {a0 : Option Nat} {a1 : Option Nat} {σ : ZS} (h : f_X2_takes G d Q X a0 a1 σ) : AW G (kX2_takes d) Q X kc ks 0 [(0, va_rf a0), (1, va_rf a1)] [] σ := by
  refine aw_aload_n (pc := 0) (j := 0) dX2_takes_0 rfl rfl ?_
  refine aw_aload_n (pc := 1) (j := 1) dX2_takes_1 rfl rfl ?_
  refine aw_getI (pc := 2) (ci := 2) (k := 0) dX2_takes_2 rfl (Nat.le_of_ble_eq_true rfl) q404 rfl h (fun v1 h => ?_)
  refine aw_putI (pc := 5) (ci := 2) (k := 0) dX2_takes_5 rfl (Nat.le_of_ble_eq_true rfl) rfl q404 rfl rfl rfl h (fun σ2 h => ?_)
  refine aw_aload_n (pc := 8) (j := 0) dX2_takes_8 rfl rfl ?_
  refine aw_aload_n (pc := 9) (j := 1) dX2_takes_9 rfl rfl ?_
  refine aw_getI (pc := 10) (ci := 2) (k := 1) dX2_takes_10 rfl (Nat.le_of_ble_eq_true rfl) q406 rfl h (fun v3 h => ?_)
  refine aw_putI (pc := 13) (ci := 2) (k := 1) dX2_takes_13 rfl (Nat.le_of_ble_eq_true rfl) rfl q406 rfl rfl rfl h (fun σ4 h => ?_)
  refine aw_iconst (pc := 16) (v := (0 : Int32)) dX2_takes_16 rfl ?_
  refine aw_istore_n (pc := 17) (i := 2) (lo2 := [(2, .int (0 : Int32)), (0, va_rf a0), (1, va_rf a1)]) dX2_takes_17 rfl (Nat.le_of_ble_eq_true rfl) (by simp [cat_rf, cat_i, cat_l, cat_f, cat_d]) ?_
  exact aw_sub [1, 2, 0] rfl (w_X2_takes_18 h)
theorem zm_X2_takes {G : ZG} {d : Nat} {Q : Option Value → ZS → Prop} {X : String → Nat → ZS → Prop}  {a0 : Option Nat} {a1 : Option Nat} {σ : ZS} (h : f_X2_takes G d Q X a0 a1 σ) : ZM G yX2_takes d 0 0 [va_rf a0, va_rf a1] σ Q X :=
  zm_of (own := RX2) (code := cX2_takes) (maxL := 3) (ret := none) (ini := false) (lo := [(0, va_rf a0), (1, va_rf a1)]) (by decide) rfl (fun _ => by contradiction) q1228 q270 (by decide) (show (lg_sl [va_rf a0, va_rf a1]).length ≤ 3 from by simp [lg_sl, cat_rf, cat_i, cat_l, cat_f, cat_d]) (by simp [lv_args, cat_rf, cat_i, cat_l, cat_f, cat_d]) (w_X2_takes (kc := 0) (ks := 0) h)
theorem w_X2_price_4 {G : ZG} {d : Nat} {Q : Option Value → ZS → Prop} {X : String → Nat → ZS → Prop} {kc ks : Nat} {a0 : Option Nat} {a1 : Int32} {a2 : Int32} {σ : ZS} (h : f_X2_price_4 G d Q X a0 a1 a2 σ) : AW G (kX2_price d) Q X kc ks 4 [(0, va_rf a0), (1, .int a1), (2, .int a2)] [] σ := by
  refine KT_use h (fun s => AW G (kX2_price d) Q X kc ks 4 [(0, va_rf a0), (1, .int s.1), (2, .int s.2.1)] [] s.2.2) (fun s h => ?_)
  have hR4 : ∀ s : Int32 × Int32 × ZS, (fun s : Int32 × Int32 × ZS => AW G (kX2_price d) Q X kc ks 4 [(0, va_rf a0), (1, .int s.1), (2, .int s.2.1)] [] s.2.2) s → AW G (kX2_price d) Q X kc ks 4 [(0, va_rf a0), (1, .int s.1), (2, .int s.2.1)] [] s.2.2 := fun s h => h
  refine aw_iload_n (pc := 4) (j := 2) dX2_price_4 rfl rfl ?_
  refine aw_aload_n (pc := 5) (j := 0) dX2_price_5 rfl rfl ?_
  refine aw_getI (pc := 6) (ci := 2) (k := 1) dX2_price_6 rfl (Nat.le_of_ble_eq_true rfl) q406 rfl h (fun v1 h => ?_)
  refine aw_icmp_ge (pc := 9) (tgt := 30) dX2_price_9 (by decide) (fun z => ?_) (fun z => ?_)
  · replace h := h.1 z
    refine aw_iload_n (pc := 30) (j := 1) dX2_price_30 rfl rfl ?_
    exact aw_iret (pc := 31) dX2_price_31 rfl rfl h
  · replace h := h.2 z
    refine aw_iload_n (pc := 12) (j := 1) dX2_price_12 rfl rfl ?_
    refine aw_aload_n (pc := 13) (j := 0) dX2_price_13 rfl rfl ?_
    refine aw_getR (pc := 14) (ci := 2) (k := 2) dX2_price_14 rfl (Nat.le_of_ble_eq_true rfl) q408 rfl h (fun v2 h => ?_)
    refine aw_iload_n (pc := 17) (j := 2) dX2_price_17 rfl rfl ?_
    refine aw_aald (pc := 18) dX2_price_18 h (fun v3 h => ?_)
    refine aw_cv0I (pc := 19) (kd := 4) (As := []) (st := [.int s.1]) (Or.inl ⟨by decide, by decide⟩) dX2_price_19 q1249 q661 q662 q663 yh_X4_price yl_X4_price rfl (Nat.le_of_ble_eq_true rfl) h (fun v4 σ5 h => ?_) (fun E8 q9 σ10 h => ax_out rfl h)
    refine aw_iadd (pc := 22) dX2_price_22 ?_
    refine aw_nmI (fun y13 hy13 => ?_)
    replace h := h y13 hy13
    refine aw_istore_n (pc := 23) (i := 1) (lo2 := [(1, .int y13), (0, va_rf a0), (2, .int s.2.1)]) dX2_price_23 rfl (Nat.le_of_ble_eq_true rfl) (by simp [cat_rf, cat_i, cat_l, cat_f, cat_d]) ?_
    refine aw_iinc (pc := 24) (j := 2) (v := (s.2.1 + 1)) (lo2 := [(2, .int (s.2.1 + 1)), (1, .int y13), (0, va_rf a0)]) dX2_price_24 rfl rfl (Nat.le_of_ble_eq_true rfl) (by simp [cat_rf, cat_i, cat_l, cat_f, cat_d]) ?_
    refine aw_goto (pc := 27) (tgt := 4) dX2_price_27 (by decide) ?_
    exact aw_sub [2, 1, 0] rfl (hR4 (y13, (s.2.1 + 1), σ5) h)
theorem w_X2_price {G : ZG} {d : Nat} {Q : Option Value → ZS → Prop} {X : String → Nat → ZS → Prop} {kc ks : Nat} {a0 : Option Nat} {σ : ZS} (h : f_X2_price G d Q X a0 σ) : AW G (kX2_price d) Q X kc ks 0 [(0, va_rf a0)] [] σ := by
  refine aw_iconst (pc := 0) (v := (0 : Int32)) dX2_price_0 rfl ?_
  refine aw_istore_n (pc := 1) (i := 1) (lo2 := [(1, .int (0 : Int32)), (0, va_rf a0)]) dX2_price_1 rfl (Nat.le_of_ble_eq_true rfl) (by simp [cat_rf, cat_i, cat_l, cat_f, cat_d]) ?_
  refine aw_iconst (pc := 2) (v := (0 : Int32)) dX2_price_2 rfl ?_
  refine aw_istore_n (pc := 3) (i := 2) (lo2 := [(2, .int (0 : Int32)), (1, .int (0 : Int32)), (0, va_rf a0)]) dX2_price_3 rfl (Nat.le_of_ble_eq_true rfl) (by simp [cat_rf, cat_i, cat_l, cat_f, cat_d]) ?_
  exact aw_sub [2, 1, 0] rfl (w_X2_price_4 h)
theorem zm_X2_price {G : ZG} {d : Nat} {Q : Option Value → ZS → Prop} {X : String → Nat → ZS → Prop}  {a0 : Option Nat} {σ : ZS} (h : f_X2_price G d Q X a0 σ) : ZM G yX2_price d 0 0 [va_rf a0] σ Q X :=
  zm_of (own := RX2) (code := cX2_price) (maxL := 3) (ret := (some .int)) (ini := false) (lo := [(0, va_rf a0)]) (by decide) rfl (fun _ => by contradiction) q1248 q270 (by decide) (show (lg_sl [va_rf a0]).length ≤ 3 from by simp [lg_sl, cat_rf, cat_i, cat_l, cat_f, cat_d]) (by simp [lv_args, cat_rf, cat_i, cat_l, cat_f, cat_d]) (w_X2_price (kc := 0) (ks := 0) h)
theorem w_X4_init {G : ZG} {d : Nat} {Q : Option Value → ZS → Prop} {X : String → Nat → ZS → Prop} {kc ks : Nat} {a0 : Option Nat} {a1 : Option Nat} {σ : ZS} (h : f_X4_init G d Q X a0 a1 σ) : AW G (kX4_init d) Q X kc ks 0 [(0, va_rf a0), (1, va_rf a1)] [] σ := by
  refine aw_aload_n (pc := 0) (j := 0) dX4_init_0 rfl rfl ?_
  refine aw_objinit (pc := 1) dX4_init_1 q645 q300 q301 (Nat.le_of_ble_eq_true rfl) h.1 ?_
  replace h := h.2
  refine aw_aload_n (pc := 4) (j := 0) dX4_init_4 rfl rfl ?_
  refine aw_aload_n (pc := 5) (j := 1) dX4_init_5 rfl rfl ?_
  refine aw_putRF (pc := 6) (ci := 3) (k := 0) dX4_init_6 rfl (Nat.le_of_ble_eq_true rfl) rfl q646 rfl rfl rfl (nar_rf _) (fit_rf _ rfl) h (fun σ1 h => ?_)
  refine aw_aload_n (pc := 9) (j := 0) dX4_init_9 rfl rfl ?_
  refine aw_aload_n (pc := 10) (j := 1) dX4_init_10 rfl rfl ?_
  refine aw_putR (pc := 11) (ci := 3) (k := 1) dX4_init_11 rfl (Nat.le_of_ble_eq_true rfl) rfl q648 rfl (nar_rf _) (fit_rf _ rfl) h (fun σ2 h => ?_)
  exact aw_vret (pc := 14) dX4_init_14 rfl h
theorem zm_X4_init {G : ZG} {d : Nat} {Q : Option Value → ZS → Prop} {X : String → Nat → ZS → Prop}  {a0 : Option Nat} {a1 : Option Nat} {σ : ZS} (h : f_X4_init G d Q X a0 a1 σ) : ZM G yX4_init d 0 0 [va_rf a0, va_rf a1] σ Q X :=
  zm_of (own := RX4) (code := cX4_init) (maxL := 2) (ret := none) (ini := true) (lo := [(0, va_rf a0), (1, va_rf a1)]) (by decide) rfl (fun _ => rfl) q644 q274 (by decide) (show (lg_sl [va_rf a0, va_rf a1]).length ≤ 2 from by simp [lg_sl, cat_rf, cat_i, cat_l, cat_f, cat_d]) (by simp [lv_args, cat_rf, cat_i, cat_l, cat_f, cat_d]) (w_X4_init (kc := 0) (ks := 0) h)
theorem w_X4_price_14 {G : ZG} {d : Nat} {Q : Option Value → ZS → Prop} {X : String → Nat → ZS → Prop} {kc ks : Nat} {w0 : Int32} {σ : ZS} (h : f_X4_price_14 G d Q X w0 σ) : AW G (kX4_price d) Q X kc ks 14 [] [.int w0] σ := by
  exact aw_iret (pc := 14) dX4_price_14 rfl rfl h
theorem w_X4_price {G : ZG} {d : Nat} {Q : Option Value → ZS → Prop} {X : String → Nat → ZS → Prop} {kc ks : Nat} {a0 : Option Nat} {σ : ZS} (h : f_X4_price G d Q X a0 σ) : AW G (kX4_price d) Q X kc ks 0 [(0, va_rf a0)] [] σ := by
  refine aw_aload_n (pc := 0) (j := 0) dX4_price_0 rfl rfl ?_
  refine aw_cv0I (pc := 1) (kd := 4) (As := []) (st := []) (Or.inl ⟨by decide, by decide⟩) dX4_price_1 q664 q665 q666 q667 yh_X4_kind yl_X4_kind rfl (Nat.le_of_ble_eq_true rfl) h (fun v1 σ2 h => ?_) (fun E5 q6 σ7 h => ax_out rfl h)
  refine aw_bipush (pc := 4) (v := (8 : Int32)) dX4_price_4 rfl ?_
  refine aw_icmp_ge (pc := 6) (tgt := 13) dX4_price_6 (by decide) (fun z => ?_) (fun z => ?_)
  · replace h := h.1 z
    refine aw_iconst (pc := 13) (v := (4 : Int32)) dX4_price_13 rfl ?_
    exact aw_sub [] rfl (w_X4_price_14 h)
  · replace h := h.2 z
    refine aw_iconst (pc := 9) (v := (1 : Int32)) dX4_price_9 rfl ?_
    refine aw_goto (pc := 10) (tgt := 14) dX4_price_10 (by decide) ?_
    exact aw_sub [] rfl (w_X4_price_14 h)
theorem zm_X4_price {G : ZG} {d : Nat} {Q : Option Value → ZS → Prop} {X : String → Nat → ZS → Prop}  {a0 : Option Nat} {σ : ZS} (h : f_X4_price G d Q X a0 σ) : ZM G yX4_price d 0 0 [va_rf a0] σ Q X :=
  zm_of (own := RX4) (code := cX4_price) (maxL := 1) (ret := (some .int)) (ini := false) (lo := [(0, va_rf a0)]) (by decide) rfl (fun _ => by contradiction) q663 q274 (by decide) (show (lg_sl [va_rf a0]).length ≤ 1 from by simp [lg_sl, cat_rf, cat_i, cat_l, cat_f, cat_d]) (by simp [lv_args, cat_rf, cat_i, cat_l, cat_f, cat_d]) (w_X4_price (kc := 0) (ks := 0) h)
theorem w_X4_kind_141 {G : ZG} {d : Nat} {Q : Option Value → ZS → Prop} {X : String → Nat → ZS → Prop} {kc ks : Nat} {w0 : Int32} {σ : ZS} (h : f_X4_kind_141 G d Q X w0 σ) : AW G (kX4_kind d) Q X kc ks 141 [] [.int w0] σ := by
  exact aw_iret (pc := 141) dX4_kind_141 rfl rfl h
theorem w_X4_kind {G : ZG} {d : Nat} {Q : Option Value → ZS → Prop} {X : String → Nat → ZS → Prop} {kc ks : Nat} {a0 : Option Nat} {σ : ZS} (h : f_X4_kind G d Q X a0 σ) : AW G (kX4_kind d) Q X kc ks 0 [(0, va_rf a0)] [] σ := by
  refine aw_aload_n (pc := 0) (j := 0) dX4_kind_0 rfl rfl ?_
  refine aw_getR (pc := 1) (ci := 3) (k := 0) dX4_kind_1 rfl (Nat.le_of_ble_eq_true rfl) q646 rfl h (fun v1 h => ?_)
  refine aw_inst (pc := 4) (t := 14) dX4_kind_4 q668 h (fun v2 h => ?_)
  refine aw_if_eq (pc := 7) (tgt := 12) dX4_kind_7 (by decide) (fun z => ?_) (fun z => ?_)
  · replace h := h.1 z
    refine aw_aload_n (pc := 12) (j := 0) dX4_kind_12 rfl rfl ?_
    refine aw_getR (pc := 13) (ci := 3) (k := 0) dX4_kind_13 rfl (Nat.le_of_ble_eq_true rfl) q646 rfl h (fun v3 h => ?_)
    refine aw_inst (pc := 16) (t := 16) dX4_kind_16 q669 h (fun v4 h => ?_)
    refine aw_if_eq (pc := 19) (tgt := 24) dX4_kind_19 (by decide) (fun z => ?_) (fun z => ?_)
    · replace h := h.1 z
      refine aw_aload_n (pc := 24) (j := 0) dX4_kind_24 rfl rfl ?_
      refine aw_getR (pc := 25) (ci := 3) (k := 0) dX4_kind_25 rfl (Nat.le_of_ble_eq_true rfl) q646 rfl h (fun v5 h => ?_)
      refine aw_inst (pc := 28) (t := 17) dX4_kind_28 q670 h (fun v6 h => ?_)
      refine aw_if_eq (pc := 31) (tgt := 36) dX4_kind_31 (by decide) (fun z => ?_) (fun z => ?_)
      · replace h := h.1 z
        refine aw_aload_n (pc := 36) (j := 0) dX4_kind_36 rfl rfl ?_
        refine aw_getR (pc := 37) (ci := 3) (k := 0) dX4_kind_37 rfl (Nat.le_of_ble_eq_true rfl) q646 rfl h (fun v7 h => ?_)
        refine aw_inst (pc := 40) (t := 10) dX4_kind_40 q671 h (fun v8 h => ?_)
        refine aw_if_eq (pc := 43) (tgt := 48) dX4_kind_43 (by decide) (fun z => ?_) (fun z => ?_)
        · replace h := h.1 z
          refine aw_aload_n (pc := 48) (j := 0) dX4_kind_48 rfl rfl ?_
          refine aw_getR (pc := 49) (ci := 3) (k := 0) dX4_kind_49 rfl (Nat.le_of_ble_eq_true rfl) q646 rfl h (fun v9 h => ?_)
          refine aw_inst (pc := 52) (t := 11) dX4_kind_52 q672 h (fun v10 h => ?_)
          refine aw_if_eq (pc := 55) (tgt := 60) dX4_kind_55 (by decide) (fun z => ?_) (fun z => ?_)
          · replace h := h.1 z
            refine aw_aload_n (pc := 60) (j := 0) dX4_kind_60 rfl rfl ?_
            refine aw_getR (pc := 61) (ci := 3) (k := 0) dX4_kind_61 rfl (Nat.le_of_ble_eq_true rfl) q646 rfl h (fun v11 h => ?_)
            refine aw_inst (pc := 64) (t := 12) dX4_kind_64 q673 h (fun v12 h => ?_)
            refine aw_if_eq (pc := 67) (tgt := 72) dX4_kind_67 (by decide) (fun z => ?_) (fun z => ?_)
            · replace h := h.1 z
              refine aw_aload_n (pc := 72) (j := 0) dX4_kind_72 rfl rfl ?_
              refine aw_getR (pc := 73) (ci := 3) (k := 0) dX4_kind_73 rfl (Nat.le_of_ble_eq_true rfl) q646 rfl h (fun v13 h => ?_)
              refine aw_inst (pc := 76) (t := 13) dX4_kind_76 q674 h (fun v14 h => ?_)
              refine aw_if_eq (pc := 79) (tgt := 85) dX4_kind_79 (by decide) (fun z => ?_) (fun z => ?_)
              · replace h := h.1 z
                refine aw_aload_n (pc := 85) (j := 0) dX4_kind_85 rfl rfl ?_
                refine aw_getR (pc := 86) (ci := 3) (k := 0) dX4_kind_86 rfl (Nat.le_of_ble_eq_true rfl) q646 rfl h (fun v15 h => ?_)
                refine aw_inst (pc := 89) (t := 15) dX4_kind_89 q675 h (fun v16 h => ?_)
                refine aw_if_eq (pc := 92) (tgt := 98) dX4_kind_92 (by decide) (fun z => ?_) (fun z => ?_)
                · replace h := h.1 z
                  refine aw_aload_n (pc := 98) (j := 0) dX4_kind_98 rfl rfl ?_
                  refine aw_getR (pc := 99) (ci := 3) (k := 0) dX4_kind_99 rfl (Nat.le_of_ble_eq_true rfl) q646 rfl h (fun v17 h => ?_)
                  refine aw_inst (pc := 102) (t := 21) dX4_kind_102 q676 h (fun v18 h => ?_)
                  refine aw_if_eq (pc := 105) (tgt := 111) dX4_kind_105 (by decide) (fun z => ?_) (fun z => ?_)
                  · replace h := h.1 z
                    refine aw_aload_n (pc := 111) (j := 0) dX4_kind_111 rfl rfl ?_
                    refine aw_getR (pc := 112) (ci := 3) (k := 0) dX4_kind_112 rfl (Nat.le_of_ble_eq_true rfl) q646 rfl h (fun v19 h => ?_)
                    refine aw_inst (pc := 115) (t := 22) dX4_kind_115 q677 h (fun v20 h => ?_)
                    refine aw_if_eq (pc := 118) (tgt := 124) dX4_kind_118 (by decide) (fun z => ?_) (fun z => ?_)
                    · replace h := h.1 z
                      refine aw_aload_n (pc := 124) (j := 0) dX4_kind_124 rfl rfl ?_
                      refine aw_getR (pc := 125) (ci := 3) (k := 0) dX4_kind_125 rfl (Nat.le_of_ble_eq_true rfl) q646 rfl h (fun v21 h => ?_)
                      refine aw_inst (pc := 128) (t := 20) dX4_kind_128 q678 h (fun v22 h => ?_)
                      refine aw_if_eq (pc := 131) (tgt := 139) dX4_kind_131 (by decide) (fun z => ?_) (fun z => ?_)
                      · replace h := h.1 z
                        refine aw_bipush (pc := 139) (v := (11 : Int32)) dX4_kind_139 rfl ?_
                        exact aw_sub [] rfl (w_X4_kind_141 h)
                      · replace h := h.2 z
                        refine aw_bipush (pc := 134) (v := (8 : Int32)) dX4_kind_134 rfl ?_
                        refine aw_goto (pc := 136) (tgt := 141) dX4_kind_136 (by decide) ?_
                        exact aw_sub [] rfl (w_X4_kind_141 h)
                    · replace h := h.2 z
                      refine aw_bipush (pc := 121) (v := (10 : Int32)) dX4_kind_121 rfl ?_
                      exact aw_iret (pc := 123) dX4_kind_123 rfl rfl h
                  · replace h := h.2 z
                    refine aw_bipush (pc := 108) (v := (9 : Int32)) dX4_kind_108 rfl ?_
                    exact aw_iret (pc := 110) dX4_kind_110 rfl rfl h
                · replace h := h.2 z
                  refine aw_bipush (pc := 95) (v := (7 : Int32)) dX4_kind_95 rfl ?_
                  exact aw_iret (pc := 97) dX4_kind_97 rfl rfl h
              · replace h := h.2 z
                refine aw_bipush (pc := 82) (v := (6 : Int32)) dX4_kind_82 rfl ?_
                exact aw_iret (pc := 84) dX4_kind_84 rfl rfl h
            · replace h := h.2 z
              refine aw_iconst (pc := 70) (v := (5 : Int32)) dX4_kind_70 rfl ?_
              exact aw_iret (pc := 71) dX4_kind_71 rfl rfl h
          · replace h := h.2 z
            refine aw_iconst (pc := 58) (v := (4 : Int32)) dX4_kind_58 rfl ?_
            exact aw_iret (pc := 59) dX4_kind_59 rfl rfl h
        · replace h := h.2 z
          refine aw_iconst (pc := 46) (v := (3 : Int32)) dX4_kind_46 rfl ?_
          exact aw_iret (pc := 47) dX4_kind_47 rfl rfl h
      · replace h := h.2 z
        refine aw_iconst (pc := 34) (v := (2 : Int32)) dX4_kind_34 rfl ?_
        exact aw_iret (pc := 35) dX4_kind_35 rfl rfl h
    · replace h := h.2 z
      refine aw_iconst (pc := 22) (v := (1 : Int32)) dX4_kind_22 rfl ?_
      exact aw_iret (pc := 23) dX4_kind_23 rfl rfl h
  · replace h := h.2 z
    refine aw_iconst (pc := 10) (v := (0 : Int32)) dX4_kind_10 rfl ?_
    exact aw_iret (pc := 11) dX4_kind_11 rfl rfl h
theorem zm_X4_kind {G : ZG} {d : Nat} {Q : Option Value → ZS → Prop} {X : String → Nat → ZS → Prop}  {a0 : Option Nat} {σ : ZS} (h : f_X4_kind G d Q X a0 σ) : ZM G yX4_kind d 0 0 [va_rf a0] σ Q X :=
  zm_of (own := RX4) (code := cX4_kind) (maxL := 1) (ret := (some .int)) (ini := false) (lo := [(0, va_rf a0)]) (by decide) rfl (fun _ => by contradiction) q667 q274 (by decide) (show (lg_sl [va_rf a0]).length ≤ 1 from by simp [lg_sl, cat_rf, cat_i, cat_l, cat_f, cat_d]) (by simp [lv_args, cat_rf, cat_i, cat_l, cat_f, cat_d]) (w_X4_kind (kc := 0) (ks := 0) h)
theorem w_X4_isAway_12 {G : ZG} {d : Nat} {Q : Option Value → ZS → Prop} {X : String → Nat → ZS → Prop} {kc ks : Nat} {w0 : Int32} {σ : ZS} (h : f_X4_isAway_12 G d Q X w0 σ) : AW G (kX4_isAway d) Q X kc ks 12 [] [.int w0] σ := by
  exact aw_iret (pc := 12) dX4_isAway_12 rfl (nar_b h.1) h.2
theorem w_X4_isAway {G : ZG} {d : Nat} {Q : Option Value → ZS → Prop} {X : String → Nat → ZS → Prop} {kc ks : Nat} {a0 : Option Nat} {σ : ZS} (h : f_X4_isAway G d Q X a0 σ) : AW G (kX4_isAway d) Q X kc ks 0 [(0, va_rf a0)] [] σ := by
  refine aw_aload_n (pc := 0) (j := 0) dX4_isAway_0 rfl rfl ?_
  refine aw_getR (pc := 1) (ci := 3) (k := 1) dX4_isAway_1 rfl (Nat.le_of_ble_eq_true rfl) q648 rfl h (fun v1 h => ?_)
  refine aw_ifnonnull (pc := 4) (tgt := 11) dX4_isAway_4 (by decide) (fun z => ?_) (fun z => ?_)
  · replace h := h.2 z
    refine aw_iconst (pc := 11) (v := (0 : Int32)) dX4_isAway_11 rfl ?_
    exact aw_sub [] rfl (w_X4_isAway_12 h)
  · replace h := h.1 z
    refine aw_iconst (pc := 7) (v := (1 : Int32)) dX4_isAway_7 rfl ?_
    refine aw_goto (pc := 8) (tgt := 12) dX4_isAway_8 (by decide) ?_
    exact aw_sub [] rfl (w_X4_isAway_12 h)
theorem zm_X4_isAway {G : ZG} {d : Nat} {Q : Option Value → ZS → Prop} {X : String → Nat → ZS → Prop}  {a0 : Option Nat} {σ : ZS} (h : f_X4_isAway G d Q X a0 σ) : ZM G yX4_isAway d 0 0 [va_rf a0] σ Q X :=
  zm_of (own := RX4) (code := cX4_isAway) (maxL := 1) (ret := (some .boolean)) (ini := false) (lo := [(0, va_rf a0)]) (by decide) rfl (fun _ => by contradiction) q802 q274 (by decide) (show (lg_sl [va_rf a0]).length ≤ 1 from by simp [lg_sl, cat_rf, cat_i, cat_l, cat_f, cat_d]) (by simp [lv_args, cat_rf, cat_i, cat_l, cat_f, cat_d]) (w_X4_isAway (kc := 0) (ks := 0) h)
theorem w_X4_copied_24 {G : ZG} {d : Nat} {Q : Option Value → ZS → Prop} {X : String → Nat → ZS → Prop} {kc ks : Nat} {a1 : Option Nat} {σ : ZS} (h : f_X4_copied_24 G d Q X kc ks a1 σ) : AW G (kX4_copied d) Q X kc ks 24 [(1, va_rf a1)] [] σ := by
  refine aw_aload_n (pc := 24) (j := 0) dX4_copied_24 rfl rfl ?_
  exact aw_aret (pc := 25) dX4_copied_25 rfl (by first | exact Or.inl ⟨_, rfl⟩ | exact Or.inr ⟨_, rfl⟩) h
theorem w_X4_copied {G : ZG} {d : Nat} {Q : Option Value → ZS → Prop} {X : String → Nat → ZS → Prop} {kc ks : Nat} {a0 : Option Nat} {σ : ZS} (h : f_X4_copied G d Q X kc ks a0 σ) : AW G (kX4_copied d) Q X kc ks 0 [(0, va_rf a0)] [] σ := by
  refine aw_new (pc := 0) (ci := 3) dX4_copied_0 rfl q1258 q641 q274 h (fun r1 σ2 kc3 ks4 h => ?_)
  refine aw_dup (pc := 3) dX4_copied_3 (cat_rf _) ?_
  refine aw_aload_n (pc := 4) (j := 0) dX4_copied_4 rfl rfl ?_
  refine aw_cvR (pc := 5) (kd := 4) (As := []) (st := [va_rf (some r1), va_rf (some r1)]) (Or.inl ⟨by decide, by decide⟩) dX4_copied_5 q1259 q1261 qs54 q1262 yh_X4_copyOf yl_X4_copyOf rfl (Nat.le_of_ble_eq_true rfl) h (fun v5 σ6 kc7 ks8 h => ?_) (fun E9 q10 σ11 kc12 ks13 h => ax_out rfl h)
  refine aw_ci0 (pc := 8) (b := r1) (As := [va_rf v5]) (st := [va_rf (some r1)]) dX4_copied_8 q1301 q643 q644 rfl yh_X4_init yl_X4_init rfl (Nat.le_of_ble_eq_true rfl) h (fun σ15 h => ?_) (fun E18 q19 σ20 h => ax_out rfl h)
  refine aw_nmR (fun y23 hy23 => ?_)
  replace h := h y23 hy23
  refine aw_astore_n (pc := 11) (i := 1) (lo2 := [(1, va_rf y23), (0, va_rf a0)]) dX4_copied_11 rfl (Nat.le_of_ble_eq_true rfl) (by simp [cat_rf, cat_i, cat_l, cat_f, cat_d]) ?_
  refine aw_aload_n (pc := 12) (j := 1) dX4_copied_12 rfl rfl ?_
  refine aw_cv0I (pc := 13) (kd := 4) (As := []) (st := []) (Or.inl ⟨by decide, by decide⟩) dX4_copied_13 q1302 q800 q801 q802 yh_X4_isAway yl_X4_isAway rfl (Nat.le_of_ble_eq_true rfl) h (fun v24 σ25 h => ?_) (fun E28 q29 σ30 h => ax_out rfl h)
  refine aw_if_eq (pc := 16) (tgt := 24) dX4_copied_16 (by decide) (fun z => ?_) (fun z => ?_)
  · replace h := h.1 z
    exact aw_sub [0] rfl (w_X4_copied_24 h)
  · replace h := h.2 z
    refine aw_aload_n (pc := 19) (j := 0) dX4_copied_19 rfl rfl ?_
    refine aw_null (pc := 20) dX4_copied_20 ?_
    refine aw_putR (pc := 21) (ci := 3) (k := 1) dX4_copied_21 rfl (Nat.le_of_ble_eq_true rfl) rfl q648 rfl (nar_rf _) (fit_rf _ rfl) h (fun σ33 h => ?_)
    exact aw_sub [0] rfl (w_X4_copied_24 h)
theorem zm_X4_copied {G : ZG} {d : Nat} {Q : Option Value → ZS → Prop} {X : String → Nat → ZS → Prop} {kc ks : Nat} {a0 : Option Nat} {σ : ZS} (h : f_X4_copied G d Q X kc ks a0 σ) : ZM G yX4_copied d kc ks [va_rf a0] σ Q X :=
  zm_of (own := RX4) (code := cX4_copied) (maxL := 2) (ret := (some (.object "ColumnHouse$Column"))) (ini := false) (lo := [(0, va_rf a0)]) (by decide) rfl (fun _ => by contradiction) q1257 q274 (by decide) (show (lg_sl [va_rf a0]).length ≤ 2 from by simp [lg_sl, cat_rf, cat_i, cat_l, cat_f, cat_d]) (by simp [lv_args, cat_rf, cat_i, cat_l, cat_f, cat_d]) (w_X4_copied (kc := kc) (ks := ks) h)
theorem w_X4_copyOf {G : ZG} {d : Nat} {Q : Option Value → ZS → Prop} {X : String → Nat → ZS → Prop} {kc ks : Nat} {a0 : Option Nat} {σ : ZS} (h : f_X4_copyOf G d Q X kc ks a0 σ) : AW G (kX4_copyOf d) Q X kc ks 0 [(0, va_rf a0)] [] σ := by
  refine aw_aload_n (pc := 0) (j := 0) dX4_copyOf_0 rfl rfl ?_
  refine aw_getR (pc := 1) (ci := 3) (k := 0) dX4_copyOf_1 rfl (Nat.le_of_ble_eq_true rfl) q646 rfl h (fun v1 h => ?_)
  refine aw_inst (pc := 4) (t := 14) dX4_copyOf_4 q668 h (fun v2 h => ?_)
  refine aw_if_eq (pc := 7) (tgt := 21) dX4_copyOf_7 (by decide) (fun z => ?_) (fun z => ?_)
  · replace h := h.1 z
    refine aw_aload_n (pc := 21) (j := 0) dX4_copyOf_21 rfl rfl ?_
    refine aw_getR (pc := 22) (ci := 3) (k := 0) dX4_copyOf_22 rfl (Nat.le_of_ble_eq_true rfl) q646 rfl h (fun v3 h => ?_)
    refine aw_inst (pc := 25) (t := 16) dX4_copyOf_25 q669 h (fun v4 h => ?_)
    refine aw_if_eq (pc := 28) (tgt := 42) dX4_copyOf_28 (by decide) (fun z => ?_) (fun z => ?_)
    · replace h := h.1 z
      refine aw_aload_n (pc := 42) (j := 0) dX4_copyOf_42 rfl rfl ?_
      refine aw_getR (pc := 43) (ci := 3) (k := 0) dX4_copyOf_43 rfl (Nat.le_of_ble_eq_true rfl) q646 rfl h (fun v5 h => ?_)
      refine aw_inst (pc := 46) (t := 17) dX4_copyOf_46 q670 h (fun v6 h => ?_)
      refine aw_if_eq (pc := 49) (tgt := 63) dX4_copyOf_49 (by decide) (fun z => ?_) (fun z => ?_)
      · replace h := h.1 z
        refine aw_aload_n (pc := 63) (j := 0) dX4_copyOf_63 rfl rfl ?_
        refine aw_getR (pc := 64) (ci := 3) (k := 0) dX4_copyOf_64 rfl (Nat.le_of_ble_eq_true rfl) q646 rfl h (fun v7 h => ?_)
        refine aw_inst (pc := 67) (t := 10) dX4_copyOf_67 q671 h (fun v8 h => ?_)
        refine aw_if_eq (pc := 70) (tgt := 84) dX4_copyOf_70 (by decide) (fun z => ?_) (fun z => ?_)
        · replace h := h.1 z
          refine aw_aload_n (pc := 84) (j := 0) dX4_copyOf_84 rfl rfl ?_
          refine aw_getR (pc := 85) (ci := 3) (k := 0) dX4_copyOf_85 rfl (Nat.le_of_ble_eq_true rfl) q646 rfl h (fun v9 h => ?_)
          refine aw_inst (pc := 88) (t := 11) dX4_copyOf_88 q672 h (fun v10 h => ?_)
          refine aw_if_eq (pc := 91) (tgt := 105) dX4_copyOf_91 (by decide) (fun z => ?_) (fun z => ?_)
          · replace h := h.1 z
            refine aw_aload_n (pc := 105) (j := 0) dX4_copyOf_105 rfl rfl ?_
            refine aw_getR (pc := 106) (ci := 3) (k := 0) dX4_copyOf_106 rfl (Nat.le_of_ble_eq_true rfl) q646 rfl h (fun v11 h => ?_)
            refine aw_inst (pc := 109) (t := 12) dX4_copyOf_109 q673 h (fun v12 h => ?_)
            refine aw_if_eq (pc := 112) (tgt := 126) dX4_copyOf_112 (by decide) (fun z => ?_) (fun z => ?_)
            · replace h := h.1 z
              refine aw_aload_n (pc := 126) (j := 0) dX4_copyOf_126 rfl rfl ?_
              refine aw_getR (pc := 127) (ci := 3) (k := 0) dX4_copyOf_127 rfl (Nat.le_of_ble_eq_true rfl) q646 rfl h (fun v13 h => ?_)
              refine aw_inst (pc := 130) (t := 13) dX4_copyOf_130 q674 h (fun v14 h => ?_)
              refine aw_if_eq (pc := 133) (tgt := 147) dX4_copyOf_133 (by decide) (fun z => ?_) (fun z => ?_)
              · replace h := h.1 z
                refine aw_aload_n (pc := 147) (j := 0) dX4_copyOf_147 rfl rfl ?_
                refine aw_getR (pc := 148) (ci := 3) (k := 0) dX4_copyOf_148 rfl (Nat.le_of_ble_eq_true rfl) q646 rfl h (fun v15 h => ?_)
                refine aw_inst (pc := 151) (t := 15) dX4_copyOf_151 q675 h (fun v16 h => ?_)
                refine aw_if_eq (pc := 154) (tgt := 168) dX4_copyOf_154 (by decide) (fun z => ?_) (fun z => ?_)
                · replace h := h.1 z
                  refine aw_aload_n (pc := 168) (j := 0) dX4_copyOf_168 rfl rfl ?_
                  refine aw_getR (pc := 169) (ci := 3) (k := 0) dX4_copyOf_169 rfl (Nat.le_of_ble_eq_true rfl) q646 rfl h (fun v17 h => ?_)
                  refine aw_inst (pc := 172) (t := 20) dX4_copyOf_172 q678 h (fun v18 h => ?_)
                  refine aw_if_eq (pc := 175) (tgt := 189) dX4_copyOf_175 (by decide) (fun z => ?_) (fun z => ?_)
                  · replace h := h.1 z
                    refine aw_aload_n (pc := 189) (j := 0) dX4_copyOf_189 rfl rfl ?_
                    refine aw_getR (pc := 190) (ci := 3) (k := 0) dX4_copyOf_190 rfl (Nat.le_of_ble_eq_true rfl) q646 rfl h (fun v19 h => ?_)
                    refine aw_cast_ (pc := 193) (t := 23) dX4_copyOf_193 q1296 h (fun h => ?_)
                    refine aw_clone (pc := 196) (kd := 23) (cap := 60) dX4_copyOf_196 q1297 q882 q883 (by decide) (by decide) ⟨q1298, q1299, by simp [zDc, znm]⟩ (fun e => absurd e (by decide)) (Nat.le_of_ble_eq_true rfl) h (fun r20 σ21 kc22 ks23 h => ?_) (fun h => h.elim)
                    exact aw_aret (pc := 199) dX4_copyOf_199 rfl (by first | exact Or.inl ⟨_, rfl⟩ | exact Or.inr ⟨_, rfl⟩) h
                  · replace h := h.2 z
                    refine aw_aload_n (pc := 178) (j := 0) dX4_copyOf_178 rfl rfl ?_
                    refine aw_getR (pc := 179) (ci := 3) (k := 0) dX4_copyOf_179 rfl (Nat.le_of_ble_eq_true rfl) q646 rfl h (fun v24 h => ?_)
                    refine aw_cast_ (pc := 182) (t := 20) dX4_copyOf_182 q678 h (fun h => ?_)
                    refine aw_clone (pc := 185) (kd := 20) (cap := 60) dX4_copyOf_185 q1292 q882 q883 (by decide) (by decide) ⟨q1293, q1294, by simp [zDc, znm]⟩ (fun _ => ⟨⟨q3078, q3079, by simp [zDc, znm]⟩, ⟨q3081, q3082, by simp [zDc, znm]⟩⟩) (Nat.le_of_ble_eq_true rfl) h (fun r25 σ26 kc27 ks28 h => ?_) (fun h => h.elim)
                    exact aw_aret (pc := 188) dX4_copyOf_188 rfl (by first | exact Or.inl ⟨_, rfl⟩ | exact Or.inr ⟨_, rfl⟩) h
                · replace h := h.2 z
                  refine aw_aload_n (pc := 157) (j := 0) dX4_copyOf_157 rfl rfl ?_
                  refine aw_getR (pc := 158) (ci := 3) (k := 0) dX4_copyOf_158 rfl (Nat.le_of_ble_eq_true rfl) q646 rfl h (fun v29 h => ?_)
                  refine aw_cast_ (pc := 161) (t := 15) dX4_copyOf_161 q675 h (fun h => ?_)
                  refine aw_clone (pc := 164) (kd := 15) (cap := 60) dX4_copyOf_164 q1288 q882 q883 (by decide) (by decide) ⟨q1289, q1290, by simp [zDc, znm]⟩ (fun e => absurd e (by decide)) (Nat.le_of_ble_eq_true rfl) h (fun r30 σ31 kc32 ks33 h => ?_) (fun h => h.elim)
                  exact aw_aret (pc := 167) dX4_copyOf_167 rfl (by first | exact Or.inl ⟨_, rfl⟩ | exact Or.inr ⟨_, rfl⟩) h
              · replace h := h.2 z
                refine aw_aload_n (pc := 136) (j := 0) dX4_copyOf_136 rfl rfl ?_
                refine aw_getR (pc := 137) (ci := 3) (k := 0) dX4_copyOf_137 rfl (Nat.le_of_ble_eq_true rfl) q646 rfl h (fun v34 h => ?_)
                refine aw_cast_ (pc := 140) (t := 13) dX4_copyOf_140 q674 h (fun h => ?_)
                refine aw_clone (pc := 143) (kd := 13) (cap := 60) dX4_copyOf_143 q1284 q882 q883 (by decide) (by decide) ⟨q1285, q1286, by simp [zDc, znm]⟩ (fun e => absurd e (by decide)) (Nat.le_of_ble_eq_true rfl) h (fun r35 σ36 kc37 ks38 h => ?_) (fun h => h.elim)
                exact aw_aret (pc := 146) dX4_copyOf_146 rfl (by first | exact Or.inl ⟨_, rfl⟩ | exact Or.inr ⟨_, rfl⟩) h
            · replace h := h.2 z
              refine aw_aload_n (pc := 115) (j := 0) dX4_copyOf_115 rfl rfl ?_
              refine aw_getR (pc := 116) (ci := 3) (k := 0) dX4_copyOf_116 rfl (Nat.le_of_ble_eq_true rfl) q646 rfl h (fun v39 h => ?_)
              refine aw_cast_ (pc := 119) (t := 12) dX4_copyOf_119 q673 h (fun h => ?_)
              refine aw_clone (pc := 122) (kd := 12) (cap := 60) dX4_copyOf_122 q1280 q882 q883 (by decide) (by decide) ⟨q1281, q1282, by simp [zDc, znm]⟩ (fun e => absurd e (by decide)) (Nat.le_of_ble_eq_true rfl) h (fun r40 σ41 kc42 ks43 h => ?_) (fun h => h.elim)
              exact aw_aret (pc := 125) dX4_copyOf_125 rfl (by first | exact Or.inl ⟨_, rfl⟩ | exact Or.inr ⟨_, rfl⟩) h
          · replace h := h.2 z
            refine aw_aload_n (pc := 94) (j := 0) dX4_copyOf_94 rfl rfl ?_
            refine aw_getR (pc := 95) (ci := 3) (k := 0) dX4_copyOf_95 rfl (Nat.le_of_ble_eq_true rfl) q646 rfl h (fun v44 h => ?_)
            refine aw_cast_ (pc := 98) (t := 11) dX4_copyOf_98 q672 h (fun h => ?_)
            refine aw_clone (pc := 101) (kd := 11) (cap := 60) dX4_copyOf_101 q1276 q882 q883 (by decide) (by decide) ⟨q1277, q1278, by simp [zDc, znm]⟩ (fun e => absurd e (by decide)) (Nat.le_of_ble_eq_true rfl) h (fun r45 σ46 kc47 ks48 h => ?_) (fun h => h.elim)
            exact aw_aret (pc := 104) dX4_copyOf_104 rfl (by first | exact Or.inl ⟨_, rfl⟩ | exact Or.inr ⟨_, rfl⟩) h
        · replace h := h.2 z
          refine aw_aload_n (pc := 73) (j := 0) dX4_copyOf_73 rfl rfl ?_
          refine aw_getR (pc := 74) (ci := 3) (k := 0) dX4_copyOf_74 rfl (Nat.le_of_ble_eq_true rfl) q646 rfl h (fun v49 h => ?_)
          refine aw_cast_ (pc := 77) (t := 10) dX4_copyOf_77 q671 h (fun h => ?_)
          refine aw_clone (pc := 80) (kd := 10) (cap := 60) dX4_copyOf_80 q1275 q882 q883 (by decide) (by decide) ⟨q881, q884, by simp [zDc, znm]⟩ (fun e => absurd e (by decide)) (Nat.le_of_ble_eq_true rfl) h (fun r50 σ51 kc52 ks53 h => ?_) (fun h => h.elim)
          exact aw_aret (pc := 83) dX4_copyOf_83 rfl (by first | exact Or.inl ⟨_, rfl⟩ | exact Or.inr ⟨_, rfl⟩) h
      · replace h := h.2 z
        refine aw_aload_n (pc := 52) (j := 0) dX4_copyOf_52 rfl rfl ?_
        refine aw_getR (pc := 53) (ci := 3) (k := 0) dX4_copyOf_53 rfl (Nat.le_of_ble_eq_true rfl) q646 rfl h (fun v54 h => ?_)
        refine aw_cast_ (pc := 56) (t := 17) dX4_copyOf_56 q670 h (fun h => ?_)
        refine aw_clone (pc := 59) (kd := 17) (cap := 60) dX4_copyOf_59 q1271 q882 q883 (by decide) (by decide) ⟨q1272, q1273, by simp [zDc, znm]⟩ (fun e => absurd e (by decide)) (Nat.le_of_ble_eq_true rfl) h (fun r55 σ56 kc57 ks58 h => ?_) (fun h => h.elim)
        exact aw_aret (pc := 62) dX4_copyOf_62 rfl (by first | exact Or.inl ⟨_, rfl⟩ | exact Or.inr ⟨_, rfl⟩) h
    · replace h := h.2 z
      refine aw_aload_n (pc := 31) (j := 0) dX4_copyOf_31 rfl rfl ?_
      refine aw_getR (pc := 32) (ci := 3) (k := 0) dX4_copyOf_32 rfl (Nat.le_of_ble_eq_true rfl) q646 rfl h (fun v59 h => ?_)
      refine aw_cast_ (pc := 35) (t := 16) dX4_copyOf_35 q669 h (fun h => ?_)
      refine aw_clone (pc := 38) (kd := 16) (cap := 60) dX4_copyOf_38 q1267 q882 q883 (by decide) (by decide) ⟨q1268, q1269, by simp [zDc, znm]⟩ (fun e => absurd e (by decide)) (Nat.le_of_ble_eq_true rfl) h (fun r60 σ61 kc62 ks63 h => ?_) (fun h => h.elim)
      exact aw_aret (pc := 41) dX4_copyOf_41 rfl (by first | exact Or.inl ⟨_, rfl⟩ | exact Or.inr ⟨_, rfl⟩) h
  · replace h := h.2 z
    refine aw_aload_n (pc := 10) (j := 0) dX4_copyOf_10 rfl rfl ?_
    refine aw_getR (pc := 11) (ci := 3) (k := 0) dX4_copyOf_11 rfl (Nat.le_of_ble_eq_true rfl) q646 rfl h (fun v64 h => ?_)
    refine aw_cast_ (pc := 14) (t := 14) dX4_copyOf_14 q668 h (fun h => ?_)
    refine aw_clone (pc := 17) (kd := 14) (cap := 60) dX4_copyOf_17 q1263 q882 q883 (by decide) (by decide) ⟨q1264, q1265, by simp [zDc, znm]⟩ (fun e => absurd e (by decide)) (Nat.le_of_ble_eq_true rfl) h (fun r65 σ66 kc67 ks68 h => ?_) (fun h => h.elim)
    exact aw_aret (pc := 20) dX4_copyOf_20 rfl (by first | exact Or.inl ⟨_, rfl⟩ | exact Or.inr ⟨_, rfl⟩) h
theorem zm_X4_copyOf {G : ZG} {d : Nat} {Q : Option Value → ZS → Prop} {X : String → Nat → ZS → Prop} {kc ks : Nat} {a0 : Option Nat} {σ : ZS} (h : f_X4_copyOf G d Q X kc ks a0 σ) : ZM G yX4_copyOf d kc ks [va_rf a0] σ Q X :=
  zm_of (own := RX4) (code := cX4_copyOf) (maxL := 1) (ret := (some (.object "java/lang/Object"))) (ini := false) (lo := [(0, va_rf a0)]) (by decide) rfl (fun _ => by contradiction) q1262 q274 (by decide) (show (lg_sl [va_rf a0]).length ≤ 1 from by simp [lg_sl, cat_rf, cat_i, cat_l, cat_f, cat_d]) (by simp [lv_args, cat_rf, cat_i, cat_l, cat_f, cat_d]) (w_X4_copyOf (kc := kc) (ks := ks) h)
theorem w_X4_isBoxed {G : ZG} {d : Nat} {Q : Option Value → ZS → Prop} {X : String → Nat → ZS → Prop} {kc ks : Nat} {a0 : Option Nat} {σ : ZS} (h : f_X4_isBoxed G d Q X a0 σ) : AW G (kX4_isBoxed d) Q X kc ks 0 [(0, va_rf a0)] [] σ := by
  refine aw_aload_n (pc := 0) (j := 0) dX4_isBoxed_0 rfl rfl ?_
  refine aw_getR (pc := 1) (ci := 3) (k := 0) dX4_isBoxed_1 rfl (Nat.le_of_ble_eq_true rfl) q646 rfl h (fun v1 h => ?_)
  refine aw_inst (pc := 4) (t := 20) dX4_isBoxed_4 q678 h (fun v2 h => ?_)
  exact aw_iret (pc := 7) dX4_isBoxed_7 rfl (nar_b h.1) h.2
theorem zm_X4_isBoxed {G : ZG} {d : Nat} {Q : Option Value → ZS → Prop} {X : String → Nat → ZS → Prop}  {a0 : Option Nat} {σ : ZS} (h : f_X4_isBoxed G d Q X a0 σ) : ZM G yX4_isBoxed d 0 0 [va_rf a0] σ Q X :=
  zm_of (own := RX4) (code := cX4_isBoxed) (maxL := 1) (ret := (some .boolean)) (ini := false) (lo := [(0, va_rf a0)]) (by decide) rfl (fun _ => by contradiction) q1409 q274 (by decide) (show (lg_sl [va_rf a0]).length ≤ 1 from by simp [lg_sl, cat_rf, cat_i, cat_l, cat_f, cat_d]) (by simp [lv_args, cat_rf, cat_i, cat_l, cat_f, cat_d]) (w_X4_isBoxed (kc := 0) (ks := 0) h)
theorem w_X5_init {G : ZG} {d : Nat} {Q : Option Value → ZS → Prop} {X : String → Nat → ZS → Prop} {kc ks : Nat} {a0 : Option Nat} {σ : ZS} (h : f_X5_init G d Q X a0 σ) : AW G (kX5_init d) Q X kc ks 0 [(0, va_rf a0)] [] σ := by
  refine aw_aload_n (pc := 0) (j := 0) dX5_init_0 rfl rfl ?_
  refine aw_objinit (pc := 1) dX5_init_1 q831 q300 q301 (Nat.le_of_ble_eq_true rfl) h.1 ?_
  replace h := h.2
  exact aw_vret (pc := 4) dX5_init_4 rfl h
theorem zm_X5_init {G : ZG} {d : Nat} {Q : Option Value → ZS → Prop} {X : String → Nat → ZS → Prop}  {a0 : Option Nat} {σ : ZS} (h : f_X5_init G d Q X a0 σ) : ZM G yX5_init d 0 0 [va_rf a0] σ Q X :=
  zm_of (own := RX5) (code := cX5_init) (maxL := 1) (ret := none) (ini := true) (lo := [(0, va_rf a0)]) (by decide) rfl (fun _ => rfl) q830 q283 (by decide) (show (lg_sl [va_rf a0]).length ≤ 1 from by simp [lg_sl, cat_rf, cat_i, cat_l, cat_f, cat_d]) (by simp [lv_args, cat_rf, cat_i, cat_l, cat_f, cat_d]) (w_X5_init (kc := 0) (ks := 0) h)
theorem w_X5_isLike_27 {G : ZG} {d : Nat} {Q : Option Value → ZS → Prop} {X : String → Nat → ZS → Prop} {kc ks : Nat} {w0 : Int32} {σ : ZS} (h : f_X5_isLike_27 G d Q X w0 σ) : AW G (kX5_isLike d) Q X kc ks 27 [] [.int w0] σ := by
  exact aw_iret (pc := 27) dX5_isLike_27 rfl (nar_b h.1) h.2
theorem w_X5_isLike_26 {G : ZG} {d : Nat} {Q : Option Value → ZS → Prop} {X : String → Nat → ZS → Prop} {kc ks : Nat} {σ : ZS} (h : f_X5_isLike_26 G d Q X σ) : AW G (kX5_isLike d) Q X kc ks 26 [] [] σ := by
  refine aw_iconst (pc := 26) (v := (0 : Int32)) dX5_isLike_26 rfl ?_
  exact w_X5_isLike_27 h
theorem w_X5_isLike {G : ZG} {d : Nat} {Q : Option Value → ZS → Prop} {X : String → Nat → ZS → Prop} {kc ks : Nat} {a0 : Option Nat} {a1 : Option Nat} {σ : ZS} (h : f_X5_isLike G d Q X a0 a1 σ) : AW G (kX5_isLike d) Q X kc ks 0 [(0, va_rf a0), (1, va_rf a1)] [] σ := by
  refine aw_aload_n (pc := 0) (j := 1) dX5_isLike_0 rfl rfl ?_
  refine aw_inst (pc := 1) (t := 24) dX5_isLike_1 q1592 h (fun v1 h => ?_)
  refine aw_if_eq (pc := 4) (tgt := 26) dX5_isLike_4 (by decide) (fun z => ?_) (fun z => ?_)
  · replace h := h.1 z
    exact aw_sub [] rfl (w_X5_isLike_26 h)
  · replace h := h.2 z
    refine aw_aload_n (pc := 7) (j := 0) dX5_isLike_7 rfl rfl ?_
    refine aw_pv0D (pc := 8) (x9 := ⟨"ColumnHouse$NumberBox", "value", "()D"⟩) (L := [(6, yX6_value), (7, yX7_value)]) (As := []) (st := []) dX5_isLike_8 q1593 q1424 (by simp [zDc]) (List.forall_mem_cons.mpr ⟨⟨⟨by decide, by decide⟩, q1429, q1428, ⟨_, _, _, q1430⟩⟩, (List.forall_mem_cons.mpr ⟨⟨⟨by decide, by decide⟩, q1426, q1425, ⟨_, _, _, q1427⟩⟩, List.forall_mem_nil _⟩)⟩) (by decide) rfl rfl (Nat.le_of_ble_eq_true rfl) h (fun v2 σ3 h => ?_) (fun E4 q5 σ6 h => ax_out rfl h) (fun h => h.elim)
    refine aw_aload_n (pc := 11) (j := 1) dX5_isLike_11 rfl rfl ?_
    refine aw_cast_ (pc := 12) (t := 24) dX5_isLike_12 q1592 h (fun h => ?_)
    refine aw_pv0D (pc := 15) (x9 := ⟨"ColumnHouse$NumberBox", "value", "()D"⟩) (L := [(6, yX6_value), (7, yX7_value)]) (As := []) (st := [.double v2]) dX5_isLike_15 q1593 q1424 (by simp [zDc]) (List.forall_mem_cons.mpr ⟨⟨⟨by decide, by decide⟩, q1429, q1428, ⟨_, _, _, q1430⟩⟩, (List.forall_mem_cons.mpr ⟨⟨⟨by decide, by decide⟩, q1426, q1425, ⟨_, _, _, q1427⟩⟩, List.forall_mem_nil _⟩)⟩) (by decide) rfl rfl (Nat.le_of_ble_eq_true rfl) h (fun v7 σ8 h => ?_) (fun E9 q10 σ11 h => ax_out rfl h) (fun h => h.elim)
    refine aw_dcmp (pc := 18) dX5_isLike_18 ?_
    refine aw_if_ne (pc := 19) (tgt := 26) dX5_isLike_19 (by decide) (fun z => ?_) (fun z => ?_)
    · replace h := h.2 z
      exact aw_sub [] rfl (w_X5_isLike_26 h)
    · replace h := h.1 z
      refine aw_iconst (pc := 22) (v := (1 : Int32)) dX5_isLike_22 rfl ?_
      refine aw_goto (pc := 23) (tgt := 27) dX5_isLike_23 (by decide) ?_
      exact aw_sub [] rfl (w_X5_isLike_27 h)
theorem zm_X5_isLike {G : ZG} {d : Nat} {Q : Option Value → ZS → Prop} {X : String → Nat → ZS → Prop}  {a0 : Option Nat} {a1 : Option Nat} {σ : ZS} (h : f_X5_isLike G d Q X a0 a1 σ) : ZM G yX5_isLike d 0 0 [va_rf a0, va_rf a1] σ Q X :=
  zm_of (own := RX5) (code := cX5_isLike) (maxL := 2) (ret := (some .boolean)) (ini := false) (lo := [(0, va_rf a0), (1, va_rf a1)]) (by decide) rfl (fun _ => by contradiction) q1591 q283 (by decide) (show (lg_sl [va_rf a0, va_rf a1]).length ≤ 2 from by simp [lg_sl, cat_rf, cat_i, cat_l, cat_f, cat_d]) (by simp [lv_args, cat_rf, cat_i, cat_l, cat_f, cat_d]) (w_X5_isLike (kc := 0) (ks := 0) h)
theorem w_X5_isAhead_27 {G : ZG} {d : Nat} {Q : Option Value → ZS → Prop} {X : String → Nat → ZS → Prop} {kc ks : Nat} {w0 : Int32} {σ : ZS} (h : f_X5_isAhead_27 G d Q X w0 σ) : AW G (kX5_isAhead d) Q X kc ks 27 [] [.int w0] σ := by
  exact aw_iret (pc := 27) dX5_isAhead_27 rfl (nar_b h.1) h.2
theorem w_X5_isAhead_22 {G : ZG} {d : Nat} {Q : Option Value → ZS → Prop} {X : String → Nat → ZS → Prop} {kc ks : Nat} {σ : ZS} (h : f_X5_isAhead_22 G d Q X σ) : AW G (kX5_isAhead d) Q X kc ks 22 [] [] σ := by
  refine aw_iconst (pc := 22) (v := (1 : Int32)) dX5_isAhead_22 rfl ?_
  refine aw_goto (pc := 23) (tgt := 27) dX5_isAhead_23 (by decide) ?_
  exact w_X5_isAhead_27 h
theorem w_X5_isAhead {G : ZG} {d : Nat} {Q : Option Value → ZS → Prop} {X : String → Nat → ZS → Prop} {kc ks : Nat} {a0 : Option Nat} {a1 : Option Nat} {σ : ZS} (h : f_X5_isAhead G d Q X a0 a1 σ) : AW G (kX5_isAhead d) Q X kc ks 0 [(0, va_rf a0), (1, va_rf a1)] [] σ := by
  refine aw_aload_n (pc := 0) (j := 1) dX5_isAhead_0 rfl rfl ?_
  refine aw_inst (pc := 1) (t := 24) dX5_isAhead_1 q1592 h (fun v1 h => ?_)
  refine aw_if_eq (pc := 4) (tgt := 22) dX5_isAhead_4 (by decide) (fun z => ?_) (fun z => ?_)
  · replace h := h.1 z
    exact aw_sub [] rfl (w_X5_isAhead_22 h)
  · replace h := h.2 z
    refine aw_aload_n (pc := 7) (j := 0) dX5_isAhead_7 rfl rfl ?_
    refine aw_pv0D (pc := 8) (x9 := ⟨"ColumnHouse$NumberBox", "value", "()D"⟩) (L := [(6, yX6_value), (7, yX7_value)]) (As := []) (st := []) dX5_isAhead_8 q1593 q1424 (by simp [zDc]) (List.forall_mem_cons.mpr ⟨⟨⟨by decide, by decide⟩, q1429, q1428, ⟨_, _, _, q1430⟩⟩, (List.forall_mem_cons.mpr ⟨⟨⟨by decide, by decide⟩, q1426, q1425, ⟨_, _, _, q1427⟩⟩, List.forall_mem_nil _⟩)⟩) (by decide) rfl rfl (Nat.le_of_ble_eq_true rfl) h (fun v2 σ3 h => ?_) (fun E4 q5 σ6 h => ax_out rfl h) (fun h => h.elim)
    refine aw_aload_n (pc := 11) (j := 1) dX5_isAhead_11 rfl rfl ?_
    refine aw_cast_ (pc := 12) (t := 24) dX5_isAhead_12 q1592 h (fun h => ?_)
    refine aw_pv0D (pc := 15) (x9 := ⟨"ColumnHouse$NumberBox", "value", "()D"⟩) (L := [(6, yX6_value), (7, yX7_value)]) (As := []) (st := [.double v2]) dX5_isAhead_15 q1593 q1424 (by simp [zDc]) (List.forall_mem_cons.mpr ⟨⟨⟨by decide, by decide⟩, q1429, q1428, ⟨_, _, _, q1430⟩⟩, (List.forall_mem_cons.mpr ⟨⟨⟨by decide, by decide⟩, q1426, q1425, ⟨_, _, _, q1427⟩⟩, List.forall_mem_nil _⟩)⟩) (by decide) rfl rfl (Nat.le_of_ble_eq_true rfl) h (fun v7 σ8 h => ?_) (fun E9 q10 σ11 h => ax_out rfl h) (fun h => h.elim)
    refine aw_dcmp (pc := 18) dX5_isAhead_18 ?_
    refine aw_if_ge (pc := 19) (tgt := 26) dX5_isAhead_19 (by decide) (fun z => ?_) (fun z => ?_)
    · replace h := h.1 z
      refine aw_iconst (pc := 26) (v := (0 : Int32)) dX5_isAhead_26 rfl ?_
      exact aw_sub [] rfl (w_X5_isAhead_27 h)
    · replace h := h.2 z
      exact aw_sub [] rfl (w_X5_isAhead_22 h)
theorem zm_X5_isAhead {G : ZG} {d : Nat} {Q : Option Value → ZS → Prop} {X : String → Nat → ZS → Prop}  {a0 : Option Nat} {a1 : Option Nat} {σ : ZS} (h : f_X5_isAhead G d Q X a0 a1 σ) : ZM G yX5_isAhead d 0 0 [va_rf a0, va_rf a1] σ Q X :=
  zm_of (own := RX5) (code := cX5_isAhead) (maxL := 2) (ret := (some .boolean)) (ini := false) (lo := [(0, va_rf a0), (1, va_rf a1)]) (by decide) rfl (fun _ => by contradiction) q1999 q283 (by decide) (show (lg_sl [va_rf a0, va_rf a1]).length ≤ 2 from by simp [lg_sl, cat_rf, cat_i, cat_l, cat_f, cat_d]) (by simp [lv_args, cat_rf, cat_i, cat_l, cat_f, cat_d]) (w_X5_isAhead (kc := 0) (ks := 0) h)
theorem w_X6_init {G : ZG} {d : Nat} {Q : Option Value → ZS → Prop} {X : String → Nat → ZS → Prop} {kc ks : Nat} {a0 : Option Nat} {a1 : Int32} {σ : ZS} (h : f_X6_init G d Q X a0 a1 σ) : AW G (kX6_init d) Q X kc ks 0 [(0, va_rf a0), (1, .int a1)] [] σ := by
  refine aw_aload_n (pc := 0) (j := 0) dX6_init_0 rfl rfl ?_
  obtain ⟨b10, hb10, h⟩ := h
  first | subst hb10 | rw [hb10]
  refine aw_cin0 (pc := 1) (b := b10) (As := []) (st := []) (host := "ColumnHouse") dX6_init_1 (by simp [zNst, RX6]) q829 q830 rfl yh_X5_init yl_X5_init rfl (Nat.le_of_ble_eq_true rfl) h (fun σ2 h => ?_) (fun E5 q6 σ7 h => ax_out rfl h)
  refine aw_aload_n (pc := 4) (j := 0) dX6_init_4 rfl rfl ?_
  refine aw_iload_n (pc := 5) (j := 1) dX6_init_5 rfl rfl ?_
  refine aw_putIF (pc := 6) (ci := 5) (k := 0) dX6_init_6 rfl (Nat.le_of_ble_eq_true rfl) rfl q832 rfl rfl rfl rfl rfl h (fun σ11 h => ?_)
  exact aw_vret (pc := 9) dX6_init_9 rfl h
theorem zm_X6_init {G : ZG} {d : Nat} {Q : Option Value → ZS → Prop} {X : String → Nat → ZS → Prop}  {a0 : Option Nat} {a1 : Int32} {σ : ZS} (h : f_X6_init G d Q X a0 a1 σ) : ZM G yX6_init d 0 0 [va_rf a0, .int a1] σ Q X :=
  zm_of (own := RX6) (code := cX6_init) (maxL := 2) (ret := none) (ini := true) (lo := [(0, va_rf a0), (1, .int a1)]) (by decide) rfl (fun _ => rfl) q827 q284 (by decide) (show (lg_sl [va_rf a0, .int a1]).length ≤ 2 from by simp [lg_sl, cat_rf, cat_i, cat_l, cat_f, cat_d]) (by simp [lv_args, cat_rf, cat_i, cat_l, cat_f, cat_d]) (w_X6_init (kc := 0) (ks := 0) h)
theorem w_X6_value {G : ZG} {d : Nat} {Q : Option Value → ZS → Prop} {X : String → Nat → ZS → Prop} {kc ks : Nat} {a0 : Option Nat} {σ : ZS} (h : f_X6_value G d Q X a0 σ) : AW G (kX6_value d) Q X kc ks 0 [(0, va_rf a0)] [] σ := by
  refine aw_aload_n (pc := 0) (j := 0) dX6_value_0 rfl rfl ?_
  refine aw_getI (pc := 1) (ci := 5) (k := 0) dX6_value_1 rfl (Nat.le_of_ble_eq_true rfl) q832 rfl h (fun v1 h => ?_)
  refine aw_i2d (pc := 4) dX6_value_4 ?_
  exact aw_dret (pc := 5) dX6_value_5 rfl h
theorem zm_X6_value {G : ZG} {d : Nat} {Q : Option Value → ZS → Prop} {X : String → Nat → ZS → Prop}  {a0 : Option Nat} {σ : ZS} (h : f_X6_value G d Q X a0 σ) : ZM G yX6_value d 0 0 [va_rf a0] σ Q X :=
  zm_of (own := RX6) (code := cX6_value) (maxL := 1) (ret := (some .double)) (ini := false) (lo := [(0, va_rf a0)]) (by decide) rfl (fun _ => by contradiction) q1430 q284 (by decide) (show (lg_sl [va_rf a0]).length ≤ 1 from by simp [lg_sl, cat_rf, cat_i, cat_l, cat_f, cat_d]) (by simp [lv_args, cat_rf, cat_i, cat_l, cat_f, cat_d]) (w_X6_value (kc := 0) (ks := 0) h)
theorem w_X6_sort {G : ZG} {d : Nat} {Q : Option Value → ZS → Prop} {X : String → Nat → ZS → Prop} {kc ks : Nat} {a0 : Option Nat} {σ : ZS} (h : f_X6_sort G d Q X a0 σ) : AW G (kX6_sort d) Q X kc ks 0 [(0, va_rf a0)] [] σ := by
  refine aw_iconst (pc := 0) (v := (1 : Int32)) dX6_sort_0 rfl ?_
  exact aw_iret (pc := 1) dX6_sort_1 rfl rfl h
theorem zm_X6_sort {G : ZG} {d : Nat} {Q : Option Value → ZS → Prop} {X : String → Nat → ZS → Prop}  {a0 : Option Nat} {σ : ZS} (h : f_X6_sort G d Q X a0 σ) : ZM G yX6_sort d 0 0 [va_rf a0] σ Q X :=
  zm_of (own := RX6) (code := cX6_sort) (maxL := 1) (ret := (some .int)) (ini := false) (lo := [(0, va_rf a0)]) (by decide) rfl (fun _ => by contradiction) q1618 q284 (by decide) (show (lg_sl [va_rf a0]).length ≤ 1 from by simp [lg_sl, cat_rf, cat_i, cat_l, cat_f, cat_d]) (by simp [lv_args, cat_rf, cat_i, cat_l, cat_f, cat_d]) (w_X6_sort (kc := 0) (ks := 0) h)
theorem w_X6_told {G : ZG} {d : Nat} {Q : Option Value → ZS → Prop} {X : String → Nat → ZS → Prop} {kc ks : Nat} {a0 : Option Nat} {σ : ZS} (h : f_X6_told G d Q X a0 σ) : AW G (kX6_told d) Q X kc ks 0 [(0, va_rf a0)] [] σ := by
  refine aw_aload_n (pc := 0) (j := 0) dX6_told_0 rfl rfl ?_
  refine aw_getI (pc := 1) (ci := 5) (k := 0) dX6_told_1 rfl (Nat.le_of_ble_eq_true rfl) q832 rfl h (fun v1 h => ?_)
  refine aw_i2l (pc := 4) dX6_told_4 ?_
  exact aw_lret (pc := 5) dX6_told_5 rfl h
theorem zm_X6_told {G : ZG} {d : Nat} {Q : Option Value → ZS → Prop} {X : String → Nat → ZS → Prop}  {a0 : Option Nat} {σ : ZS} (h : f_X6_told G d Q X a0 σ) : ZM G yX6_told d 0 0 [va_rf a0] σ Q X :=
  zm_of (own := RX6) (code := cX6_told) (maxL := 1) (ret := (some .long)) (ini := false) (lo := [(0, va_rf a0)]) (by decide) rfl (fun _ => by contradiction) q1639 q284 (by decide) (show (lg_sl [va_rf a0]).length ≤ 1 from by simp [lg_sl, cat_rf, cat_i, cat_l, cat_f, cat_d]) (by simp [lv_args, cat_rf, cat_i, cat_l, cat_f, cat_d]) (w_X6_told (kc := 0) (ks := 0) h)
theorem w_X7_init {G : ZG} {d : Nat} {Q : Option Value → ZS → Prop} {X : String → Nat → ZS → Prop} {kc ks : Nat} {a0 : Option Nat} {a1 : UInt64} {σ : ZS} (h : f_X7_init G d Q X a0 a1 σ) : AW G (kX7_init d) Q X kc ks 0 [(0, va_rf a0), (1, .double a1)] [] σ := by
  refine aw_aload_n (pc := 0) (j := 0) dX7_init_0 rfl rfl ?_
  obtain ⟨b10, hb10, h⟩ := h
  first | subst hb10 | rw [hb10]
  refine aw_cin0 (pc := 1) (b := b10) (As := []) (st := []) (host := "ColumnHouse") dX7_init_1 (by simp [zNst, RX7]) q829 q830 rfl yh_X5_init yl_X5_init rfl (Nat.le_of_ble_eq_true rfl) h (fun σ2 h => ?_) (fun E5 q6 σ7 h => ax_out rfl h)
  refine aw_aload_n (pc := 4) (j := 0) dX7_init_4 rfl rfl ?_
  refine aw_dload_n (pc := 5) (j := 1) dX7_init_5 rfl rfl ?_
  refine aw_putDF (pc := 6) (ci := 6) (k := 0) dX7_init_6 rfl (Nat.le_of_ble_eq_true rfl) rfl q842 rfl rfl rfl rfl rfl h (fun σ11 h => ?_)
  exact aw_vret (pc := 9) dX7_init_9 rfl h
theorem zm_X7_init {G : ZG} {d : Nat} {Q : Option Value → ZS → Prop} {X : String → Nat → ZS → Prop}  {a0 : Option Nat} {a1 : UInt64} {σ : ZS} (h : f_X7_init G d Q X a0 a1 σ) : ZM G yX7_init d 0 0 [va_rf a0, .double a1] σ Q X :=
  zm_of (own := RX7) (code := cX7_init) (maxL := 3) (ret := none) (ini := true) (lo := [(0, va_rf a0), (1, .double a1)]) (by decide) rfl (fun _ => rfl) q840 q285 (by decide) (show (lg_sl [va_rf a0, .double a1]).length ≤ 3 from by simp [lg_sl, cat_rf, cat_i, cat_l, cat_f, cat_d]) (by simp [lv_args, cat_rf, cat_i, cat_l, cat_f, cat_d]) (w_X7_init (kc := 0) (ks := 0) h)
theorem w_X7_value {G : ZG} {d : Nat} {Q : Option Value → ZS → Prop} {X : String → Nat → ZS → Prop} {kc ks : Nat} {a0 : Option Nat} {σ : ZS} (h : f_X7_value G d Q X a0 σ) : AW G (kX7_value d) Q X kc ks 0 [(0, va_rf a0)] [] σ := by
  refine aw_aload_n (pc := 0) (j := 0) dX7_value_0 rfl rfl ?_
  refine aw_getD (pc := 1) (ci := 6) (k := 0) dX7_value_1 rfl (Nat.le_of_ble_eq_true rfl) q842 rfl h (fun v1 h => ?_)
  exact aw_dret (pc := 4) dX7_value_4 rfl h
theorem zm_X7_value {G : ZG} {d : Nat} {Q : Option Value → ZS → Prop} {X : String → Nat → ZS → Prop}  {a0 : Option Nat} {σ : ZS} (h : f_X7_value G d Q X a0 σ) : ZM G yX7_value d 0 0 [va_rf a0] σ Q X :=
  zm_of (own := RX7) (code := cX7_value) (maxL := 1) (ret := (some .double)) (ini := false) (lo := [(0, va_rf a0)]) (by decide) rfl (fun _ => by contradiction) q1427 q285 (by decide) (show (lg_sl [va_rf a0]).length ≤ 1 from by simp [lg_sl, cat_rf, cat_i, cat_l, cat_f, cat_d]) (by simp [lv_args, cat_rf, cat_i, cat_l, cat_f, cat_d]) (w_X7_value (kc := 0) (ks := 0) h)
theorem w_X7_sort {G : ZG} {d : Nat} {Q : Option Value → ZS → Prop} {X : String → Nat → ZS → Prop} {kc ks : Nat} {a0 : Option Nat} {σ : ZS} (h : f_X7_sort G d Q X a0 σ) : AW G (kX7_sort d) Q X kc ks 0 [(0, va_rf a0)] [] σ := by
  refine aw_iconst (pc := 0) (v := (2 : Int32)) dX7_sort_0 rfl ?_
  exact aw_iret (pc := 1) dX7_sort_1 rfl rfl h
theorem zm_X7_sort {G : ZG} {d : Nat} {Q : Option Value → ZS → Prop} {X : String → Nat → ZS → Prop}  {a0 : Option Nat} {σ : ZS} (h : f_X7_sort G d Q X a0 σ) : ZM G yX7_sort d 0 0 [va_rf a0] σ Q X :=
  zm_of (own := RX7) (code := cX7_sort) (maxL := 1) (ret := (some .int)) (ini := false) (lo := [(0, va_rf a0)]) (by decide) rfl (fun _ => by contradiction) q1607 q285 (by decide) (show (lg_sl [va_rf a0]).length ≤ 1 from by simp [lg_sl, cat_rf, cat_i, cat_l, cat_f, cat_d]) (by simp [lv_args, cat_rf, cat_i, cat_l, cat_f, cat_d]) (w_X7_sort (kc := 0) (ks := 0) h)
theorem w_X7_told {G : ZG} {d : Nat} {Q : Option Value → ZS → Prop} {X : String → Nat → ZS → Prop} {kc ks : Nat} {a0 : Option Nat} {σ : ZS} (h : f_X7_told G d Q X a0 σ) : AW G (kX7_told d) Q X kc ks 0 [(0, va_rf a0)] [] σ := by
  refine aw_aload_n (pc := 0) (j := 0) dX7_told_0 rfl rfl ?_
  refine aw_getD (pc := 1) (ci := 6) (k := 0) dX7_told_1 rfl (Nat.le_of_ble_eq_true rfl) q842 rfl h (fun v1 h => ?_)
  refine aw_cs0L (pc := 4) (As := [.double v1]) (st := []) dX7_told_4 q1628 q972 q280 q973 yh_J9_doubleToLongBits yl_J9_doubleToLongBits rfl (Nat.le_of_ble_eq_true rfl) h (fun v2 σ3 h => ?_) (fun E6 q7 σ8 h => ax_out rfl h)
  exact aw_lret (pc := 7) dX7_told_7 rfl h
theorem zm_X7_told {G : ZG} {d : Nat} {Q : Option Value → ZS → Prop} {X : String → Nat → ZS → Prop}  {a0 : Option Nat} {σ : ZS} (h : f_X7_told G d Q X a0 σ) : ZM G yX7_told d 0 0 [va_rf a0] σ Q X :=
  zm_of (own := RX7) (code := cX7_told) (maxL := 1) (ret := (some .long)) (ini := false) (lo := [(0, va_rf a0)]) (by decide) rfl (fun _ => by contradiction) q1627 q285 (by decide) (show (lg_sl [va_rf a0]).length ≤ 1 from by simp [lg_sl, cat_rf, cat_i, cat_l, cat_f, cat_d]) (by simp [lv_args, cat_rf, cat_i, cat_l, cat_f, cat_d]) (w_X7_told (kc := 0) (ks := 0) h)
theorem w_X8_init {G : ZG} {d : Nat} {Q : Option Value → ZS → Prop} {X : String → Nat → ZS → Prop} {kc ks : Nat} {a0 : Option Nat} {a1 : Int64} {σ : ZS} (h : f_X8_init G d Q X a0 a1 σ) : AW G (kX8_init d) Q X kc ks 0 [(0, va_rf a0), (1, .long a1)] [] σ := by
  refine aw_aload_n (pc := 0) (j := 0) dX8_init_0 rfl rfl ?_
  refine aw_objinit (pc := 1) dX8_init_1 q854 q300 q301 (Nat.le_of_ble_eq_true rfl) h.1 ?_
  replace h := h.2
  refine aw_aload_n (pc := 4) (j := 0) dX8_init_4 rfl rfl ?_
  refine aw_lload_n (pc := 5) (j := 1) dX8_init_5 rfl rfl ?_
  refine aw_putLF (pc := 6) (ci := 7) (k := 0) dX8_init_6 rfl (Nat.le_of_ble_eq_true rfl) rfl q855 rfl rfl rfl rfl rfl h (fun σ1 h => ?_)
  exact aw_vret (pc := 9) dX8_init_9 rfl h
theorem zm_X8_init {G : ZG} {d : Nat} {Q : Option Value → ZS → Prop} {X : String → Nat → ZS → Prop}  {a0 : Option Nat} {a1 : Int64} {σ : ZS} (h : f_X8_init G d Q X a0 a1 σ) : ZM G yX8_init d 0 0 [va_rf a0, .long a1] σ Q X :=
  zm_of (own := RX8) (code := cX8_init) (maxL := 3) (ret := none) (ini := true) (lo := [(0, va_rf a0), (1, .long a1)]) (by decide) rfl (fun _ => rfl) q853 q286 (by decide) (show (lg_sl [va_rf a0, .long a1]).length ≤ 3 from by simp [lg_sl, cat_rf, cat_i, cat_l, cat_f, cat_d]) (by simp [lv_args, cat_rf, cat_i, cat_l, cat_f, cat_d]) (w_X8_init (kc := 0) (ks := 0) h)
theorem w_X8_sort {G : ZG} {d : Nat} {Q : Option Value → ZS → Prop} {X : String → Nat → ZS → Prop} {kc ks : Nat} {a0 : Option Nat} {σ : ZS} (h : f_X8_sort G d Q X a0 σ) : AW G (kX8_sort d) Q X kc ks 0 [(0, va_rf a0)] [] σ := by
  refine aw_iconst (pc := 0) (v := (3 : Int32)) dX8_sort_0 rfl ?_
  exact aw_iret (pc := 1) dX8_sort_1 rfl rfl h
theorem zm_X8_sort {G : ZG} {d : Nat} {Q : Option Value → ZS → Prop} {X : String → Nat → ZS → Prop}  {a0 : Option Nat} {σ : ZS} (h : f_X8_sort G d Q X a0 σ) : ZM G yX8_sort d 0 0 [va_rf a0] σ Q X :=
  zm_of (own := RX8) (code := cX8_sort) (maxL := 1) (ret := (some .int)) (ini := false) (lo := [(0, va_rf a0)]) (by decide) rfl (fun _ => by contradiction) q1612 q286 (by decide) (show (lg_sl [va_rf a0]).length ≤ 1 from by simp [lg_sl, cat_rf, cat_i, cat_l, cat_f, cat_d]) (by simp [lv_args, cat_rf, cat_i, cat_l, cat_f, cat_d]) (w_X8_sort (kc := 0) (ks := 0) h)
theorem w_X8_told_29 {G : ZG} {d : Nat} {Q : Option Value → ZS → Prop} {X : String → Nat → ZS → Prop} {kc ks : Nat} {a1 : Int64} {σ : ZS} (h : f_X8_told_29 G d Q X a1 σ) : AW G (kX8_told d) Q X kc ks 29 [(1, .long a1)] [] σ := by
  refine aw_lload_n (pc := 29) (j := 0) dX8_told_29 rfl rfl ?_
  exact aw_lret (pc := 30) dX8_told_30 rfl h
theorem w_X8_told_5 {G : ZG} {d : Nat} {Q : Option Value → ZS → Prop} {X : String → Nat → ZS → Prop} {kc ks : Nat} {a1 : Int64} {σ : ZS} (h : f_X8_told_5 G d Q X a1 σ) : AW G (kX8_told d) Q X kc ks 5 [(1, .long a1)] [] σ := by
  refine KT_use h (fun s => AW G (kX8_told d) Q X kc ks 5 [(1, .long s.1)] [] s.2) (fun s h => ?_)
  have hR5 : ∀ s : Int64 × ZS, (fun s : Int64 × ZS => AW G (kX8_told d) Q X kc ks 5 [(1, .long s.1)] [] s.2) s → AW G (kX8_told d) Q X kc ks 5 [(1, .long s.1)] [] s.2 := fun s h => h
  refine aw_lload_n (pc := 5) (j := 0) dX8_told_5 rfl rfl ?_
  refine aw_lconst (pc := 6) (v := (0 : Int64)) dX8_told_6 rfl ?_
  refine aw_lcmp (pc := 7) dX8_told_7 ?_
  refine aw_if_eq (pc := 8) (tgt := 29) dX8_told_8 (by decide) (fun z => ?_) (fun z => ?_)
  · replace h := h.1 z
    exact w_X8_told_29 h
  · replace h := h.2 z
    refine aw_lload_n (pc := 11) (j := 0) dX8_told_11 rfl rfl ?_
    refine aw_ldc2 (pc := 12) (v := (255 : Int64)) dX8_told_12 q1634 ?_
    refine aw_land (pc := 15) dX8_told_15 ?_
    refine aw_lconst (pc := 16) (v := (0 : Int64)) dX8_told_16 rfl ?_
    refine aw_lcmp (pc := 17) dX8_told_17 ?_
    refine aw_if_ne (pc := 18) (tgt := 29) dX8_told_18 (by decide) (fun z => ?_) (fun z => ?_)
    · replace h := h.2 z
      exact w_X8_told_29 h
    · replace h := h.1 z
      refine aw_lload_n (pc := 21) (j := 0) dX8_told_21 rfl rfl ?_
      refine aw_bipush (pc := 22) (v := (8 : Int32)) dX8_told_22 rfl ?_
      refine aw_lushr (pc := 24) dX8_told_24 ?_
      refine aw_nmL (fun y1 hy1 => ?_)
      replace h := h y1 hy1
      refine aw_lstore_n (pc := 25) (i := 1) (lo2 := [(1, .long y1)]) dX8_told_25 rfl (Nat.le_of_ble_eq_true rfl) (by simp [cat_rf, cat_i, cat_l, cat_f, cat_d]) ?_
      refine aw_goto (pc := 26) (tgt := 5) dX8_told_26 (by decide) ?_
      exact hR5 (y1, s.2) h
theorem w_X8_told {G : ZG} {d : Nat} {Q : Option Value → ZS → Prop} {X : String → Nat → ZS → Prop} {kc ks : Nat} {a0 : Option Nat} {σ : ZS} (h : f_X8_told G d Q X a0 σ) : AW G (kX8_told d) Q X kc ks 0 [(0, va_rf a0)] [] σ := by
  refine aw_aload_n (pc := 0) (j := 0) dX8_told_0 rfl rfl ?_
  refine aw_getL (pc := 1) (ci := 7) (k := 0) dX8_told_1 rfl (Nat.le_of_ble_eq_true rfl) q855 rfl h (fun v1 h => ?_)
  refine aw_lstore_n (pc := 4) (i := 1) (lo2 := [(1, .long v1), (0, va_rf a0)]) dX8_told_4 rfl (Nat.le_of_ble_eq_true rfl) (by simp [cat_rf, cat_i, cat_l, cat_f, cat_d]) ?_
  exact aw_sub [0] rfl (w_X8_told_5 h)
theorem zm_X8_told {G : ZG} {d : Nat} {Q : Option Value → ZS → Prop} {X : String → Nat → ZS → Prop}  {a0 : Option Nat} {σ : ZS} (h : f_X8_told G d Q X a0 σ) : ZM G yX8_told d 0 0 [va_rf a0] σ Q X :=
  zm_of (own := RX8) (code := cX8_told) (maxL := 3) (ret := (some .long)) (ini := false) (lo := [(0, va_rf a0)]) (by decide) rfl (fun _ => by contradiction) q1633 q286 (by decide) (show (lg_sl [va_rf a0]).length ≤ 3 from by simp [lg_sl, cat_rf, cat_i, cat_l, cat_f, cat_d]) (by simp [lv_args, cat_rf, cat_i, cat_l, cat_f, cat_d]) (w_X8_told (kc := 0) (ks := 0) h)
theorem w_X8_isLess_25 {G : ZG} {d : Nat} {Q : Option Value → ZS → Prop} {X : String → Nat → ZS → Prop} {kc ks : Nat} {w0 : Int32} {σ : ZS} (h : f_X8_isLess_25 G d Q X w0 σ) : AW G (kX8_isLess d) Q X kc ks 25 [] [.int w0] σ := by
  exact aw_iret (pc := 25) dX8_isLess_25 rfl (nar_b h.1) h.2
theorem w_X8_isLess {G : ZG} {d : Nat} {Q : Option Value → ZS → Prop} {X : String → Nat → ZS → Prop} {kc ks : Nat} {a0 : Option Nat} {a1 : Option Nat} {σ : ZS} (h : f_X8_isLess G d Q X a0 a1 σ) : AW G (kX8_isLess d) Q X kc ks 0 [(0, va_rf a0), (1, va_rf a1)] [] σ := by
  refine aw_aload_n (pc := 0) (j := 0) dX8_isLess_0 rfl rfl ?_
  refine aw_getL (pc := 1) (ci := 7) (k := 0) dX8_isLess_1 rfl (Nat.le_of_ble_eq_true rfl) q855 rfl h (fun v1 h => ?_)
  refine aw_ldc2 (pc := 4) (v := (-9223372036854775808 : Int64)) dX8_isLess_4 q1670 ?_
  refine aw_ladd (pc := 7) dX8_isLess_7 ?_
  refine aw_aload_n (pc := 8) (j := 1) dX8_isLess_8 rfl rfl ?_
  refine aw_getL (pc := 9) (ci := 7) (k := 0) dX8_isLess_9 rfl (Nat.le_of_ble_eq_true rfl) q855 rfl h (fun v2 h => ?_)
  refine aw_ldc2 (pc := 12) (v := (-9223372036854775808 : Int64)) dX8_isLess_12 q1670 ?_
  refine aw_ladd (pc := 15) dX8_isLess_15 ?_
  refine aw_lcmp (pc := 16) dX8_isLess_16 ?_
  refine aw_if_ge (pc := 17) (tgt := 24) dX8_isLess_17 (by decide) (fun z => ?_) (fun z => ?_)
  · replace h := h.1 z
    refine aw_iconst (pc := 24) (v := (0 : Int32)) dX8_isLess_24 rfl ?_
    exact aw_sub [] rfl (w_X8_isLess_25 h)
  · replace h := h.2 z
    refine aw_iconst (pc := 20) (v := (1 : Int32)) dX8_isLess_20 rfl ?_
    refine aw_goto (pc := 21) (tgt := 25) dX8_isLess_21 (by decide) ?_
    exact aw_sub [] rfl (w_X8_isLess_25 h)
theorem zm_X8_isLess {G : ZG} {d : Nat} {Q : Option Value → ZS → Prop} {X : String → Nat → ZS → Prop}  {a0 : Option Nat} {a1 : Option Nat} {σ : ZS} (h : f_X8_isLess G d Q X a0 a1 σ) : ZM G yX8_isLess d 0 0 [va_rf a0, va_rf a1] σ Q X :=
  zm_of (own := RX8) (code := cX8_isLess) (maxL := 2) (ret := (some .boolean)) (ini := false) (lo := [(0, va_rf a0), (1, va_rf a1)]) (by decide) rfl (fun _ => by contradiction) q1669 q286 (by decide) (show (lg_sl [va_rf a0, va_rf a1]).length ≤ 2 from by simp [lg_sl, cat_rf, cat_i, cat_l, cat_f, cat_d]) (by simp [lv_args, cat_rf, cat_i, cat_l, cat_f, cat_d]) (w_X8_isLess (kc := 0) (ks := 0) h)
theorem w_X8_isAhead_23 {G : ZG} {d : Nat} {Q : Option Value → ZS → Prop} {X : String → Nat → ZS → Prop} {kc ks : Nat} {w0 : Int32} {σ : ZS} (h : f_X8_isAhead_23 G d Q X w0 σ) : AW G (kX8_isAhead d) Q X kc ks 23 [] [.int w0] σ := by
  exact aw_iret (pc := 23) dX8_isAhead_23 rfl (nar_b h.1) h.2
theorem w_X8_isAhead_22 {G : ZG} {d : Nat} {Q : Option Value → ZS → Prop} {X : String → Nat → ZS → Prop} {kc ks : Nat} {σ : ZS} (h : f_X8_isAhead_22 G d Q X σ) : AW G (kX8_isAhead d) Q X kc ks 22 [] [] σ := by
  refine aw_iconst (pc := 22) (v := (0 : Int32)) dX8_isAhead_22 rfl ?_
  exact w_X8_isAhead_23 h
theorem w_X8_isAhead {G : ZG} {d : Nat} {Q : Option Value → ZS → Prop} {X : String → Nat → ZS → Prop} {kc ks : Nat} {a0 : Option Nat} {a1 : Option Nat} {σ : ZS} (h : f_X8_isAhead G d Q X a0 a1 σ) : AW G (kX8_isAhead d) Q X kc ks 0 [(0, va_rf a0), (1, va_rf a1)] [] σ := by
  refine aw_aload_n (pc := 0) (j := 1) dX8_isAhead_0 rfl rfl ?_
  refine aw_inst (pc := 1) (t := 8) dX8_isAhead_1 q2005 h (fun v1 h => ?_)
  refine aw_if_eq (pc := 4) (tgt := 22) dX8_isAhead_4 (by decide) (fun z => ?_) (fun z => ?_)
  · replace h := h.1 z
    exact aw_sub [] rfl (w_X8_isAhead_22 h)
  · replace h := h.2 z
    refine aw_aload_n (pc := 7) (j := 0) dX8_isAhead_7 rfl rfl ?_
    refine aw_aload_n (pc := 8) (j := 1) dX8_isAhead_8 rfl rfl ?_
    refine aw_cast_ (pc := 9) (t := 8) dX8_isAhead_9 q2005 h (fun h => ?_)
    refine aw_cv0I (pc := 12) (kd := 8) (As := [va_rf a1]) (st := []) (Or.inl ⟨by decide, by decide⟩) dX8_isAhead_12 q2006 q1667 q1668 q1669 yh_X8_isLess yl_X8_isLess rfl (Nat.le_of_ble_eq_true rfl) h (fun v2 σ3 h => ?_) (fun E6 q7 σ8 h => ax_out rfl h)
    refine aw_if_eq (pc := 15) (tgt := 22) dX8_isAhead_15 (by decide) (fun z => ?_) (fun z => ?_)
    · replace h := h.1 z
      exact aw_sub [] rfl (w_X8_isAhead_22 h)
    · replace h := h.2 z
      refine aw_iconst (pc := 18) (v := (1 : Int32)) dX8_isAhead_18 rfl ?_
      refine aw_goto (pc := 19) (tgt := 23) dX8_isAhead_19 (by decide) ?_
      exact aw_sub [] rfl (w_X8_isAhead_23 h)
theorem zm_X8_isAhead {G : ZG} {d : Nat} {Q : Option Value → ZS → Prop} {X : String → Nat → ZS → Prop}  {a0 : Option Nat} {a1 : Option Nat} {σ : ZS} (h : f_X8_isAhead G d Q X a0 a1 σ) : ZM G yX8_isAhead d 0 0 [va_rf a0, va_rf a1] σ Q X :=
  zm_of (own := RX8) (code := cX8_isAhead) (maxL := 2) (ret := (some .boolean)) (ini := false) (lo := [(0, va_rf a0), (1, va_rf a1)]) (by decide) rfl (fun _ => by contradiction) q2004 q286 (by decide) (show (lg_sl [va_rf a0, va_rf a1]).length ≤ 2 from by simp [lg_sl, cat_rf, cat_i, cat_l, cat_f, cat_d]) (by simp [lv_args, cat_rf, cat_i, cat_l, cat_f, cat_d]) (w_X8_isAhead (kc := 0) (ks := 0) h)
theorem w_X9_isLike_40 {G : ZG} {d : Nat} {Q : Option Value → ZS → Prop} {X : String → Nat → ZS → Prop} {kc ks : Nat} {w0 : Int32} {σ : ZS} (h : f_X9_isLike_40 G d Q X w0 σ) : AW G (kX9_isLike d) Q X kc ks 40 [] [.int w0] σ := by
  exact aw_iret (pc := 40) dX9_isLike_40 rfl (nar_b h.1) h.2
theorem w_X9_isLike_39 {G : ZG} {d : Nat} {Q : Option Value → ZS → Prop} {X : String → Nat → ZS → Prop} {kc ks : Nat} {σ : ZS} (h : f_X9_isLike_39 G d Q X σ) : AW G (kX9_isLike d) Q X kc ks 39 [] [] σ := by
  refine aw_iconst (pc := 39) (v := (0 : Int32)) dX9_isLike_39 rfl ?_
  exact w_X9_isLike_40 h
theorem w_X9_isLike {G : ZG} {d : Nat} {Q : Option Value → ZS → Prop} {X : String → Nat → ZS → Prop} {kc ks : Nat} {a0 : Option Nat} {a1 : Option Nat} {σ : ZS} (h : f_X9_isLike G d Q X a0 a1 σ) : AW G (kX9_isLike d) Q X kc ks 0 [(0, va_rf a0), (1, va_rf a1)] [] σ := by
  refine aw_aload_n (pc := 0) (j := 1) dX9_isLike_0 rfl rfl ?_
  refine aw_ifnull (pc := 1) (tgt := 39) dX9_isLike_1 (by decide) (fun z => ?_) (fun z => ?_)
  · replace h := h.1 z
    exact aw_sub [] rfl (w_X9_isLike_39 h)
  · replace h := h.2 z
    refine aw_aload_n (pc := 4) (j := 0) dX9_isLike_4 rfl rfl ?_
    refine aw_pf0I (pc := 5) (x9 := ⟨"ColumnHouse$Box", "sort", "()I"⟩) (L := [(6, yX6_sort), (7, yX7_sort), (8, yX8_sort)]) (As := []) (st := []) (kd9 := 6) (y9 := yX6_sort) dX9_isLike_5 q1600 (by simp [zFws, znm, RX6, yX6_sort]) (List.forall_mem_cons.mpr ⟨⟨⟨by decide, by decide⟩, q1616, (Or.inl q1614), ⟨_, _, _, q1618⟩, by simp [zFws, znm, RX6, yX6_sort]⟩, (List.forall_mem_cons.mpr ⟨⟨⟨by decide, by decide⟩, q1605, (Or.inl q1603), ⟨_, _, _, q1607⟩, by simp [zFws, znm, RX7, yX7_sort]⟩, (List.forall_mem_cons.mpr ⟨⟨⟨by decide, by decide⟩, q1610, (Or.inl q1608), ⟨_, _, _, q1612⟩, by simp [zFws, znm, RX8, yX8_sort]⟩, List.forall_mem_nil _⟩)⟩)⟩) (by decide) rfl rfl (Nat.le_of_ble_eq_true rfl) h (fun v1 σ2 h => ?_) (fun E3 q4 σ5 h => ax_out rfl h) (fun h => h.elim)
    refine aw_aload_n (pc := 10) (j := 1) dX9_isLike_10 rfl rfl ?_
    refine aw_pf0I (pc := 11) (x9 := ⟨"ColumnHouse$Box", "sort", "()I"⟩) (L := [(6, yX6_sort), (7, yX7_sort), (8, yX8_sort)]) (As := []) (st := [.int v1]) (kd9 := 6) (y9 := yX6_sort) dX9_isLike_11 q1600 (by simp [zFws, znm, RX6, yX6_sort]) (List.forall_mem_cons.mpr ⟨⟨⟨by decide, by decide⟩, q1616, (Or.inl q1614), ⟨_, _, _, q1618⟩, by simp [zFws, znm, RX6, yX6_sort]⟩, (List.forall_mem_cons.mpr ⟨⟨⟨by decide, by decide⟩, q1605, (Or.inl q1603), ⟨_, _, _, q1607⟩, by simp [zFws, znm, RX7, yX7_sort]⟩, (List.forall_mem_cons.mpr ⟨⟨⟨by decide, by decide⟩, q1610, (Or.inl q1608), ⟨_, _, _, q1612⟩, by simp [zFws, znm, RX8, yX8_sort]⟩, List.forall_mem_nil _⟩)⟩)⟩) (by decide) rfl rfl (Nat.le_of_ble_eq_true rfl) h (fun v6 σ7 h => ?_) (fun E8 q9 σ10 h => ax_out rfl h) (fun h => h.elim)
    refine aw_icmp_ne (pc := 16) (tgt := 39) dX9_isLike_16 (by decide) (fun z => ?_) (fun z => ?_)
    · replace h := h.2 z
      exact aw_sub [] rfl (w_X9_isLike_39 h)
    · replace h := h.1 z
      refine aw_aload_n (pc := 19) (j := 0) dX9_isLike_19 rfl rfl ?_
      refine aw_pf0L (pc := 20) (x9 := ⟨"ColumnHouse$Box", "told", "()J"⟩) (L := [(6, yX6_told), (7, yX7_told), (8, yX8_told)]) (As := []) (st := []) (kd9 := 6) (y9 := yX6_told) dX9_isLike_20 q1620 (by simp [zFws, znm, RX6, yX6_told]) (List.forall_mem_cons.mpr ⟨⟨⟨by decide, by decide⟩, q1637, (Or.inl q1635), ⟨_, _, _, q1639⟩, by simp [zFws, znm, RX6, yX6_told]⟩, (List.forall_mem_cons.mpr ⟨⟨⟨by decide, by decide⟩, q1625, (Or.inl q1623), ⟨_, _, _, q1627⟩, by simp [zFws, znm, RX7, yX7_told]⟩, (List.forall_mem_cons.mpr ⟨⟨⟨by decide, by decide⟩, q1631, (Or.inl q1629), ⟨_, _, _, q1633⟩, by simp [zFws, znm, RX8, yX8_told]⟩, List.forall_mem_nil _⟩)⟩)⟩) (by decide) rfl rfl (Nat.le_of_ble_eq_true rfl) h (fun v11 σ12 h => ?_) (fun E13 q14 σ15 h => ax_out rfl h) (fun h => h.elim)
      refine aw_aload_n (pc := 25) (j := 1) dX9_isLike_25 rfl rfl ?_
      refine aw_pf0L (pc := 26) (x9 := ⟨"ColumnHouse$Box", "told", "()J"⟩) (L := [(6, yX6_told), (7, yX7_told), (8, yX8_told)]) (As := []) (st := [.long v11]) (kd9 := 6) (y9 := yX6_told) dX9_isLike_26 q1620 (by simp [zFws, znm, RX6, yX6_told]) (List.forall_mem_cons.mpr ⟨⟨⟨by decide, by decide⟩, q1637, (Or.inl q1635), ⟨_, _, _, q1639⟩, by simp [zFws, znm, RX6, yX6_told]⟩, (List.forall_mem_cons.mpr ⟨⟨⟨by decide, by decide⟩, q1625, (Or.inl q1623), ⟨_, _, _, q1627⟩, by simp [zFws, znm, RX7, yX7_told]⟩, (List.forall_mem_cons.mpr ⟨⟨⟨by decide, by decide⟩, q1631, (Or.inl q1629), ⟨_, _, _, q1633⟩, by simp [zFws, znm, RX8, yX8_told]⟩, List.forall_mem_nil _⟩)⟩)⟩) (by decide) rfl rfl (Nat.le_of_ble_eq_true rfl) h (fun v16 σ17 h => ?_) (fun E18 q19 σ20 h => ax_out rfl h) (fun h => h.elim)
      refine aw_lcmp (pc := 31) dX9_isLike_31 ?_
      refine aw_if_ne (pc := 32) (tgt := 39) dX9_isLike_32 (by decide) (fun z => ?_) (fun z => ?_)
      · replace h := h.2 z
        exact aw_sub [] rfl (w_X9_isLike_39 h)
      · replace h := h.1 z
        refine aw_iconst (pc := 35) (v := (1 : Int32)) dX9_isLike_35 rfl ?_
        refine aw_goto (pc := 36) (tgt := 40) dX9_isLike_36 (by decide) ?_
        exact aw_sub [] rfl (w_X9_isLike_40 h)
theorem zm_X9_isLike {G : ZG} {d : Nat} {Q : Option Value → ZS → Prop} {X : String → Nat → ZS → Prop}  {a0 : Option Nat} {a1 : Option Nat} {σ : ZS} (h : f_X9_isLike G d Q X a0 a1 σ) : ZM G yX9_isLike d 0 0 [va_rf a0, va_rf a1] σ Q X :=
  zm_of (own := RX9) (code := cX9_isLike) (maxL := 2) (ret := (some .boolean)) (ini := false) (lo := [(0, va_rf a0), (1, va_rf a1)]) (by decide) rfl (fun _ => by contradiction) q1598 q3074 (by decide) (show (lg_sl [va_rf a0, va_rf a1]).length ≤ 2 from by simp [lg_sl, cat_rf, cat_i, cat_l, cat_f, cat_d]) (by simp [lv_args, cat_rf, cat_i, cat_l, cat_f, cat_d]) (w_X9_isLike (kc := 0) (ks := 0) h)
