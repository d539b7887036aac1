set_option maxRecDepth 100000
def df1 : List Value := [.null, .null, .null, .null, .null, .null, .null, .null, .null, .null, .null, .null, .null, .int 0, .int 0, .int 0, .int 0, .int 0]
theorem dfo1 : ∀ j, j < 18 → defaultValue (tyX1 j) = vp_V df1 j := by decide +kernel
def df2 : List Value := [.null, .null, .null, .null, .null, .null, .null, .int 0, .int 0, .int 0, .int 0]
theorem dfo2 : ∀ j, j < 11 → defaultValue (tyX2 j) = vp_V df2 j := by decide +kernel
def df3 : List Value := []
def df4 : List Value := []
def df5 : List Value := []
def df6 : List Value := [.null, .null, .null, .null, .null, .int 0, .int 0]
theorem dfo6 : ∀ j, j < 7 → defaultValue (tyX6 j) = vp_V df6 j := by decide +kernel
def df7 : List Value := [.null, .null, .null, .null, .null, .null, .int 0, .int 0, .int 0, .int 0]
theorem dfo7 : ∀ j, j < 10 → defaultValue (tyX7 j) = vp_V df7 j := by decide +kernel
def df8 : List Value := [.null, .null]
theorem dfo8 : ∀ j, j < 2 → defaultValue (tyX8 j) = vp_V df8 j := by decide +kernel
def df9 : List Value := [.null, .int 0, .int 0]
theorem dfo9 : ∀ j, j < 3 → defaultValue (tyX9 j) = vp_V df9 j := by decide +kernel
def df10 : List Value := [.null, .null, .null, .null, .null, .null, .null, .null, .null, .null, .null, .null, .int 0, .int 0, .int 0, .int 0, .int 0, .int 0, .int 0, .int 0, .int 0, .int 0, .int 0, .long 0, .long 0, .long 0, .int 0, .int 0, .int 0, .int 0]
theorem dfo10 : ∀ j, j < 30 → defaultValue (tyX10 j) = vp_V df10 j := by decide +kernel
def df11 : List Value := [.int 0, .null, .null, .int 0, .null, .int 0, .int 0, .int 0, .int 0, .int 0, .int 0, .null, .int 0, .null, .null, .null, .null, .null, .int 0, .null, .null, .null, .null, .null, .null, .int 0, .int 0, .int 0, .int 0, .int 0, .int 0, .null, .int 0, .null, .null, .int 0, .int 0, .int 0, .null, .null, .null, .int 0, .int 0, .int 0, .int 0, .null, .null, .null, .null, .null, .null, .int 0]
theorem dfo11 : ∀ j, j < 52 → defaultValue (tyX11 j) = vp_V df11 j := by decide +kernel
def df12 : List Value := [.int 0, .null]
theorem dfo12 : ∀ j, j < 2 → defaultValue (tyX12 j) = vp_V df12 j := by decide +kernel
def df13 : List Value := [.int 0]
theorem dfo13 : ∀ j, j < 1 → defaultValue (tyX13 j) = vp_V df13 j := by decide +kernel
def df14 : List Value := [.int 0]
theorem dfo14 : ∀ j, j < 1 → defaultValue (tyX14 j) = vp_V df14 j := by decide +kernel
def df15 : List Value := [.int 0]
theorem dfo15 : ∀ j, j < 1 → defaultValue (tyX15 j) = vp_V df15 j := by decide +kernel
def df16 : List Value := [.int 0, .int 0, .null]
theorem dfo16 : ∀ j, j < 3 → defaultValue (tyX16 j) = vp_V df16 j := by decide +kernel
def df17 : List Value := [.null, .int 0, .null]
theorem dfo17 : ∀ j, j < 3 → defaultValue (tyX17 j) = vp_V df17 j := by decide +kernel
def df18 : List Value := [.int 0]
theorem dfo18 : ∀ j, j < 1 → defaultValue (tyX18 j) = vp_V df18 j := by decide +kernel
def df19 : List Value := [.null, .int 0]
theorem dfo19 : ∀ j, j < 2 → defaultValue (tyX19 j) = vp_V df19 j := by decide +kernel
def df20 : List Value := [.null, .null]
theorem dfo20 : ∀ j, j < 2 → defaultValue (tyX20 j) = vp_V df20 j := by decide +kernel
def df21 : List Value := [.null]
theorem dfo21 : ∀ j, j < 1 → defaultValue (tyX21 j) = vp_V df21 j := by decide +kernel
def df22 : List Value := [.null]
theorem dfo22 : ∀ j, j < 1 → defaultValue (tyX22 j) = vp_V df22 j := by decide +kernel
def df23 : List Value := [.int 0, .int 0, .int 0, .int 0]
theorem dfo23 : ∀ j, j < 4 → defaultValue (tyX23 j) = vp_V df23 j := by decide +kernel
def df24 : List Value := [.int 0, .int 0, .int 0, .int 0]
theorem dfo24 : ∀ j, j < 4 → defaultValue (tyX24 j) = vp_V df24 j := by decide +kernel
def JJ0_init_2 (this : Nat) (p1 : Option Nat) (p2 : Option Nat) (p3 : Int32) (p4 : Int32) (Qj : JP) : JP :=
  jput 6 this 0 (.ref this) <|
  jany fun v10 =>
  jput 6 this 1 (va_rf v10) <|
  jany fun v17 =>
  jput 6 this 2 (va_rf v17) <|
  jjoin (α := JP) (
    jput 6 this 3 (va_rf p1) <|
    jput 6 this 0 (va_rf p2) <|
    jif (p3 = (nI 0)) (
      jput 6 this 2 (va_rf none) <|
      Qj) (
      Qj)) fun k41 =>
  jif (p4 = (nI 0)) (
    jput 6 this 1 (va_rf none) <|
    k41) (
    jbot)
def JJ1_init (this : Nat) (p1 : Option Nat) (p2 : Option Nat) (p3 : Int32) (p4 : Int32) (Qj : JP) : JP :=
  JJ0_init_2 this p1 p2 p3 p4 <|
  Qj
def JJ13_bitCount (p0 : Int32) (Qj : Int32 → JP) : JP :=
  Qj ((((((((p0 - ((jushr p0 (nI 1)) &&& (nI 1431655765))) &&& (nI 858993459)) + ((jushr (p0 - ((jushr p0 (nI 1)) &&& (nI 1431655765))) (nI 2)) &&& (nI 858993459))) + (jushr (((p0 - ((jushr p0 (nI 1)) &&& (nI 1431655765))) &&& (nI 858993459)) + ((jushr (p0 - ((jushr p0 (nI 1)) &&& (nI 1431655765))) (nI 2)) &&& (nI 858993459))) (nI 4))) &&& (nI 252645135)) + (jushr (((((p0 - ((jushr p0 (nI 1)) &&& (nI 1431655765))) &&& (nI 858993459)) + ((jushr (p0 - ((jushr p0 (nI 1)) &&& (nI 1431655765))) (nI 2)) &&& (nI 858993459))) + (jushr (((p0 - ((jushr p0 (nI 1)) &&& (nI 1431655765))) &&& (nI 858993459)) + ((jushr (p0 - ((jushr p0 (nI 1)) &&& (nI 1431655765))) (nI 2)) &&& (nI 858993459))) (nI 4))) &&& (nI 252645135)) (nI 8))) + (jushr ((((((p0 - ((jushr p0 (nI 1)) &&& (nI 1431655765))) &&& (nI 858993459)) + ((jushr (p0 - ((jushr p0 (nI 1)) &&& (nI 1431655765))) (nI 2)) &&& (nI 858993459))) + (jushr (((p0 - ((jushr p0 (nI 1)) &&& (nI 1431655765))) &&& (nI 858993459)) + ((jushr (p0 - ((jushr p0 (nI 1)) &&& (nI 1431655765))) (nI 2)) &&& (nI 858993459))) (nI 4))) &&& (nI 252645135)) + (jushr (((((p0 - ((jushr p0 (nI 1)) &&& (nI 1431655765))) &&& (nI 858993459)) + ((jushr (p0 - ((jushr p0 (nI 1)) &&& (nI 1431655765))) (nI 2)) &&& (nI 858993459))) + (jushr (((p0 - ((jushr p0 (nI 1)) &&& (nI 1431655765))) &&& (nI 858993459)) + ((jushr (p0 - ((jushr p0 (nI 1)) &&& (nI 1431655765))) (nI 2)) &&& (nI 858993459))) (nI 4))) &&& (nI 252645135)) (nI 8))) (nI 16))) &&& (nI 63))
def JJ13_numberOfTrailingZeros (p0 : Int32) (Qj : Int32 → JP) : JP :=
  jif ((nI 0) < ((p0 ^^^ (-1)) &&& (p0 - (nI 1)))) (
    jjoin (α := Int32 → Int32 → JP) (fun (x0_34 : Int32) (x1_34 : Int32) =>
      jjoin (α := Int32 → Int32 → JP) (fun (x0_49 : Int32) (x1_49 : Int32) =>
        jjoin (α := Int32 → Int32 → JP) (fun (x0_62 : Int32) (x1_62 : Int32) =>
          jjoin (α := Int32 → Int32 → JP) (fun (x0_74 : Int32) (x1_74 : Int32) =>
            Qj (x1_74 + (jushr x0_74 (nI 1)))) fun k74 =>
          jif (x0_62 ≤ (nI 4)) (
            k74 x0_62 x1_62) (
            k74 (jushr x0_62 (nI 2)) (x1_62 + (nI 2)))) fun k62 =>
        jif (x0_49 ≤ (nI 16)) (
          k62 x0_49 x1_49) (
          k62 (jushr x0_49 (nI 4)) (x1_49 + (nI 4)))) fun k49 =>
      jif (x0_34 ≤ (nI 256)) (
        k49 x0_34 x1_34) (
        k49 (jushr x0_34 (nI 8)) (x1_34 + (nI 8)))) fun k34 =>
    jif (((p0 ^^^ (-1)) &&& (p0 - (nI 1))) ≤ (nI 65536)) (
      k34 ((p0 ^^^ (-1)) &&& (p0 - (nI 1))) (nI 1)) (
      k34 (jushr ((p0 ^^^ (-1)) &&& (p0 - (nI 1))) (nI 16)) ((nI 1) + (nI 16)))) (
    Qj (((p0 ^^^ (-1)) &&& (p0 - (nI 1))) &&& (nI 32)))
def JJ2_init (this : Nat) (p1 : Option Nat) (p2 : Option Nat) (p3 : Int32) (p4 : Int32) (Qj : JP) : JP :=
  JJ1_init this p1 p2 p3 p4 <|
  Qj
def JJ3_coder (sK : Nat → Nat) (this : Nat) (Qj : Int32 → JP) : JP :=
  jif ((nI 1) = (nI 0)) (
    jand (narrow .byte (.int (nI 1)) = .int (nI 1)) (Qj (nI 1))) (
    jscod sK this <|
    jand (narrow .byte (.int (nI 0)) = .int (nI 0)) (Qj (nI 0)))
def JJ3_length (sK : Nat → Nat) (this : Nat) (Qj : Int32 → JP) : JP :=
  jsval sK this fun v1 =>
  jslen sK v1 fun v4 =>
  jsobj sK this <|
  JJ3_coder sK this fun v6 =>
  Qj (jshr v4 v6)
def JJ3_isLatin1 (sK : Nat → Nat) (this : Nat) (Qj : Int32 → JP) : JP :=
  jjoin (α := JP) (
    Qj (nI 0)) fun k17 =>
  jif ((nI 1) = (nI 0)) (
    k17) (
    jscod sK this <|
    jif ((nI 0) = (nI 0)) (
      Qj (nI 1)) (
      k17))
def JJ5_checkIndex (p0 : Int32) (p1 : Int32) (p2 : Option Nat) (Qj : Int32 → JP) : JP :=
  jjoin (α := JP) (
    jbot) fun k9 =>
  jif (p0 < (nI 0)) (
    k9) (
    jif (p0 < p1) (
      Qj p0) (
      k9))
def JJ3_checkIndex (sK : Nat → Nat) (p0 : Int32) (p1 : Int32) (Qj : JP) : JP :=
  jany fun v2 =>
  JJ5_checkIndex p0 p1 v2 fun v5 =>
  Qj
def JJ4_charAt (sK : Nat → Nat) (p0 : Nat) (p1 : Int32) (Qj : Int32 → JP) : JP :=
  jslen sK p0 fun v2 =>
  JJ3_checkIndex sK p1 v2 <|
  jschr sK p0 p1 fun v8 =>
  jand (narrow .char (.int (ji2c (v8 &&& (nI 255)))) = .int (ji2c (v8 &&& (nI 255)))) (Qj (ji2c (v8 &&& (nI 255))))
def JJ3_charAt (sK : Nat → Nat) (this : Nat) (p1 : Int32) (Qj : Int32 → JP) : JP :=
  jsobj sK this <|
  JJ3_isLatin1 sK this fun v1 =>
  jif (v1 = (nI 0)) (
    jsval sK this fun v17 =>
    jbot) (
    jsval sK this fun v8 =>
    JJ4_charAt sK v8 p1 fun v12 =>
    jand (narrow .char (.int v12) = .int v12) (Qj v12))
def JX3_init (this : Nat) (Qj : JP) : JP :=
  Qj
def JX4_init (this : Nat) (Qj : JP) : JP :=
  JX3_init this <|
  Qj
def JX5_init (this : Nat) (Qj : JP) : JP :=
  JX3_init this <|
  Qj
def JX6_init (this : Nat) (Qj : JP) : JP :=
  JJ2_init this none none (nI 0) (nI 0) <|
  Qj
def JX2_init (sK : Nat → Nat) (bc : Nat) (bs : Nat) (this : Nat) (Qj : JP) : JP :=
  jnewI 2 (nI 400) bc bs fun v8 =>
  jput 2 this 0 (.ref v8) <|
  jnewA 4 (nI 4) (bc - 1) (bs - (nI 400).toNatClampNeg) fun v15 =>
  jastS sK v15 (nI 0) (sK 0) <|
  jastS sK v15 (nI 1) (sK 1) <|
  jastS sK v15 (nI 2) (sK 2) <|
  jastS sK v15 (nI 3) (sK 3) <|
  jput 2 this 1 (.ref v15) <|
  jnewA 5 (nI 6) ((bc - 1) - 1) ((bs - (nI 400).toNatClampNeg) - (nI 4).toNatClampNeg) fun v44 =>
  jput 2 this 2 (.ref v44) <|
  jnewA 6 (nI 10) (((bc - 1) - 1) - 1) (((bs - (nI 400).toNatClampNeg) - (nI 4).toNatClampNeg) - (nI 6).toNatClampNeg) fun v53 =>
  jput 2 this 3 (.ref v53) <|
  jnew 4 0 df4 ((((bc - 1) - 1) - 1) - 1) ((((bs - (nI 400).toNatClampNeg) - (nI 4).toNatClampNeg) - (nI 6).toNatClampNeg) - (nI 10).toNatClampNeg) fun v60 =>
  JX4_init v60 <|
  jput 2 this 4 (.ref v60) <|
  jnew 5 0 df5 (((((bc - 1) - 1) - 1) - 1) - 1) (((((bs - (nI 400).toNatClampNeg) - (nI 4).toNatClampNeg) - (nI 6).toNatClampNeg) - (nI 10).toNatClampNeg) - 0) fun v71 =>
  JX5_init v71 <|
  jput 2 this 5 (.ref v71) <|
  jnew 6 7 df6 ((((((bc - 1) - 1) - 1) - 1) - 1) - 1) ((((((bs - (nI 400).toNatClampNeg) - (nI 4).toNatClampNeg) - (nI 6).toNatClampNeg) - (nI 10).toNatClampNeg) - 0) - 0) fun v82 =>
  JX6_init v82 <|
  jput 2 this 6 (.ref v82) <|
  Qj
def FX8_init_22 (this : Nat) (Qj : JP) (rec22 : Int32 → JP) (x1_22 : Int32) : JP :=
  jif ((nI 36) ≤ x1_22) (
    Qj) (
    jgetA 8 this 0 fun v29 =>
    jastI v29 x1_22 (-1) <|
    rec22 (x1_22 + (nI 1)))
def JX8_init (bc : Nat) (bs : Nat) (this : Nat) (Qj : JP) : JP :=
  jnewI 0 (nI 36) bc bs fun v7 =>
  jput 8 this 0 (.ref v7) <|
  jnewI 0 (nI 36) (bc - 1) (bs - (nI 36).toNatClampNeg) fun v15 =>
  jput 8 this 1 (.ref v15) <|
  jex fun n22 => jit (FX8_init_22 this Qj) (fun _ => jbot) n22 (nI 0)
def JX9_init (bc : Nat) (bs : Nat) (this : Nat) (Qj : JP) : JP :=
  jnewA 10 (nI 24) bc bs fun v7 =>
  jput 9 this 0 (.ref v7) <|
  Qj
def FX7_init_55 (this : Nat) (Qj : JP) (rec55 : Int32 → Nat → Nat → JP) (x1_55 : Int32) (bc_55 : Nat) (bs_55 : Nat) : JP :=
  jif ((nI 3) ≤ x1_55) (
    Qj) (
    jgetA 7 this 2 fun v61 =>
    jnew 9 3 df9 bc_55 bs_55 fun v65 =>
    jbud (bc_55 - 1) (bs_55 - 3) fun mc69 ms69 =>
    JX9_init mc69 ms69 v65 <|
    jastA 8 9 v61 x1_55 v65 <|
    rec55 (x1_55 + (nI 1)) ((bc_55 - 1) - mc69) ((bs_55 - 3) - ms69))
def JX7_init (bc : Nat) (bs : Nat) (this : Nat) (Qj : JP) : JP :=
  jnewA 7 (nI 5) bc bs fun v6 =>
  jput 7 this 0 (.ref v6) <|
  jnew 8 2 df8 (bc - 1) (bs - (nI 5).toNatClampNeg) fun v13 =>
  jbud ((bc - 1) - 1) ((bs - (nI 5).toNatClampNeg) - 2) fun mc17 ms17 =>
  JX8_init mc17 ms17 v13 <|
  jput 7 this 1 (.ref v13) <|
  jnewA 8 (nI 3) (((bc - 1) - 1) - mc17) (((bs - (nI 5).toNatClampNeg) - 2) - ms17) fun v25 =>
  jput 7 this 2 (.ref v25) <|
  jnewA 9 (nI 10) ((((bc - 1) - 1) - mc17) - 1) ((((bs - (nI 5).toNatClampNeg) - 2) - ms17) - (nI 3).toNatClampNeg) fun v34 =>
  jput 7 this 3 (.ref v34) <|
  jnewI 0 (nI 8) (((((bc - 1) - 1) - mc17) - 1) - 1) (((((bs - (nI 5).toNatClampNeg) - 2) - ms17) - (nI 3).toNatClampNeg) - (nI 10).toNatClampNeg) fun v43 =>
  jput 7 this 4 (.ref v43) <|
  jput 7 this 9 (.int (-1)) <|
  jex fun n55 => jit (FX7_init_55 this Qj) (fun _ _ _ => jbot) n55 (nI 0) ((((((bc - 1) - 1) - mc17) - 1) - 1) - 1) ((((((bs - (nI 5).toNatClampNeg) - 2) - ms17) - (nI 3).toNatClampNeg) - (nI 10).toNatClampNeg) - (nI 8).toNatClampNeg)
def JX10_init (bc : Nat) (bs : Nat) (this : Nat) (p1 : Nat) (Qj : JP) : JP :=
  jnew 8 2 df8 bc bs fun v5 =>
  jbud (bc - 1) (bs - 2) fun mc9 ms9 =>
  JX8_init mc9 ms9 v5 <|
  jput 10 this 1 (.ref v5) <|
  jnewI 1 (nI 36) ((bc - 1) - mc9) ((bs - 2) - ms9) fun v18 =>
  jput 10 this 2 (.ref v18) <|
  jnewM2 31 1296 (((bc - 1) - mc9) - 1) (((bs - 2) - ms9) - (nI 36).toNatClampNeg) fun v29 =>
  jput 10 this 3 (.ref v29) <|
  jnewM3 3 31 25 ((((bc - 1) - mc9) - 1) - (1 + 31)) ((((bs - 2) - ms9) - (nI 36).toNatClampNeg) - (31 + 31 * 1296)) fun v42 =>
  jput 10 this 4 (.ref v42) <|
  jnewI 0 (nI 30) (((((bc - 1) - mc9) - 1) - (1 + 31)) - (1 + 3 * (1 + 31))) (((((bs - 2) - ms9) - (nI 36).toNatClampNeg) - (31 + 31 * 1296)) - (3 + 3 * (31 + 31 * 25))) fun v52 =>
  jput 10 this 5 (.ref v52) <|
  jnewI 0 (nI 30) ((((((bc - 1) - mc9) - 1) - (1 + 31)) - (1 + 3 * (1 + 31))) - 1) ((((((bs - 2) - ms9) - (nI 36).toNatClampNeg) - (31 + 31 * 1296)) - (3 + 3 * (31 + 31 * 25))) - (nI 30).toNatClampNeg) fun v60 =>
  jput 10 this 6 (.ref v60) <|
  jnewI 0 (nI 30) (((((((bc - 1) - mc9) - 1) - (1 + 31)) - (1 + 3 * (1 + 31))) - 1) - 1) (((((((bs - 2) - ms9) - (nI 36).toNatClampNeg) - (31 + 31 * 1296)) - (3 + 3 * (31 + 31 * 25))) - (nI 30).toNatClampNeg) - (nI 30).toNatClampNeg) fun v68 =>
  jput 10 this 7 (.ref v68) <|
  jnewI 0 (nI 30) ((((((((bc - 1) - mc9) - 1) - (1 + 31)) - (1 + 3 * (1 + 31))) - 1) - 1) - 1) ((((((((bs - 2) - ms9) - (nI 36).toNatClampNeg) - (31 + 31 * 1296)) - (3 + 3 * (31 + 31 * 25))) - (nI 30).toNatClampNeg) - (nI 30).toNatClampNeg) - (nI 30).toNatClampNeg) fun v76 =>
  jput 10 this 8 (.ref v76) <|
  jnewI 0 (nI 8) (((((((((bc - 1) - mc9) - 1) - (1 + 31)) - (1 + 3 * (1 + 31))) - 1) - 1) - 1) - 1) (((((((((bs - 2) - ms9) - (nI 36).toNatClampNeg) - (31 + 31 * 1296)) - (3 + 3 * (31 + 31 * 25))) - (nI 30).toNatClampNeg) - (nI 30).toNatClampNeg) - (nI 30).toNatClampNeg) - (nI 30).toNatClampNeg) fun v84 =>
  jput 10 this 9 (.ref v84) <|
  jnewI 0 (nI 6) ((((((((((bc - 1) - mc9) - 1) - (1 + 31)) - (1 + 3 * (1 + 31))) - 1) - 1) - 1) - 1) - 1) ((((((((((bs - 2) - ms9) - (nI 36).toNatClampNeg) - (31 + 31 * 1296)) - (3 + 3 * (31 + 31 * 25))) - (nI 30).toNatClampNeg) - (nI 30).toNatClampNeg) - (nI 30).toNatClampNeg) - (nI 30).toNatClampNeg) - (nI 8).toNatClampNeg) fun v92 =>
  jput 10 this 10 (.ref v92) <|
  jnew 8 2 df8 (((((((((((bc - 1) - mc9) - 1) - (1 + 31)) - (1 + 3 * (1 + 31))) - 1) - 1) - 1) - 1) - 1) - 1) (((((((((((bs - 2) - ms9) - (nI 36).toNatClampNeg) - (31 + 31 * 1296)) - (3 + 3 * (31 + 31 * 25))) - (nI 30).toNatClampNeg) - (nI 30).toNatClampNeg) - (nI 30).toNatClampNeg) - (nI 30).toNatClampNeg) - (nI 8).toNatClampNeg) - (nI 6).toNatClampNeg) fun v98 =>
  jbud ((((((((((((bc - 1) - mc9) - 1) - (1 + 31)) - (1 + 3 * (1 + 31))) - 1) - 1) - 1) - 1) - 1) - 1) - 1) ((((((((((((bs - 2) - ms9) - (nI 36).toNatClampNeg) - (31 + 31 * 1296)) - (3 + 3 * (31 + 31 * 25))) - (nI 30).toNatClampNeg) - (nI 30).toNatClampNeg) - (nI 30).toNatClampNeg) - (nI 30).toNatClampNeg) - (nI 8).toNatClampNeg) - (nI 6).toNatClampNeg) - 2) fun mc102 ms102 =>
  JX8_init mc102 ms102 v98 <|
  jput 10 this 11 (.ref v98) <|
  jput 10 this 0 (.ref p1) <|
  Qj
def JX1_init (sK : Nat → Nat) (bc : Nat) (bs : Nat) (this : Nat) (Qj : JP) : JP :=
  jnew 2 11 df2 bc bs fun v5 =>
  jbud (bc - 1) (bs - 11) fun mc9 ms9 =>
  JX2_init sK mc9 ms9 v5 <|
  jput 1 this 0 (.ref v5) <|
  jnew 7 10 df7 ((bc - 1) - mc9) ((bs - 11) - ms9) fun v16 =>
  jbud (((bc - 1) - mc9) - 1) (((bs - 11) - ms9) - 10) fun mc20 ms20 =>
  JX7_init mc20 ms20 v16 <|
  jput 1 this 1 (.ref v16) <|
  jnew 7 10 df7 ((((bc - 1) - mc9) - 1) - mc20) ((((bs - 11) - ms9) - 10) - ms20) fun v27 =>
  jbud (((((bc - 1) - mc9) - 1) - mc20) - 1) (((((bs - 11) - ms9) - 10) - ms20) - 10) fun mc31 ms31 =>
  JX7_init mc31 ms31 v27 <|
  jput 1 this 2 (.ref v27) <|
  jnew 10 30 df10 ((((((bc - 1) - mc9) - 1) - mc20) - 1) - mc31) ((((((bs - 11) - ms9) - 10) - ms20) - 10) - ms31) fun v38 =>
  jgetA 1 this 1 fun v43 =>
  jbud (((((((bc - 1) - mc9) - 1) - mc20) - 1) - mc31) - 1) (((((((bs - 11) - ms9) - 10) - ms20) - 10) - ms31) - 30) fun mc46 ms46 =>
  JX10_init mc46 ms46 v38 v43 <|
  jput 1 this 3 (.ref v38) <|
  jnew 10 30 df10 ((((((((bc - 1) - mc9) - 1) - mc20) - 1) - mc31) - 1) - mc46) ((((((((bs - 11) - ms9) - 10) - ms20) - 10) - ms31) - 30) - ms46) fun v53 =>
  jgetA 1 this 1 fun v58 =>
  jbud (((((((((bc - 1) - mc9) - 1) - mc20) - 1) - mc31) - 1) - mc46) - 1) (((((((((bs - 11) - ms9) - 10) - ms20) - 10) - ms31) - 30) - ms46) - 30) fun mc61 ms61 =>
  JX10_init mc61 ms61 v53 v58 <|
  jput 1 this 4 (.ref v53) <|
  jnewM2 3 24 ((((((((((bc - 1) - mc9) - 1) - mc20) - 1) - mc31) - 1) - mc46) - 1) - mc61) ((((((((((bs - 11) - ms9) - 10) - ms20) - 10) - ms31) - 30) - ms46) - 30) - ms61) fun v71 =>
  jput 1 this 5 (.ref v71) <|
  jnewM2 3 30 (((((((((((bc - 1) - mc9) - 1) - mc20) - 1) - mc31) - 1) - mc46) - 1) - mc61) - (1 + 3)) (((((((((((bs - 11) - ms9) - 10) - ms20) - 10) - ms31) - 30) - ms46) - 30) - ms61) - (3 + 3 * 24)) fun v82 =>
  jput 1 this 6 (.ref v82) <|
  jnewM2 31 25 ((((((((((((bc - 1) - mc9) - 1) - mc20) - 1) - mc31) - 1) - mc46) - 1) - mc61) - (1 + 3)) - (1 + 3)) ((((((((((((bs - 11) - ms9) - 10) - ms20) - 10) - ms31) - 30) - ms46) - 30) - ms61) - (3 + 3 * 24)) - (3 + 3 * 30)) fun v94 =>
  jput 1 this 7 (.ref v94) <|
  jnewM2 25 25 (((((((((((((bc - 1) - mc9) - 1) - mc20) - 1) - mc31) - 1) - mc46) - 1) - mc61) - (1 + 3)) - (1 + 3)) - (1 + 31)) (((((((((((((bs - 11) - ms9) - 10) - ms20) - 10) - ms31) - 30) - ms46) - 30) - ms61) - (3 + 3 * 24)) - (3 + 3 * 30)) - (31 + 31 * 25)) fun v106 =>
  jput 1 this 8 (.ref v106) <|
  jnewI 0 (nI 3) ((((((((((((((bc - 1) - mc9) - 1) - mc20) - 1) - mc31) - 1) - mc46) - 1) - mc61) - (1 + 3)) - (1 + 3)) - (1 + 31)) - (1 + 25)) ((((((((((((((bs - 11) - ms9) - 10) - ms20) - 10) - ms31) - 30) - ms46) - 30) - ms61) - (3 + 3 * 24)) - (3 + 3 * 30)) - (31 + 31 * 25)) - (25 + 25 * 25)) fun v115 =>
  jput 1 this 9 (.ref v115) <|
  jnewI 0 (nI 30) (((((((((((((((bc - 1) - mc9) - 1) - mc20) - 1) - mc31) - 1) - mc46) - 1) - mc61) - (1 + 3)) - (1 + 3)) - (1 + 31)) - (1 + 25)) - 1) (((((((((((((((bs - 11) - ms9) - 10) - ms20) - 10) - ms31) - 30) - ms46) - 30) - ms61) - (3 + 3 * 24)) - (3 + 3 * 30)) - (31 + 31 * 25)) - (25 + 25 * 25)) - (nI 3).toNatClampNeg) fun v123 =>
  jput 1 this 10 (.ref v123) <|
  jnewI 0 (nI 1296) ((((((((((((((((bc - 1) - mc9) - 1) - mc20) - 1) - mc31) - 1) - mc46) - 1) - mc61) - (1 + 3)) - (1 + 3)) - (1 + 31)) - (1 + 25)) - 1) - 1) ((((((((((((((((bs - 11) - ms9) - 10) - ms20) - 10) - ms31) - 30) - ms46) - 30) - ms61) - (3 + 3 * 24)) - (3 + 3 * 30)) - (31 + 31 * 25)) - (25 + 25 * 25)) - (nI 3).toNatClampNeg) - (nI 30).toNatClampNeg) fun v132 =>
  jput 1 this 11 (.ref v132) <|
  jnew 8 2 df8 (((((((((((((((((bc - 1) - mc9) - 1) - mc20) - 1) - mc31) - 1) - mc46) - 1) - mc61) - (1 + 3)) - (1 + 3)) - (1 + 31)) - (1 + 25)) - 1) - 1) - 1) (((((((((((((((((bs - 11) - ms9) - 10) - ms20) - 10) - ms31) - 30) - ms46) - 30) - ms61) - (3 + 3 * 24)) - (3 + 3 * 30)) - (31 + 31 * 25)) - (25 + 25 * 25)) - (nI 3).toNatClampNeg) - (nI 30).toNatClampNeg) - (nI 1296).toNatClampNeg) fun v138 =>
  jbud ((((((((((((((((((bc - 1) - mc9) - 1) - mc20) - 1) - mc31) - 1) - mc46) - 1) - mc61) - (1 + 3)) - (1 + 3)) - (1 + 31)) - (1 + 25)) - 1) - 1) - 1) - 1) ((((((((((((((((((bs - 11) - ms9) - 10) - ms20) - 10) - ms31) - 30) - ms46) - 30) - ms61) - (3 + 3 * 24)) - (3 + 3 * 30)) - (31 + 31 * 25)) - (25 + 25 * 25)) - (nI 3).toNatClampNeg) - (nI 30).toNatClampNeg) - (nI 1296).toNatClampNeg) - 2) fun mc142 ms142 =>
  JX8_init mc142 ms142 v138 <|
  jput 1 this 12 (.ref v138) <|
  jput 1 this 13 (.int (-1)) <|
  Qj
def FX11_init_241 (this : Nat) (Qj : JP) (rec241 : Int32 → JP) (x1_241 : Int32) : JP :=
  jif ((nI 36) ≤ x1_241) (
    Qj) (
    jgetA 11 this 1 fun v248 =>
    jastI v248 ((nI 13) + x1_241) (-1) <|
    rec241 (x1_241 + (nI 1)))
def JX11_init (bc : Nat) (bs : Nat) (this : Nat) (Qj : JP) : JP :=
  jnewI 0 (nI 2125) bc bs fun v8 =>
  jput 11 this 1 (.ref v8) <|
  jnewI 0 (nI 1284) (bc - 1) (bs - (nI 2125).toNatClampNeg) fun v17 =>
  jput 11 this 2 (.ref v17) <|
  jnewI 2 (nI 400) ((bc - 1) - 1) ((bs - (nI 2125).toNatClampNeg) - (nI 1284).toNatClampNeg) fun v26 =>
  jput 11 this 4 (.ref v26) <|
  jput 11 this 10 (.int (-1)) <|
  jnewI 0 (nI 5) (((bc - 1) - 1) - 1) (((bs - (nI 2125).toNatClampNeg) - (nI 1284).toNatClampNeg) - (nI 400).toNatClampNeg) fun v38 =>
  jput 11 this 11 (.ref v38) <|
  jnewI 0 (nI 12) ((((bc - 1) - 1) - 1) - 1) ((((bs - (nI 2125).toNatClampNeg) - (nI 1284).toNatClampNeg) - (nI 400).toNatClampNeg) - (nI 5).toNatClampNeg) fun v46 =>
  jput 11 this 13 (.ref v46) <|
  jnewI 0 (nI 6) (((((bc - 1) - 1) - 1) - 1) - 1) (((((bs - (nI 2125).toNatClampNeg) - (nI 1284).toNatClampNeg) - (nI 400).toNatClampNeg) - (nI 5).toNatClampNeg) - (nI 12).toNatClampNeg) fun v54 =>
  jput 11 this 14 (.ref v54) <|
  jnewI 0 (nI 400) ((((((bc - 1) - 1) - 1) - 1) - 1) - 1) ((((((bs - (nI 2125).toNatClampNeg) - (nI 1284).toNatClampNeg) - (nI 400).toNatClampNeg) - (nI 5).toNatClampNeg) - (nI 12).toNatClampNeg) - (nI 6).toNatClampNeg) fun v63 =>
  jput 11 this 15 (.ref v63) <|
  jnewI 0 (nI 1116) (((((((bc - 1) - 1) - 1) - 1) - 1) - 1) - 1) (((((((bs - (nI 2125).toNatClampNeg) - (nI 1284).toNatClampNeg) - (nI 400).toNatClampNeg) - (nI 5).toNatClampNeg) - (nI 12).toNatClampNeg) - (nI 6).toNatClampNeg) - (nI 400).toNatClampNeg) fun v72 =>
  jput 11 this 16 (.ref v72) <|
  jnewI 1 (nI 40176) ((((((((bc - 1) - 1) - 1) - 1) - 1) - 1) - 1) - 1) ((((((((bs - (nI 2125).toNatClampNeg) - (nI 1284).toNatClampNeg) - (nI 400).toNatClampNeg) - (nI 5).toNatClampNeg) - (nI 12).toNatClampNeg) - (nI 6).toNatClampNeg) - (nI 400).toNatClampNeg) - (nI 1116).toNatClampNeg) fun v80 =>
  jput 11 this 17 (.ref v80) <|
  jnewI 0 (nI 3) (((((((((bc - 1) - 1) - 1) - 1) - 1) - 1) - 1) - 1) - 1) (((((((((bs - (nI 2125).toNatClampNeg) - (nI 1284).toNatClampNeg) - (nI 400).toNatClampNeg) - (nI 5).toNatClampNeg) - (nI 12).toNatClampNeg) - (nI 6).toNatClampNeg) - (nI 400).toNatClampNeg) - (nI 1116).toNatClampNeg) - (nI 40176).toNatClampNeg) fun v87 =>
  jput 11 this 19 (.ref v87) <|
  jnewI 0 (nI 8) ((((((((((bc - 1) - 1) - 1) - 1) - 1) - 1) - 1) - 1) - 1) - 1) ((((((((((bs - (nI 2125).toNatClampNeg) - (nI 1284).toNatClampNeg) - (nI 400).toNatClampNeg) - (nI 5).toNatClampNeg) - (nI 12).toNatClampNeg) - (nI 6).toNatClampNeg) - (nI 400).toNatClampNeg) - (nI 1116).toNatClampNeg) - (nI 40176).toNatClampNeg) - (nI 3).toNatClampNeg) fun v95 =>
  jput 11 this 20 (.ref v95) <|
  jnewI 0 (nI 31) (((((((((((bc - 1) - 1) - 1) - 1) - 1) - 1) - 1) - 1) - 1) - 1) - 1) (((((((((((bs - (nI 2125).toNatClampNeg) - (nI 1284).toNatClampNeg) - (nI 400).toNatClampNeg) - (nI 5).toNatClampNeg) - (nI 12).toNatClampNeg) - (nI 6).toNatClampNeg) - (nI 400).toNatClampNeg) - (nI 1116).toNatClampNeg) - (nI 40176).toNatClampNeg) - (nI 3).toNatClampNeg) - (nI 8).toNatClampNeg) fun v103 =>
  jput 11 this 21 (.ref v103) <|
  jnewI 0 (nI 2232) ((((((((((((bc - 1) - 1) - 1) - 1) - 1) - 1) - 1) - 1) - 1) - 1) - 1) - 1) ((((((((((((bs - (nI 2125).toNatClampNeg) - (nI 1284).toNatClampNeg) - (nI 400).toNatClampNeg) - (nI 5).toNatClampNeg) - (nI 12).toNatClampNeg) - (nI 6).toNatClampNeg) - (nI 400).toNatClampNeg) - (nI 1116).toNatClampNeg) - (nI 40176).toNatClampNeg) - (nI 3).toNatClampNeg) - (nI 8).toNatClampNeg) - (nI 31).toNatClampNeg) fun v112 =>
  jput 11 this 22 (.ref v112) <|
  jnewI 0 (nI 2232) (((((((((((((bc - 1) - 1) - 1) - 1) - 1) - 1) - 1) - 1) - 1) - 1) - 1) - 1) - 1) (((((((((((((bs - (nI 2125).toNatClampNeg) - (nI 1284).toNatClampNeg) - (nI 400).toNatClampNeg) - (nI 5).toNatClampNeg) - (nI 12).toNatClampNeg) - (nI 6).toNatClampNeg) - (nI 400).toNatClampNeg) - (nI 1116).toNatClampNeg) - (nI 40176).toNatClampNeg) - (nI 3).toNatClampNeg) - (nI 8).toNatClampNeg) - (nI 31).toNatClampNeg) - (nI 2232).toNatClampNeg) fun v121 =>
  jput 11 this 23 (.ref v121) <|
  jnewI 0 (nI 2325) ((((((((((((((bc - 1) - 1) - 1) - 1) - 1) - 1) - 1) - 1) - 1) - 1) - 1) - 1) - 1) - 1) ((((((((((((((bs - (nI 2125).toNatClampNeg) - (nI 1284).toNatClampNeg) - (nI 400).toNatClampNeg) - (nI 5).toNatClampNeg) - (nI 12).toNatClampNeg) - (nI 6).toNatClampNeg) - (nI 400).toNatClampNeg) - (nI 1116).toNatClampNeg) - (nI 40176).toNatClampNeg) - (nI 3).toNatClampNeg) - (nI 8).toNatClampNeg) - (nI 31).toNatClampNeg) - (nI 2232).toNatClampNeg) - (nI 2232).toNatClampNeg) fun v130 =>
  jput 11 this 24 (.ref v130) <|
  jnewI 0 (nI 31) (((((((((((((((bc - 1) - 1) - 1) - 1) - 1) - 1) - 1) - 1) - 1) - 1) - 1) - 1) - 1) - 1) - 1) (((((((((((((((bs - (nI 2125).toNatClampNeg) - (nI 1284).toNatClampNeg) - (nI 400).toNatClampNeg) - (nI 5).toNatClampNeg) - (nI 12).toNatClampNeg) - (nI 6).toNatClampNeg) - (nI 400).toNatClampNeg) - (nI 1116).toNatClampNeg) - (nI 40176).toNatClampNeg) - (nI 3).toNatClampNeg) - (nI 8).toNatClampNeg) - (nI 31).toNatClampNeg) - (nI 2232).toNatClampNeg) - (nI 2232).toNatClampNeg) - (nI 2325).toNatClampNeg) fun v138 =>
  jput 11 this 31 (.ref v138) <|
  jnewL (nI 24) ((((((((((((((((bc - 1) - 1) - 1) - 1) - 1) - 1) - 1) - 1) - 1) - 1) - 1) - 1) - 1) - 1) - 1) - 1) ((((((((((((((((bs - (nI 2125).toNatClampNeg) - (nI 1284).toNatClampNeg) - (nI 400).toNatClampNeg) - (nI 5).toNatClampNeg) - (nI 12).toNatClampNeg) - (nI 6).toNatClampNeg) - (nI 400).toNatClampNeg) - (nI 1116).toNatClampNeg) - (nI 40176).toNatClampNeg) - (nI 3).toNatClampNeg) - (nI 8).toNatClampNeg) - (nI 31).toNatClampNeg) - (nI 2232).toNatClampNeg) - (nI 2232).toNatClampNeg) - (nI 2325).toNatClampNeg) - (nI 31).toNatClampNeg) fun v146 =>
  jput 11 this 33 (.ref v146) <|
  jnewL (nI 24) (((((((((((((((((bc - 1) - 1) - 1) - 1) - 1) - 1) - 1) - 1) - 1) - 1) - 1) - 1) - 1) - 1) - 1) - 1) - 1) (((((((((((((((((bs - (nI 2125).toNatClampNeg) - (nI 1284).toNatClampNeg) - (nI 400).toNatClampNeg) - (nI 5).toNatClampNeg) - (nI 12).toNatClampNeg) - (nI 6).toNatClampNeg) - (nI 400).toNatClampNeg) - (nI 1116).toNatClampNeg) - (nI 40176).toNatClampNeg) - (nI 3).toNatClampNeg) - (nI 8).toNatClampNeg) - (nI 31).toNatClampNeg) - (nI 2232).toNatClampNeg) - (nI 2232).toNatClampNeg) - (nI 2325).toNatClampNeg) - (nI 31).toNatClampNeg) - (nI 24).toNatClampNeg) fun v154 =>
  jput 11 this 34 (.ref v154) <|
  jnewI 0 (nI 30) ((((((((((((((((((bc - 1) - 1) - 1) - 1) - 1) - 1) - 1) - 1) - 1) - 1) - 1) - 1) - 1) - 1) - 1) - 1) - 1) - 1) ((((((((((((((((((bs - (nI 2125).toNatClampNeg) - (nI 1284).toNatClampNeg) - (nI 400).toNatClampNeg) - (nI 5).toNatClampNeg) - (nI 12).toNatClampNeg) - (nI 6).toNatClampNeg) - (nI 400).toNatClampNeg) - (nI 1116).toNatClampNeg) - (nI 40176).toNatClampNeg) - (nI 3).toNatClampNeg) - (nI 8).toNatClampNeg) - (nI 31).toNatClampNeg) - (nI 2232).toNatClampNeg) - (nI 2232).toNatClampNeg) - (nI 2325).toNatClampNeg) - (nI 31).toNatClampNeg) - (nI 24).toNatClampNeg) - (nI 24).toNatClampNeg) fun v162 =>
  jput 11 this 38 (.ref v162) <|
  jnewI 0 (nI 30) (((((((((((((((((((bc - 1) - 1) - 1) - 1) - 1) - 1) - 1) - 1) - 1) - 1) - 1) - 1) - 1) - 1) - 1) - 1) - 1) - 1) - 1) (((((((((((((((((((bs - (nI 2125).toNatClampNeg) - (nI 1284).toNatClampNeg) - (nI 400).toNatClampNeg) - (nI 5).toNatClampNeg) - (nI 12).toNatClampNeg) - (nI 6).toNatClampNeg) - (nI 400).toNatClampNeg) - (nI 1116).toNatClampNeg) - (nI 40176).toNatClampNeg) - (nI 3).toNatClampNeg) - (nI 8).toNatClampNeg) - (nI 31).toNatClampNeg) - (nI 2232).toNatClampNeg) - (nI 2232).toNatClampNeg) - (nI 2325).toNatClampNeg) - (nI 31).toNatClampNeg) - (nI 24).toNatClampNeg) - (nI 24).toNatClampNeg) - (nI 30).toNatClampNeg) fun v170 =>
  jput 11 this 39 (.ref v170) <|
  jnewI 0 (nI 30) ((((((((((((((((((((bc - 1) - 1) - 1) - 1) - 1) - 1) - 1) - 1) - 1) - 1) - 1) - 1) - 1) - 1) - 1) - 1) - 1) - 1) - 1) - 1) ((((((((((((((((((((bs - (nI 2125).toNatClampNeg) - (nI 1284).toNatClampNeg) - (nI 400).toNatClampNeg) - (nI 5).toNatClampNeg) - (nI 12).toNatClampNeg) - (nI 6).toNatClampNeg) - (nI 400).toNatClampNeg) - (nI 1116).toNatClampNeg) - (nI 40176).toNatClampNeg) - (nI 3).toNatClampNeg) - (nI 8).toNatClampNeg) - (nI 31).toNatClampNeg) - (nI 2232).toNatClampNeg) - (nI 2232).toNatClampNeg) - (nI 2325).toNatClampNeg) - (nI 31).toNatClampNeg) - (nI 24).toNatClampNeg) - (nI 24).toNatClampNeg) - (nI 30).toNatClampNeg) - (nI 30).toNatClampNeg) fun v178 =>
  jput 11 this 40 (.ref v178) <|
  jnewI 0 (nI 31) (((((((((((((((((((((bc - 1) - 1) - 1) - 1) - 1) - 1) - 1) - 1) - 1) - 1) - 1) - 1) - 1) - 1) - 1) - 1) - 1) - 1) - 1) - 1) - 1) (((((((((((((((((((((bs - (nI 2125).toNatClampNeg) - (nI 1284).toNatClampNeg) - (nI 400).toNatClampNeg) - (nI 5).toNatClampNeg) - (nI 12).toNatClampNeg) - (nI 6).toNatClampNeg) - (nI 400).toNatClampNeg) - (nI 1116).toNatClampNeg) - (nI 40176).toNatClampNeg) - (nI 3).toNatClampNeg) - (nI 8).toNatClampNeg) - (nI 31).toNatClampNeg) - (nI 2232).toNatClampNeg) - (nI 2232).toNatClampNeg) - (nI 2325).toNatClampNeg) - (nI 31).toNatClampNeg) - (nI 24).toNatClampNeg) - (nI 24).toNatClampNeg) - (nI 30).toNatClampNeg) - (nI 30).toNatClampNeg) - (nI 30).toNatClampNeg) fun v186 =>
  jput 11 this 45 (.ref v186) <|
  jnewI 0 (nI 24) ((((((((((((((((((((((bc - 1) - 1) - 1) - 1) - 1) - 1) - 1) - 1) - 1) - 1) - 1) - 1) - 1) - 1) - 1) - 1) - 1) - 1) - 1) - 1) - 1) - 1) ((((((((((((((((((((((bs - (nI 2125).toNatClampNeg) - (nI 1284).toNatClampNeg) - (nI 400).toNatClampNeg) - (nI 5).toNatClampNeg) - (nI 12).toNatClampNeg) - (nI 6).toNatClampNeg) - (nI 400).toNatClampNeg) - (nI 1116).toNatClampNeg) - (nI 40176).toNatClampNeg) - (nI 3).toNatClampNeg) - (nI 8).toNatClampNeg) - (nI 31).toNatClampNeg) - (nI 2232).toNatClampNeg) - (nI 2232).toNatClampNeg) - (nI 2325).toNatClampNeg) - (nI 31).toNatClampNeg) - (nI 24).toNatClampNeg) - (nI 24).toNatClampNeg) - (nI 30).toNatClampNeg) - (nI 30).toNatClampNeg) - (nI 30).toNatClampNeg) - (nI 31).toNatClampNeg) fun v194 =>
  jput 11 this 46 (.ref v194) <|
  jnewI 0 (nI 30) (((((((((((((((((((((((bc - 1) - 1) - 1) - 1) - 1) - 1) - 1) - 1) - 1) - 1) - 1) - 1) - 1) - 1) - 1) - 1) - 1) - 1) - 1) - 1) - 1) - 1) - 1) (((((((((((((((((((((((bs - (nI 2125).toNatClampNeg) - (nI 1284).toNatClampNeg) - (nI 400).toNatClampNeg) - (nI 5).toNatClampNeg) - (nI 12).toNatClampNeg) - (nI 6).toNatClampNeg) - (nI 400).toNatClampNeg) - (nI 1116).toNatClampNeg) - (nI 40176).toNatClampNeg) - (nI 3).toNatClampNeg) - (nI 8).toNatClampNeg) - (nI 31).toNatClampNeg) - (nI 2232).toNatClampNeg) - (nI 2232).toNatClampNeg) - (nI 2325).toNatClampNeg) - (nI 31).toNatClampNeg) - (nI 24).toNatClampNeg) - (nI 24).toNatClampNeg) - (nI 30).toNatClampNeg) - (nI 30).toNatClampNeg) - (nI 30).toNatClampNeg) - (nI 31).toNatClampNeg) - (nI 24).toNatClampNeg) fun v202 =>
  jput 11 this 47 (.ref v202) <|
  jnewI 0 (nI 24) ((((((((((((((((((((((((bc - 1) - 1) - 1) - 1) - 1) - 1) - 1) - 1) - 1) - 1) - 1) - 1) - 1) - 1) - 1) - 1) - 1) - 1) - 1) - 1) - 1) - 1) - 1) - 1) ((((((((((((((((((((((((bs - (nI 2125).toNatClampNeg) - (nI 1284).toNatClampNeg) - (nI 400).toNatClampNeg) - (nI 5).toNatClampNeg) - (nI 12).toNatClampNeg) - (nI 6).toNatClampNeg) - (nI 400).toNatClampNeg) - (nI 1116).toNatClampNeg) - (nI 40176).toNatClampNeg) - (nI 3).toNatClampNeg) - (nI 8).toNatClampNeg) - (nI 31).toNatClampNeg) - (nI 2232).toNatClampNeg) - (nI 2232).toNatClampNeg) - (nI 2325).toNatClampNeg) - (nI 31).toNatClampNeg) - (nI 24).toNatClampNeg) - (nI 24).toNatClampNeg) - (nI 30).toNatClampNeg) - (nI 30).toNatClampNeg) - (nI 30).toNatClampNeg) - (nI 31).toNatClampNeg) - (nI 24).toNatClampNeg) - (nI 30).toNatClampNeg) fun v210 =>
  jput 11 this 48 (.ref v210) <|
  jnewI 0 (nI 30) (((((((((((((((((((((((((bc - 1) - 1) - 1) - 1) - 1) - 1) - 1) - 1) - 1) - 1) - 1) - 1) - 1) - 1) - 1) - 1) - 1) - 1) - 1) - 1) - 1) - 1) - 1) - 1) - 1) (((((((((((((((((((((((((bs - (nI 2125).toNatClampNeg) - (nI 1284).toNatClampNeg) - (nI 400).toNatClampNeg) - (nI 5).toNatClampNeg) - (nI 12).toNatClampNeg) - (nI 6).toNatClampNeg) - (nI 400).toNatClampNeg) - (nI 1116).toNatClampNeg) - (nI 40176).toNatClampNeg) - (nI 3).toNatClampNeg) - (nI 8).toNatClampNeg) - (nI 31).toNatClampNeg) - (nI 2232).toNatClampNeg) - (nI 2232).toNatClampNeg) - (nI 2325).toNatClampNeg) - (nI 31).toNatClampNeg) - (nI 24).toNatClampNeg) - (nI 24).toNatClampNeg) - (nI 30).toNatClampNeg) - (nI 30).toNatClampNeg) - (nI 30).toNatClampNeg) - (nI 31).toNatClampNeg) - (nI 24).toNatClampNeg) - (nI 30).toNatClampNeg) - (nI 24).toNatClampNeg) fun v218 =>
  jput 11 this 49 (.ref v218) <|
  jnewI 0 (nI 625) ((((((((((((((((((((((((((bc - 1) - 1) - 1) - 1) - 1) - 1) - 1) - 1) - 1) - 1) - 1) - 1) - 1) - 1) - 1) - 1) - 1) - 1) - 1) - 1) - 1) - 1) - 1) - 1) - 1) - 1) ((((((((((((((((((((((((((bs - (nI 2125).toNatClampNeg) - (nI 1284).toNatClampNeg) - (nI 400).toNatClampNeg) - (nI 5).toNatClampNeg) - (nI 12).toNatClampNeg) - (nI 6).toNatClampNeg) - (nI 400).toNatClampNeg) - (nI 1116).toNatClampNeg) - (nI 40176).toNatClampNeg) - (nI 3).toNatClampNeg) - (nI 8).toNatClampNeg) - (nI 31).toNatClampNeg) - (nI 2232).toNatClampNeg) - (nI 2232).toNatClampNeg) - (nI 2325).toNatClampNeg) - (nI 31).toNatClampNeg) - (nI 24).toNatClampNeg) - (nI 24).toNatClampNeg) - (nI 30).toNatClampNeg) - (nI 30).toNatClampNeg) - (nI 30).toNatClampNeg) - (nI 31).toNatClampNeg) - (nI 24).toNatClampNeg) - (nI 30).toNatClampNeg) - (nI 24).toNatClampNeg) - (nI 30).toNatClampNeg) fun v227 =>
  jput 11 this 50 (.ref v227) <|
  jgetA 11 this 1 fun v233 =>
  jastI v233 (nI 3) (-1) <|
  jex fun n241 => jit (FX11_init_241 this Qj) (fun _ => jbot) n241 (nI 0)
def FX1_four_3 (this : Nat) (p1 : Int32) (Qj : JP) (rec3 : Int32 → JP) (x2_3 : Int32) : JP :=
  jif (x2_3 < (nI 0)) (
    Qj) (
    jgetA 1 this 0 fun v8 =>
    jgetA 2 v8 0 fun v11 =>
    jgetA 1 this 0 fun v15 =>
    jgetI 2 v15 7 fun v18 =>
    jastB v11 v18 (ji2b (jshr p1 x2_3)) <|
    jgetA 1 this 0 fun v27 =>
    jgetI 2 v27 7 fun v31 =>
    jput 2 v27 7 (.int (v31 + (nI 1))) <|
    rec3 (x2_3 + (-8)))
def JX1_four (this : Nat) (p1 : Int32) (Qj : JP) : JP :=
  jex fun n3 => jit (FX1_four_3 this p1 Qj) (fun _ => jbot) n3 (nI 24)
def JX1_feed (this : Nat) (p1 : Int32) (p2 : Int32) (p3 : Int32) (p4 : Int32) (p5 : Int32) (Qj : Int32 → JP) : JP :=
  jgetA 1 this 0 fun v1 =>
  jgetI 2 v1 7 fun v4 =>
  jif ((v4 + (nI 20)) ≤ (nI 400)) (
    jobj 1 this <|
    JX1_four this p1 <|
    jobj 1 this <|
    JX1_four this p2 <|
    jobj 1 this <|
    JX1_four this p3 <|
    jobj 1 this <|
    JX1_four this p4 <|
    jobj 1 this <|
    JX1_four this p5 <|
    jgetA 1 this 0 fun v46 =>
    jgetI 2 v46 7 fun v49 =>
    Qj v49) (
    Qj (-1))
def FX11_feed_60 (this : Nat) (k106 : JP) (rec60 : Int32 → JP) (x6_60 : Int32) : JP :=
  jif ((nI 20) ≤ x6_60) (
    k106) (
    jgetA 11 this 4 fun v68 =>
    jgetI 11 this 5 fun v72 =>
    jgetA 11 this 11 fun v79 =>
    jaldI 0 v79 (x6_60 / (nI 4)) fun v86 =>
    jastB v68 (v72 + x6_60) (ji2b (jshr v86 ((nI 24) - ((nI 8) * (jrem x6_60 (nI 4)))))) <|
    rec60 (x6_60 + (nI 1)))
def JX11_feed (this : Nat) (p1 : Int32) (p2 : Int32) (p3 : Int32) (p4 : Int32) (p5 : Int32) (Qj : Int32 → JP) : JP :=
  jput 11 this 0 (.int (nI 0)) <|
  jgetI 11 this 5 fun v6 =>
  jif ((v6 + (nI 20)) ≤ (nI 400)) (
    jgetA 11 this 11 fun v21 =>
    jastI v21 (nI 0) p1 <|
    jgetA 11 this 11 fun v28 =>
    jastI v28 (nI 1) p2 <|
    jgetA 11 this 11 fun v35 =>
    jastI v35 (nI 2) p3 <|
    jgetA 11 this 11 fun v42 =>
    jastI v42 (nI 3) p4 <|
    jgetA 11 this 11 fun v50 =>
    jastI v50 (nI 4) p5 <|
    jex fun n60 => jit (FX11_feed_60 this (
        jgetI 11 this 5 fun v108 =>
        jput 11 this 5 (.int (v108 + (nI 20))) <|
        jgetI 11 this 5 fun v118 =>
        Qj v118)) (fun _ => jbot) n60 (nI 0)) (
    Qj (-1))
def JX1_isIn (p0 : Int32) (p1 : Int32) (p2 : Int32) (Qj : Int32 → JP) : JP :=
  jjoin (α := JP) (
    Qj (nI 0)) fun k14 =>
  jif (p0 < p1) (
    k14) (
    jif (p2 < p0) (
      k14) (
      Qj (nI 1)))
def JX1_end (this : Nat) (p1 : Int32) (Qj : Int32 → JP) : JP :=
  jgetA 1 this 0 fun v3 =>
  jgetI 2 v3 7 fun v6 =>
  JX1_isIn p1 (nI 0) v6 fun v9 =>
  jif (v9 = (nI 0)) (
    Qj (nI 0)) (
    jgetA 1 this 0 fun v18 =>
    jput 2 v18 7 (.int p1) <|
    Qj (nI 1))
def JX11_end (this : Nat) (p1 : Int32) (Qj : Int32 → JP) : JP :=
  jput 11 this 0 (.int (nI 0)) <|
  jif (p1 < (nI 0)) (
    Qj (nI 0)) (
    jgetI 11 this 5 fun v11 =>
    jif (p1 ≤ v11) (
      jput 11 this 5 (.int p1) <|
      Qj (nI 1)) (
      Qj (nI 0)))
def JX1_use (this : Nat) (Qj : Int32 → JP) : JP :=
  jgetA 1 this 0 fun v1 =>
  jgetI 2 v1 7 fun v4 =>
  jgetA 1 this 0 fun v9 =>
  jput 2 v9 7 (.int (nI 0)) <|
  jput 1 this 13 (.int (-1)) <|
  Qj v4
def FX2_sign_0 (this : Nat) (k38 : JP) (rec0 : JP) : JP :=
  jgetI 2 this 9 fun v1 =>
  jgetI 2 this 8 fun v5 =>
  jif (v5 ≤ v1) (
    k38) (
    jgetA 2 this 0 fun v12 =>
    jgetI 2 this 9 fun v16 =>
    jaldI 2 v12 v16 fun v19 =>
    jif (v19 = (nI 32)) (
      jgetI 2 this 9 fun v27 =>
      jput 2 this 9 (.int (v27 + (nI 1))) <|
      rec0) (
      k38))
def JX2_sign (this : Nat) (Qj : Int32 → JP) : JP :=
  jex fun n0 => jit (FX2_sign_0 this (
      jgetI 2 this 9 fun v39 =>
      jgetI 2 this 8 fun v43 =>
      jif (v43 ≤ v39) (
        Qj (-1)) (
        jgetA 2 this 0 fun v50 =>
        jgetI 2 this 9 fun v54 =>
        jaldI 2 v50 v54 fun v57 =>
        Qj (v57 &&& (nI 255))))) jbot n0
def JX2_fail (this : Nat) (p1 : Int32) (Ex : Nat → Nat → JP) (Qj : JP) : JP :=
  jgetA 2 this 6 fun v1 =>
  jput 6 v1 6 (.int p1) <|
  jgetA 2 this 6 fun v9 =>
  jthrowO 4 v9 Ex
def FX2_takes_69 (sK : Nat → Nat) (this : Nat) (p1 : Nat) (k117 : Int32 → JP) (rec69 : Int32 → Int32 → JP) (x4_69 : Int32) (x5_69 : Int32) : JP :=
  jsobj sK p1 <|
  JJ3_length sK p1 fun v72 =>
  jif (v72 ≤ x5_69) (
    k117 x4_69) (
    jif (x4_69 = (nI 0)) (
      k117 x4_69) (
      jgetA 2 this 0 fun v84 =>
      jgetI 2 this 9 fun v88 =>
      jaldI 2 v84 (v88 + x5_69) fun v94 =>
      jsobj sK p1 <|
      JJ3_charAt sK p1 x5_69 fun v98 =>
      jjoin (α := Int32 → JP) (fun (s0_109 : Int32) =>
        rec69 s0_109 (x5_69 + (nI 1))) fun k109 =>
      jif (v94 = v98) (
        k109 (nI 1)) (
        k109 (nI 0))))
def FX2_takes_10 (this : Nat) (k46 : Int32 → JP) (rec10 : Int32 → JP) (x3_10 : Int32) : JP :=
  jgetI 2 this 8 fun v12 =>
  jif (v12 ≤ x3_10) (
    k46 x3_10) (
    jgetA 2 this 0 fun v19 =>
    jaldI 2 v19 x3_10 fun v23 =>
    jif (v23 < (nI 97)) (
      k46 x3_10) (
      jgetA 2 this 0 fun v30 =>
      jaldI 2 v30 x3_10 fun v34 =>
      jif ((nI 122) < v34) (
        k46 x3_10) (
        rec10 (x3_10 + (nI 1)))))
def JX2_takes (sK : Nat → Nat) (this : Nat) (p1 : Nat) (Qj : Int32 → JP) : JP :=
  jobj 2 this <|
  JX2_sign this fun v1 =>
  jgetI 2 this 9 fun v6 =>
  jex fun n10 => jit (FX2_takes_10 this (fun (y3_46 : Int32) =>
      jgetI 2 this 9 fun v48 =>
      jsobj sK p1 <|
      JJ3_length sK p1 fun v53 =>
      jjoin (α := Int32 → JP) (fun (s0_64 : Int32) =>
        jex fun n69 => jit (FX2_takes_69 sK this p1 (fun (y4_117 : Int32) =>
            jif (y4_117 = (nI 0)) (
              jand (y4_117 = nI 0 ∨ y4_117 = nI 1) (Qj y4_117)) (
              jput 2 this 9 (.int y3_46) <|
              jand (y4_117 = nI 0 ∨ y4_117 = nI 1) (Qj y4_117)))) (fun _ _ => jbot) n69 s0_64 (nI 0)) fun k64 =>
      jif ((y3_46 - v48) = v53) (
        k64 (nI 1)) (
        k64 (nI 0)))) (fun _ => jbot) n10 v6
def FX2_number_14 (this : Nat) (Ex : Nat → Nat → JP) (v6 : Int32) (k103 : Int32 → JP) (rec14 : Int32 → JP) (x5_14 : Int32) : JP :=
  jgetI 2 this 9 fun v15 =>
  jgetI 2 this 8 fun v19 =>
  jif (v19 ≤ v15) (
    k103 x5_14) (
    jgetA 2 this 0 fun v26 =>
    jgetI 2 this 9 fun v30 =>
    jaldI 2 v26 v30 fun v33 =>
    jif (v33 < (nI 48)) (
      k103 x5_14) (
      jgetA 2 this 0 fun v40 =>
      jgetI 2 this 9 fun v44 =>
      jaldI 2 v40 v44 fun v47 =>
      jif ((nI 57) < v47) (
        k103 x5_14) (
        jgetI 2 this 9 fun v54 =>
        jjoin (α := JP) (
          jgetA 2 this 0 fun v76 =>
          jgetI 2 this 9 fun v80 =>
          jaldI 2 v76 v80 fun v83 =>
          jgetI 2 this 9 fun v92 =>
          jput 2 this 9 (.int (v92 + (nI 1))) <|
          rec14 ((((nI 10) * x5_14) + v83) - (nI 48))) fun k70 =>
        jif ((v54 - v6) = (nI 3)) (
          jobj 2 this <|
          JX2_fail this v6 Ex <|
          k70) (
          k70))))
def JX2_number (this : Nat) (p1 : Int32) (p2 : Int32) (Ex : Nat → Nat → JP) (Qj : Int32 → JP) : JP :=
  jobj 2 this <|
  JX2_sign this fun v1 =>
  jgetI 2 this 9 fun v6 =>
  jex fun n14 => jit (FX2_number_14 this Ex v6 (fun (y5_103 : Int32) =>
      jgetI 2 this 9 fun v104 =>
      jjoin (α := JP) (
        jobj 2 this <|
        JX2_fail this v6 Ex <|
        Qj y5_103) fun k124 =>
      jif (v104 = v6) (
        k124) (
        jif (y5_103 < p1) (
          k124) (
          jif (y5_103 ≤ p2) (
            Qj y5_103) (
            k124))))) (fun _ => jbot) n14 (nI 0)
def JX13_init (this : Nat) (p1 : Int32) (Qj : JP) : JP :=
  JX3_init this <|
  jput 13 this 0 (.int p1) <|
  Qj
def JX14_init (this : Nat) (p1 : Int32) (Qj : JP) : JP :=
  JX3_init this <|
  jput 14 this 0 (.int p1) <|
  Qj
def JX15_init (this : Nat) (p1 : Int32) (Qj : JP) : JP :=
  JX3_init this <|
  jput 15 this 0 (.int p1) <|
  Qj
def JX2_going (sK : Nat → Nat) (bc : Nat) (bs : Nat) (this : Nat) (Ex : Nat → Nat → JP) (Qj : Nat → JP) : JP :=
  jobj 2 this <|
  JX2_takes sK this (sK 4) fun v3 =>
  jif (v3 = (nI 0)) (
    jobj 2 this <|
    JX2_takes sK this (sK 5) fun v26 =>
    jif (v26 = (nI 0)) (
      jobj 2 this <|
      JX2_takes sK this (sK 6) fun v49 =>
      jif (v49 = (nI 0)) (
        jobj 2 this <|
        JX2_takes sK this (sK 7) fun v72 =>
        jif (v72 = (nI 0)) (
          jobj 2 this <|
          JX2_takes sK this (sK 8) fun v86 =>
          jjoin (α := JP) (
            jgetA 2 this 5 fun v101 =>
            Qj v101) fun k100 =>
          jif (v86 = (nI 0)) (
            jgetI 2 this 9 fun v94 =>
            jobj 2 this <|
            JX2_fail this v94 Ex <|
            k100) (
            k100)) (
          jgetA 2 this 4 fun v79 =>
          Qj v79)) (
        jnew 15 1 df15 bc bs fun v55 =>
        jobj 2 this <|
        JX2_number this (nI 1) (nI 5) Ex fun v62 =>
        JX15_init v55 v62 <|
        Qj v55)) (
      jnew 14 1 df14 bc bs fun v32 =>
      jobj 2 this <|
      JX2_number this (nI 1) (nI 5) Ex fun v39 =>
      JX14_init v32 v39 <|
      Qj v32)) (
    jnew 13 1 df13 bc bs fun v9 =>
    jobj 2 this <|
    JX2_number this (nI 1) (nI 5) Ex fun v16 =>
    JX13_init v9 v16 <|
    Qj v9)
def FX2_fact_2 (sK : Nat → Nat) (this : Nat) (Qj : Int32 → JP) (k28 : JP) (rec2 : Int32 → JP) (x1_2 : Int32) : JP :=
  jif ((nI 4) ≤ x1_2) (
    k28) (
    jgetA 2 this 1 fun v9 =>
    jaldA 4 v9 x1_2 fun v13 =>
    jobj 2 this <|
    JX2_takes sK this v13 fun v14 =>
    jif (v14 = (nI 0)) (
      rec2 (x1_2 + (nI 1))) (
      Qj x1_2))
def JX2_fact (sK : Nat → Nat) (this : Nat) (Ex : Nat → Nat → JP) (Qj : Int32 → JP) : JP :=
  jex fun n2 => jit (FX2_fact_2 sK this Qj (
      jgetI 2 this 9 fun v30 =>
      jobj 2 this <|
      JX2_fail this v30 Ex <|
      Qj (-1))) (fun _ => jbot) n2 (nI 0)
def JX18_init (this : Nat) (p1 : Int32) (Qj : JP) : JP :=
  jput 18 this 0 (.int p1) <|
  Qj
def JX19_init (bc : Nat) (bs : Nat) (this : Nat) (Qj : JP) : JP :=
  jnewI 0 (nI 4) bc bs fun v6 =>
  jput 19 this 0 (.ref v6) <|
  Qj
def JX2_part (sK : Nat → Nat) (this : Nat) (p1 : Nat) (Ex : Nat → Nat → JP) (Qj : JP) : JP :=
  jobj 2 this <|
  JX2_sign this fun v1 =>
  jjoin (α := JP) (
    jgetA 19 p1 0 fun v38 =>
    jobj 2 this <|
    JX2_fact sK this Ex fun v42 =>
    jaldI 0 v38 v42 fun v46 =>
    jastI v38 v42 (v46 + (nI 1)) <|
    Qj) fun k37 =>
  jif (v1 < (nI 48)) (
    k37) (
    jif ((nI 57) < v1) (
      k37) (
      jgetI 19 p1 1 fun v19 =>
      jobj 2 this <|
      JX2_number this (nI 0) (nI 999) Ex fun v27 =>
      jput 19 p1 1 (.int (v19 + v27)) <|
      Qj))
def FX2_sum_13 (sK : Nat → Nat) (this : Nat) (Ex : Nat → Nat → JP) (Qj : Nat → JP) (v0 : Nat) (rec13 : JP) : JP :=
  jobj 2 this <|
  JX2_sign this fun v14 =>
  jif (v14 = (nI 43)) (
    jgetI 2 this 9 fun v24 =>
    jput 2 this 9 (.int (v24 + (nI 1))) <|
    jobj 2 this <|
    JX2_part sK this v0 Ex <|
    rec13) (
    Qj v0)
def JX2_sum (sK : Nat → Nat) (bc : Nat) (bs : Nat) (this : Nat) (Ex : Nat → Nat → JP) (Qj : Nat → JP) : JP :=
  jnew 19 2 df19 bc bs fun v0 =>
  jbud (bc - 1) (bs - 2) fun mc4 ms4 =>
  JX19_init mc4 ms4 v0 <|
  jobj 2 this <|
  JX2_part sK this v0 Ex <|
  jex fun n13 => jit (FX2_sum_13 sK this Ex Qj v0) jbot n13
def JX20_init (this : Nat) (p1 : Nat) (p2 : Nat) (Qj : JP) : JP :=
  jput 20 this 0 (.ref p1) <|
  jput 20 this 1 (.ref p2) <|
  Qj
def JX2_tag (sK : Nat → Nat) (bc : Nat) (bs : Nat) (this : Nat) (Ex : Nat → Nat → JP) (Qj : Nat → JP) : JP :=
  jobj 2 this <|
  JX2_takes sK this (sK 14) fun v3 =>
  jif (v3 = (nI 0)) (
    jobj 2 this <|
    JX2_takes sK this (sK 15) fun v21 =>
    jif (v21 = (nI 0)) (
      jbud bc bs fun mc37 ms37 =>
      jobj 2 this <|
      JX2_sum sK mc37 ms37 this Ex fun v37 =>
      jobj 2 this <|
      JX2_sign this fun v42 =>
      jjoin (α := JP) (
        jgetI 2 this 9 fun v68 =>
        jput 2 this 9 (.int (v68 + (nI 1))) <|
        jbud (bc - mc37) (bs - ms37) fun mc77 ms77 =>
        jobj 2 this <|
        JX2_sum sK mc77 ms77 this Ex fun v77 =>
        jif (v42 = (nI 60)) (
          jnew 20 2 df20 ((bc - mc37) - mc77) ((bs - ms37) - ms77) fun v87 =>
          JX20_init v87 v37 v77 <|
          Qj v87) (
          jnew 20 2 df20 ((bc - mc37) - mc77) ((bs - ms37) - ms77) fun v99 =>
          JX20_init v99 v77 v37 <|
          Qj v99)) fun k66 =>
      jif (v42 = (nI 60)) (
        k66) (
        jif (v42 = (nI 62)) (
          k66) (
          jgetI 2 this 9 fun v60 =>
          jobj 2 this <|
          JX2_fail this v60 Ex <|
          k66))) (
      jnew 18 1 df18 bc bs fun v27 =>
      JX18_init v27 (nI 5) <|
      Qj v27)) (
    jnew 18 1 df18 bc bs fun v9 =>
    JX18_init v9 (nI 4) <|
    Qj v9)
def JX21_init (this : Nat) (p1 : Nat) (Qj : JP) : JP :=
  jput 21 this 0 (.ref p1) <|
  Qj
def JX17_init (this : Nat) (p1 : Nat) (p2 : Int32) (Qj : JP) : JP :=
  jput 17 this 0 (.ref p1) <|
  jputZ 17 this 1 p2 <|
  Qj
def JX2_atomF (sK : Nat → Nat) (rJX2_atom : Nat → Nat → Nat → (Nat → Nat → JP) → (Nat → JP) → JP) (rJX2_row : Nat → Nat → Nat → Int32 → (Nat → Nat → JP) → (Nat → JP) → JP) (bc : Nat) (bs : Nat) (this : Nat) (Ex : Nat → Nat → JP) (Qj : Nat → JP) : JP :=
  jobj 2 this <|
  JX2_sign this fun v1 =>
  jgetI 2 this 9 fun v6 =>
  jobj 2 this <|
  JX2_takes sK this (sK 13) fun v13 =>
  jjoin (α := JP) (
    jgetI 2 this 10 fun v33 =>
    jjoin (α := JP) (
      jgetI 2 this 10 fun v48 =>
      jput 2 this 10 (.int (v48 + (nI 1))) <|
      jjoin (α := Nat → Nat → Nat → JP) (fun (x4_120 : Nat) (bc_120 : Nat) (bs_120 : Nat) =>
        jgetI 2 this 10 fun v122 =>
        jput 2 this 10 (.int (v122 - (nI 1))) <|
        Qj x4_120) fun k120 =>
      jif (v13 = (nI 0)) (
        jgetI 2 this 9 fun v78 =>
        jput 2 this 9 (.int (v78 + (nI 1))) <|
        jbud bc bs fun mc88 ms88 =>
        jobj 2 this <|
        rJX2_row mc88 ms88 this (nI 0) Ex fun v88 =>
        jobj 2 this <|
        JX2_sign this fun v94 =>
        jjoin (α := JP) (
          jgetI 2 this 9 fun v112 =>
          jput 2 this 9 (.int (v112 + (nI 1))) <|
          k120 v88 (bc - mc88) (bs - ms88)) fun k110 =>
        jif (v94 = (nI 41)) (
          k110) (
          jgetI 2 this 9 fun v104 =>
          jobj 2 this <|
          JX2_fail this v104 Ex <|
          k110)) (
        jnew 21 1 df21 bc bs fun v60 =>
        jbud (bc - 1) (bs - 1) fun mc65 ms65 =>
        jobj 2 this <|
        rJX2_atom mc65 ms65 this Ex fun v65 =>
        JX21_init v60 v65 <|
        k120 v60 ((bc - 1) - mc65) ((bs - 1) - ms65))) fun k46 =>
    jif (v33 = (nI 6)) (
      jobj 2 this <|
      JX2_fail this v6 Ex <|
      k46) (
      k46)) fun k32 =>
  jif (v13 = (nI 0)) (
    jif (v1 = (nI 40)) (
      k32) (
      jbud bc bs fun mc28 ms28 =>
      jobj 2 this <|
      JX2_tag sK mc28 ms28 this Ex fun v28 =>
      Qj v28)) (
    k32)
def FX2_row_27 (sK : Nat → Nat) (rJX2_atom : Nat → Nat → Nat → (Nat → Nat → JP) → (Nat → JP) → JP) (rJX2_row : Nat → Nat → Nat → Int32 → (Nat → Nat → JP) → (Nat → JP) → JP) (this : Nat) (p1 : Int32) (Ex : Nat → Nat → JP) (Qj : Nat → JP) (v0 : Nat) (rec27 : Option Nat → Nat → Nat → JP) (x3_27 : Option Nat) (bc_27 : Nat) (bs_27 : Nat) : JP :=
  jjoin (α := Nat → JP) (fun (s1_39 : Nat) =>
    jobj 2 this <|
    JX2_takes sK this s1_39 fun v39 =>
    jif (v39 = (nI 0)) (
      Qj v0) (
      jnew 17 3 df17 bc_27 bs_27 fun v46 =>
      jjoin (α := Nat → Nat → Nat → JP) (fun (s3_66 : Nat) (bc_66 : Nat) (bs_66 : Nat) =>
        JX17_init v46 s3_66 p1 <|
        jsome x3_27 fun u70 =>
        jput 17 u70 2 (.ref v46) <|
        jgetO 17 u70 2 fun v74 =>
        rec27 v74 bc_66 bs_66) fun k66 =>
      jif (p1 = (nI 0)) (
        jbud (bc_27 - 1) (bs_27 - 3) fun mc63 ms63 =>
        jobj 2 this <|
        rJX2_row mc63 ms63 this (nI 1) Ex fun v63 =>
        k66 v63 ((bc_27 - 1) - mc63) ((bs_27 - 3) - ms63)) (
        jbud (bc_27 - 1) (bs_27 - 3) fun mc55 ms55 =>
        jobj 2 this <|
        rJX2_atom mc55 ms55 this Ex fun v55 =>
        k66 v55 ((bc_27 - 1) - mc55) ((bs_27 - 3) - ms55)))) fun k39 =>
  jif (p1 = (nI 0)) (
    k39 (sK 12)) (
    k39 (sK 11))
def JX2_rowF (sK : Nat → Nat) (rJX2_atom : Nat → Nat → Nat → (Nat → Nat → JP) → (Nat → JP) → JP) (rJX2_row : Nat → Nat → Nat → Int32 → (Nat → Nat → JP) → (Nat → JP) → JP) (bc : Nat) (bs : Nat) (this : Nat) (p1 : Int32) (Ex : Nat → Nat → JP) (Qj : Nat → JP) : JP :=
  jnew 17 3 df17 bc bs fun v0 =>
  jjoin (α := Nat → Nat → Nat → JP) (fun (s2_20 : Nat) (bc_20 : Nat) (bs_20 : Nat) =>
    JX17_init v0 s2_20 p1 <|
    jex fun n27 => jit (FX2_row_27 sK rJX2_atom rJX2_row this p1 Ex Qj v0) (fun _ _ _ => jbot) n27 (some v0) bc_20 bs_20) fun k20 =>
  jif (p1 = (nI 0)) (
    jbud (bc - 1) (bs - 3) fun mc17 ms17 =>
    jobj 2 this <|
    rJX2_row mc17 ms17 this (nI 1) Ex fun v17 =>
    k20 v17 ((bc - 1) - mc17) ((bs - 3) - ms17)) (
    jbud (bc - 1) (bs - 3) fun mc9 ms9 =>
    jobj 2 this <|
    rJX2_atom mc9 ms9 this Ex fun v9 =>
    k20 v9 ((bc - 1) - mc9) ((bs - 3) - ms9))
def JX2_atomR (sK : Nat → Nat) : Nat → (Nat → Nat → Nat → (Nat → Nat → JP) → (Nat → JP) → JP) × (Nat → Nat → Nat → Int32 → (Nat → Nat → JP) → (Nat → JP) → JP)
  | 0 => ((fun _ _ _ _ _ => jbot), (fun _ _ _ _ _ _ => jbot))
  | n + 1 => (JX2_atomF sK (JX2_atomR sK n).1 (JX2_atomR sK n).2, JX2_rowF sK (JX2_atomR sK n).1 (JX2_atomR sK n).2)
def JX2_atom (sK : Nat → Nat) (n : Nat) : Nat → Nat → Nat → (Nat → Nat → JP) → (Nat → JP) → JP := (JX2_atomR sK n).1
def JX2_row (sK : Nat → Nat) (n : Nat) : Nat → Nat → Nat → Int32 → (Nat → Nat → JP) → (Nat → JP) → JP := (JX2_atomR sK n).2
def JX16_init (this : Nat) (p1 : Int32) (p2 : Int32) (p3 : Option Nat) (Qj : JP) : JP :=
  jput 16 this 0 (.int p1) <|
  jput 16 this 1 (.int p2) <|
  jput 16 this 2 (va_rf p3) <|
  Qj
def JX2_playLine (sK : Nat → Nat) (bc : Nat) (bs : Nat) (this : Nat) (Ex : Nat → Nat → JP) (Qj : Nat → JP) : JP :=
  jobj 2 this <|
  JX2_takes sK this (sK 9) fun v3 =>
  jjoin (α := JP) (
    jobj 2 this <|
    JX2_number this (nI 0) (nI 999) Ex fun v22 =>
    jobj 2 this <|
    JX2_sign this fun v29 =>
    jjoin (α := Int32 → JP) (fun (x2_52 : Int32) =>
      jnew 16 3 df16 bc bs fun v52 =>
      jobj 2 this <|
      JX2_takes sK this (sK 10) fun v61 =>
      jif (v61 = (nI 0)) (
        JX16_init v52 v22 x2_52 none <|
        Qj v52) (
        jbud (bc - 1) (bs - 3) fun mc69 ms69 =>
        jobj 2 this <|
        JX2_row sK 40 mc69 ms69 this (nI 0) Ex fun v69 =>
        JX16_init v52 v22 x2_52 (some v69) <|
        Qj v52)) fun k52 =>
    jif (v29 = (nI 42)) (
      jgetI 2 this 9 fun v39 =>
      jput 2 this 9 (.int (v39 + (nI 1))) <|
      jobj 2 this <|
      JX2_fact sK this Ex fun v48 =>
      k52 v48) (
      k52 (-1))) fun k17 =>
  jif (v3 = (nI 0)) (
    jgetI 2 this 9 fun v11 =>
    jobj 2 this <|
    JX2_fail this v11 Ex <|
    k17) (
    k17)
def FX2_lines_32 (sK : Nat → Nat) (this : Nat) (p2 : Int32) (Ex : Nat → Nat → JP) (Qj : Int32 → JP) (rec32 : Int32 → Int32 → Nat → Nat → JP) (x3_32 : Int32) (x4_32 : Int32) (bc_32 : Nat) (bs_32 : Nat) : JP :=
  jif (x4_32 = (nI 0)) (
    Qj x3_32) (
    jobj 2 this <|
    JX2_sign this fun v38 =>
    jjoin (α := Int32 → JP) (fun (s1_55 : Int32) =>
      jjoin (α := JP) (
        jjoin (α := Nat → Nat → JP) (fun (bc_93 : Nat) (bs_93 : Nat) =>
          jobj 2 this <|
          JX2_sign this fun v97 =>
          jjoin (α := Int32 → JP) (fun (s0_110 : Int32) =>
            jjoin (α := JP) (
              rec32 (x3_32 + (nI 1)) s0_110 bc_93 bs_93) fun k146 =>
            jif (s0_110 = (nI 0)) (
              jobj 2 this <|
              JX2_sign this fun v131 =>
              jif (v131 = (-1)) (
                k146) (
                jgetI 2 this 9 fun v140 =>
                jobj 2 this <|
                JX2_fail this v140 Ex <|
                k146)) (
              jgetI 2 this 9 fun v119 =>
              jput 2 this 9 (.int (v119 + (nI 1))) <|
              k146)) fun k110 =>
          jif (v97 = (nI 59)) (
            k110 (nI 1)) (
            k110 (nI 0))) fun k93 =>
        jif (p2 = (nI 0)) (
          jgetA 2 this 3 fun v84 =>
          jbud bc_32 bs_32 fun mc89 ms89 =>
          jobj 2 this <|
          JX2_playLine sK mc89 ms89 this Ex fun v89 =>
          jastA 6 16 v84 x3_32 v89 <|
          k93 (bc_32 - mc89) (bs_32 - ms89)) (
          jgetA 2 this 2 fun v71 =>
          jbud bc_32 bs_32 fun mc76 ms76 =>
          jobj 2 this <|
          JX2_going sK mc76 ms76 this Ex fun v76 =>
          jastX 5 v71 x3_32 v76 <|
          k93 (bc_32 - mc76) (bs_32 - ms76))) fun k66 =>
      jif (x3_32 = s1_55) (
        jgetI 2 this 9 fun v60 =>
        jobj 2 this <|
        JX2_fail this v60 Ex <|
        k66) (
        k66)) fun k55 =>
    jif (p2 = (nI 0)) (
      k55 (nI 10)) (
      k55 (nI 6)))
def JX2_lines (sK : Nat → Nat) (bc : Nat) (bs : Nat) (this : Nat) (p1 : Int32) (p2 : Int32) (Ex : Nat → Nat → JP) (Qj : Int32 → JP) : JP :=
  jput 2 this 8 (.int p1) <|
  jput 2 this 9 (.int (nI 0)) <|
  jput 2 this 10 (.int (nI 0)) <|
  jobj 2 this <|
  JX2_sign this fun v18 =>
  jjoin (α := Int32 → JP) (fun (s0_30 : Int32) =>
    jex fun n32 => jit (FX2_lines_32 sK this p2 Ex Qj) (fun _ _ _ _ => jbot) n32 (nI 0) s0_30 bc bs) fun k30 =>
  jif (v18 = (-1)) (
    k30 (nI 0)) (
    k30 (nI 1))
def JX12_init (bc : Nat) (bs : Nat) (this : Nat) (p1 : Int32) (p2 : Nat) (p3 : Int32) (Qj : JP) : JP :=
  jput 12 this 0 (.int p1) <|
  jnewA 5 p3 bc bs fun v11 =>
  jput 12 this 1 (.ref v11) <|
  jgetA 12 this 1 fun v20 =>
  jcpyA 5 p2 (nI 0) v20 (nI 0) p3 <|
  Qj
def JX2_kind (sK : Nat → Nat) (bc : Nat) (bs : Nat) (this : Nat) (p1 : Int32) (p2 : Int32) (Ex : Nat → Nat → JP) (Qj : Nat → JP) : JP :=
  jnew 12 2 df12 bc bs fun v0 =>
  jgetA 2 this 2 fun v6 =>
  jbud (bc - 1) (bs - 2) fun mc12 ms12 =>
  jobj 2 this <|
  JX2_lines sK mc12 ms12 this p1 (nI 1) Ex fun v12 =>
  jbud ((bc - 1) - mc12) ((bs - 2) - ms12) fun mc15 ms15 =>
  JX12_init mc15 ms15 v0 p2 v6 v12 <|
  Qj v0
def JX1_must (bc : Nat) (bs : Nat) (p0 : Int32) (Ex : Nat → Nat → JP) (Qj : JP) : JP :=
  jif (p0 = (nI 0)) (
    jthrow 0 bc bs Ex) (
    Qj)
def JX1_mayBe (bc : Nat) (bs : Nat) (p0 : Int32) (Ex : Nat → Nat → JP) (Qj : JP) : JP :=
  jif (p0 = (nI 0)) (
    jthrow 1 bc bs Ex) (
    Qj)
def JX1_kind (sK : Nat → Nat) (bc : Nat) (bs : Nat) (this : Nat) (p1 : Int32) (Ex : Nat → Nat → JP) (Qj : Int32 → JP) : JP :=
  jobj 1 this <|
  JX1_use this fun v1 =>
  jgetA 1 this 0 fun v6 =>
  jbud bc bs fun mc11 ms11 =>
  jobj 2 v6 <|
  JX2_kind sK mc11 ms11 v6 v1 p1 (fun (xx11 xq11 : Nat) =>
    jif (xx11 = 4) (
      jgetI 6 xq11 6 fun v23 =>
      jput 1 this 13 (.int v23) <|
      jthrow 0 (bc - mc11) (bs - ms11) Ex) <|
    jbot) fun v11 =>
  JX1_isIn p1 (nI 0) (nI 20) fun v41 =>
  jbud (bc - mc11) (bs - ms11) fun mc44 ms44 =>
  JX1_must mc44 ms44 v41 Ex <|
  jgetA 1 this 1 fun v48 =>
  jgetI 7 v48 6 fun v51 =>
  jjoin (α := Int32 → JP) (fun (s0_63 : Int32) =>
    jbud ((bc - mc11) - mc44) ((bs - ms11) - ms44) fun mc63 ms63 =>
    JX1_mayBe mc63 ms63 s0_63 Ex <|
    jgetA 1 this 1 fun v67 =>
    jgetA 7 v67 0 fun v70 =>
    jgetA 1 this 1 fun v74 =>
    jgetI 7 v74 6 fun v77 =>
    jastA 7 12 v70 v77 v11 <|
    jgetA 1 this 1 fun v83 =>
    jgetI 7 v83 6 fun v87 =>
    jput 7 v83 6 (.int (v87 + (nI 1))) <|
    jgetA 1 this 1 fun v96 =>
    jgetI 7 v96 6 fun v99 =>
    Qj (v99 - (nI 1))) fun k63 =>
  jif ((nI 5) ≤ v51) (
    k63 (nI 0)) (
    k63 (nI 1))
def JX0_kind (sK : Nat → Nat) (bc : Nat) (bs : Nat) (p0 : Nat) (p1 : Int32) (p2 : Nat) (Qj : Int32 → JP) : JP :=
  jbud bc bs fun mc4 ms4 =>
  jobj 1 p0 <|
  JX1_kind sK mc4 ms4 p0 p1 (fun (xx4 xq4 : Nat) =>
    jif (xx4 = 0) (
      Qj (nI 1)) <|
    jif (xx4 = 1) (
      Qj (nI 2)) <|
    jbot) fun v4 =>
  jastL p2 (nI 0) (Int32.toInt64 v4) <|
  Qj (nI 0)
def JX11_isAt (this : Nat) (p1 : Int32) (p2 : Int32) (Qj : Int32 → JP) : JP :=
  jgetI 11 this 6 fun v1 =>
  jgetI 11 this 7 fun v5 =>
  jjoin (α := JP) (
    Qj (nI 0)) fun k41 =>
  jif (v5 ≤ v1) (
    k41) (
    jgetA 11 this 4 fun v12 =>
    jgetI 11 this 6 fun v16 =>
    jaldI 2 v12 v16 fun v19 =>
    jif (v19 < p1) (
      k41) (
      jgetA 11 this 4 fun v25 =>
      jgetI 11 this 6 fun v29 =>
      jaldI 2 v25 v29 fun v32 =>
      jif (p2 < v32) (
        k41) (
        Qj (nI 1))))
def FX11_blanks_0 (this : Nat) (k24 : JP) (rec0 : JP) : JP :=
  jobj 11 this <|
  JX11_isAt this (nI 32) (nI 32) fun v5 =>
  jif (v5 = (nI 0)) (
    k24) (
    jgetI 11 this 6 fun v13 =>
    jput 11 this 6 (.int (v13 + (nI 1))) <|
    rec0)
def JX11_blanks (this : Nat) (Qj : JP) : JP :=
  jex fun n0 => jit (FX11_blanks_0 this (
      jgetI 11 this 6 fun v26 =>
      jput 11 this 8 (.int v26) <|
      Qj)) jbot n0
def FX11_letters_4 (this : Nat) (Qj : JP) (rec4 : JP) : JP :=
  jobj 11 this <|
  JX11_isAt this (nI 97) (nI 122) fun v9 =>
  jif (v9 = (nI 0)) (
    Qj) (
    jgetI 11 this 6 fun v17 =>
    jput 11 this 6 (.int (v17 + (nI 1))) <|
    rec4)
def JX11_letters (this : Nat) (Qj : JP) : JP :=
  jobj 11 this <|
  JX11_blanks this <|
  jex fun n4 => jit (FX11_letters_4 this Qj) jbot n4
def FX11_isWord_24 (sK : Nat → Nat) (this : Nat) (p1 : Nat) (Qj : Int32 → JP) (rec24 : Int32 → Int32 → JP) (x2_24 : Int32) (x3_24 : Int32) : JP :=
  jif (x2_24 = (nI 0)) (
    jand (x2_24 = nI 0 ∨ x2_24 = nI 1) (Qj x2_24)) (
    jsobj sK p1 <|
    JJ3_length sK p1 fun v30 =>
    jif (v30 ≤ x3_24) (
      jand (x2_24 = nI 0 ∨ x2_24 = nI 1) (Qj x2_24)) (
      jgetA 11 this 4 fun v37 =>
      jgetI 11 this 8 fun v41 =>
      jaldI 2 v37 (v41 + x3_24) fun v46 =>
      jsobj sK p1 <|
      JJ3_charAt sK p1 x3_24 fun v49 =>
      jjoin (α := Int32 → JP) (fun (s0_60 : Int32) =>
        rec24 s0_60 (x3_24 + (nI 1))) fun k60 =>
      jif (v46 = v49) (
        k60 (nI 1)) (
        k60 (nI 0))))
def JX11_isWord (sK : Nat → Nat) (this : Nat) (p1 : Nat) (Qj : Int32 → JP) : JP :=
  jgetI 11 this 6 fun v1 =>
  jgetI 11 this 8 fun v5 =>
  jsobj sK p1 <|
  JJ3_length sK p1 fun v10 =>
  jjoin (α := Int32 → JP) (fun (s0_21 : Int32) =>
    jex fun n24 => jit (FX11_isWord_24 sK this p1 Qj) (fun _ _ => jbot) n24 s0_21 (nI 0)) fun k21 =>
  jif ((v1 - v5) = v10) (
    k21 (nI 1)) (
    k21 (nI 0))
def FX11_number_6 (this : Nat) (k65 : Int32 → JP) (rec6 : Int32 → JP) (x3_6 : Int32) : JP :=
  jobj 11 this <|
  JX11_isAt this (nI 48) (nI 57) fun v11 =>
  jif (v11 = (nI 0)) (
    k65 x3_6) (
    jgetI 11 this 6 fun v18 =>
    jgetI 11 this 8 fun v22 =>
    jjoin (α := Int32 → JP) (fun (s0_51 : Int32) =>
      jgetI 11 this 6 fun v54 =>
      jput 11 this 6 (.int (v54 + (nI 1))) <|
      rec6 s0_51) fun k51 =>
    jif ((nI 3) ≤ (v18 - v22)) (
      k51 x3_6) (
      jgetA 11 this 4 fun v35 =>
      jgetI 11 this 6 fun v39 =>
      jaldI 2 v35 v39 fun v42 =>
      k51 ((((nI 10) * x3_6) + v42) - (nI 48))))
def JX11_number (this : Nat) (p1 : Int32) (p2 : Int32) (Qj : Int32 → JP) : JP :=
  jobj 11 this <|
  JX11_blanks this <|
  jex fun n6 => jit (FX11_number_6 this (fun (y3_65 : Int32) =>
      jgetI 11 this 6 fun v66 =>
      jgetI 11 this 8 fun v70 =>
      jjoin (α := JP) (
        Qj (-1)) fun k99 =>
      jif (v66 = v70) (
        k99) (
        jgetI 11 this 6 fun v77 =>
        jgetI 11 this 8 fun v81 =>
        jif ((nI 3) < (v77 - v81)) (
          k99) (
          jif (y3_65 < p1) (
            k99) (
            jif (y3_65 ≤ p2) (
              Qj y3_65) (
              k99)))))) (fun _ => jbot) n6 (nI 0)
def JX11_readKindLine (sK : Nat → Nat) (this : Nat) (p1 : Int32) (Qj : Int32 → JP) : JP :=
  jobj 11 this <|
  JX11_isWord sK this (sK 4) fun v3 =>
  jjoin (α := Int32 → JP) (fun (s0_66 : Int32) =>
    jgetA 11 this 13 fun v68 =>
    jastI v68 ((nI 2) * p1) s0_66 <|
    jgetA 11 this 13 fun v77 =>
    jjoin (α := Int32 → JP) (fun (s2_104 : Int32) =>
      jastI v77 (((nI 2) * p1) + (nI 1)) s2_104 <|
      jjoin (α := JP) (
        Qj (nI 0)) fun k126 =>
      jif (s0_66 < (nI 0)) (
        k126) (
        jgetA 11 this 13 fun v110 =>
        jaldI 0 v110 (((nI 2) * p1) + (nI 1)) fun v118 =>
        jif (v118 < (nI 0)) (
          k126) (
          Qj (nI 1)))) fun k104 =>
    jjoin (α := JP) (
      k104 (nI 0)) fun k103 =>
    jif (s0_66 < (nI 0)) (
      k103) (
      jif ((nI 3) ≤ s0_66) (
        k103) (
        jobj 11 this <|
        JX11_number this (nI 1) (nI 5) fun v97 =>
        k104 v97))) fun k66 =>
  jif (v3 = (nI 0)) (
    jobj 11 this <|
    JX11_isWord sK this (sK 5) fun v16 =>
    jif (v16 = (nI 0)) (
      jobj 11 this <|
      JX11_isWord sK this (sK 6) fun v29 =>
      jif (v29 = (nI 0)) (
        jobj 11 this <|
        JX11_isWord sK this (sK 7) fun v42 =>
        jif (v42 = (nI 0)) (
          jobj 11 this <|
          JX11_isWord sK this (sK 8) fun v55 =>
          jif (v55 = (nI 0)) (
            k66 (-1)) (
            k66 (nI 4))) (
          k66 (nI 3))) (
        k66 (nI 2))) (
      k66 (nI 1))) (
    k66 (nI 0))
def JX11_keepsAt (this : Nat) (p1 : Int32) (p2 : Int32) (Qj : Int32 → JP) : JP :=
  jgetA 11 this 1 fun v1 =>
  jastI v1 p1 p2 <|
  jif (p2 < (nI 0)) (
    Qj (nI 0)) (
    Qj (nI 1))
def JX11_sign (this : Nat) (p1 : Int32) (Qj : Int32 → JP) : JP :=
  jobj 11 this <|
  JX11_blanks this <|
  jobj 11 this <|
  JX11_isAt this p1 p1 fun v7 =>
  jif (v7 = (nI 0)) (
    Qj (nI 0)) (
    jgetI 11 this 6 fun v17 =>
    jput 11 this 6 (.int (v17 + (nI 1))) <|
    Qj (nI 1))
def JX11_factAt (sK : Nat → Nat) (this : Nat) (Qj : Int32 → JP) : JP :=
  jobj 11 this <|
  JX11_isWord sK this (sK 0) fun v3 =>
  jif (v3 = (nI 0)) (
    jobj 11 this <|
    JX11_isWord sK this (sK 1) fun v16 =>
    jif (v16 = (nI 0)) (
      jobj 11 this <|
      JX11_isWord sK this (sK 2) fun v29 =>
      jif (v29 = (nI 0)) (
        jobj 11 this <|
        JX11_isWord sK this (sK 3) fun v42 =>
        jif (v42 = (nI 0)) (
          Qj (-1)) (
          Qj (nI 3))) (
        Qj (nI 2))) (
      Qj (nI 1))) (
    Qj (nI 0))
def JX11_passes (sK : Nat → Nat) (this : Nat) (p1 : Nat) (Qj : Int32 → JP) : JP :=
  jobj 11 this <|
  JX11_letters this <|
  jobj 11 this <|
  JX11_isWord sK this p1 fun v6 =>
  jif (v6 = (nI 0)) (
    jgetI 11 this 8 fun v16 =>
    jput 11 this 6 (.int v16) <|
    Qj (nI 0)) (
    Qj (nI 1))
def JX11_emits (this : Nat) (p1 : Int32) (p2 : Int32) (Qj : JP) : JP :=
  jgetI 11 this 12 fun v5 =>
  jgetA 11 this 1 fun v12 =>
  jastI v12 ((nI 1325) + ((nI 2) * v5)) p1 <|
  jgetA 11 this 1 fun v19 =>
  jastI v19 (((nI 1325) + ((nI 2) * v5)) + (nI 1)) p2 <|
  jgetI 11 this 12 fun v29 =>
  jput 11 this 12 (.int (v29 + (nI 1))) <|
  Qj
def JX11_readPart (sK : Nat → Nat) (this : Nat) (Qj : Int32 → JP) : JP :=
  jobj 11 this <|
  JX11_letters this <|
  jgetI 11 this 6 fun v7 =>
  jgetI 11 this 8 fun v11 =>
  jjoin (α := Int32 → JP) (fun (x1_47 : Int32) =>
    jif (x1_47 < (nI 0)) (
      Qj (nI 0)) (
      Qj (nI 1))) fun k47 =>
  jif (v7 ≤ v11) (
    jobj 11 this <|
    JX11_number this (nI 0) (nI 999) fun v36 =>
    jobj 11 this <|
    JX11_emits this (nI 6) v36 <|
    k47 v36) (
    jobj 11 this <|
    JX11_factAt sK this fun v18 =>
    jobj 11 this <|
    JX11_emits this v18 (nI 0) <|
    k47 v18)
def FX11_readSum_9 (sK : Nat → Nat) (this : Nat) (Qj : Int32 → JP) (rec9 : JP) : JP :=
  jobj 11 this <|
  JX11_sign this (nI 43) fun v12 =>
  jif (v12 = (nI 0)) (
    Qj (nI 1)) (
    jobj 11 this <|
    JX11_readPart sK this fun v19 =>
    jif (v19 = (nI 0)) (
      Qj (nI 0)) (
      jobj 11 this <|
      JX11_emits this (nI 7) (nI 0) <|
      rec9))
def JX11_readSum (sK : Nat → Nat) (this : Nat) (Qj : Int32 → JP) : JP :=
  jobj 11 this <|
  JX11_readPart sK this fun v1 =>
  jif (v1 = (nI 0)) (
    Qj (nI 0)) (
    jex fun n9 => jit (FX11_readSum_9 sK this Qj) jbot n9)
def FX11_readAllOf_9 (sK : Nat → Nat) (rJX11_readAtom : Nat → (Int32 → JP) → JP) (this : Nat) (Qj : Int32 → JP) (rec9 : JP) : JP :=
  jobj 11 this <|
  JX11_passes sK this (sK 11) fun v12 =>
  jif (v12 = (nI 0)) (
    Qj (nI 1)) (
    jobj 11 this <|
    rJX11_readAtom this fun v19 =>
    jif (v19 = (nI 0)) (
      Qj (nI 0)) (
      jobj 11 this <|
      JX11_emits this (nI 11) (nI 0) <|
      rec9))
def JX11_readAllOfF (sK : Nat → Nat) (rJX11_readAllOf : Nat → (Int32 → JP) → JP) (rJX11_readAtom : Nat → (Int32 → JP) → JP) (rJX11_readCond : Nat → (Int32 → JP) → JP) (this : Nat) (Qj : Int32 → JP) : JP :=
  jobj 11 this <|
  rJX11_readAtom this fun v1 =>
  jif (v1 = (nI 0)) (
    Qj (nI 0)) (
    jex fun n9 => jit (FX11_readAllOf_9 sK rJX11_readAtom this Qj) jbot n9)
def JX11_readAtomF (sK : Nat → Nat) (rJX11_readAllOf : Nat → (Int32 → JP) → JP) (rJX11_readAtom : Nat → (Int32 → JP) → JP) (rJX11_readCond : Nat → (Int32 → JP) → JP) (this : Nat) (Qj : Int32 → JP) : JP :=
  jobj 11 this <|
  JX11_sign this (nI 40) fun v3 =>
  jif (v3 = (nI 0)) (
    jobj 11 this <|
    JX11_passes sK this (sK 13) fun v59 =>
    jif (v59 = (nI 0)) (
      jobj 11 this <|
      JX11_passes sK this (sK 14) fun v117 =>
      jjoin (α := JP) (
        jjoin (α := Int32 → JP) (fun (s1_144 : Int32) =>
          jobj 11 this <|
          JX11_emits this s1_144 (nI 0) <|
          Qj (nI 1)) fun k144 =>
        jif (v117 = (nI 0)) (
          k144 (nI 5)) (
          k144 (nI 4))) fun k134 =>
      jif (v117 = (nI 0)) (
        jobj 11 this <|
        JX11_passes sK this (sK 15) fun v128 =>
        jif (v128 = (nI 0)) (
          jobj 11 this <|
          JX11_readSum sK this fun v151 =>
          jif (v151 = (nI 0)) (
            Qj (nI 0)) (
            jobj 11 this <|
            JX11_sign this (nI 60) fun v162 =>
            jjoin (α := JP) (
              jobj 11 this <|
              JX11_readSum sK this fun v180 =>
              jif (v180 = (nI 0)) (
                Qj (nI 0)) (
                jjoin (α := Int32 → JP) (fun (s1_200 : Int32) =>
                  jobj 11 this <|
                  JX11_emits this s1_200 (nI 0) <|
                  Qj (nI 1)) fun k200 =>
                jif (v162 = (nI 0)) (
                  k200 (nI 9)) (
                  k200 (nI 8)))) fun k179 =>
            jif (v162 = (nI 0)) (
              jobj 11 this <|
              JX11_sign this (nI 62) fun v173 =>
              jif (v173 = (nI 0)) (
                Qj (nI 0)) (
                k179)) (
              k179))) (
          k134)) (
        k134)) (
      jgetI 11 this 9 fun v66 =>
      jif (v66 = (nI 6)) (
        Qj (nI 0)) (
        jgetI 11 this 9 fun v78 =>
        jput 11 this 9 (.int (v78 + (nI 1))) <|
        jobj 11 this <|
        rJX11_readAtom this fun v87 =>
        jif (v87 = (nI 0)) (
          Qj (nI 0)) (
          jgetI 11 this 9 fun v97 =>
          jput 11 this 9 (.int (v97 - (nI 1))) <|
          jobj 11 this <|
          JX11_emits this (nI 10) (nI 0) <|
          Qj (nI 1))))) (
    jgetI 11 this 9 fun v10 =>
    jif (v10 = (nI 6)) (
      Qj (nI 0)) (
      jgetI 11 this 9 fun v22 =>
      jput 11 this 9 (.int (v22 + (nI 1))) <|
      jobj 11 this <|
      rJX11_readCond this fun v31 =>
      jif (v31 = (nI 0)) (
        Qj (nI 0)) (
        jgetI 11 this 9 fun v41 =>
        jput 11 this 9 (.int (v41 - (nI 1))) <|
        jobj 11 this <|
        JX11_sign this (nI 41) fun v52 =>
        jand (v52 = nI 0 ∨ v52 = nI 1) (Qj v52))))
def FX11_readCond_9 (sK : Nat → Nat) (rJX11_readAllOf : Nat → (Int32 → JP) → JP) (this : Nat) (Qj : Int32 → JP) (rec9 : JP) : JP :=
  jobj 11 this <|
  JX11_passes sK this (sK 12) fun v12 =>
  jif (v12 = (nI 0)) (
    Qj (nI 1)) (
    jobj 11 this <|
    rJX11_readAllOf this fun v19 =>
    jif (v19 = (nI 0)) (
      Qj (nI 0)) (
      jobj 11 this <|
      JX11_emits this (nI 12) (nI 0) <|
      rec9))
def JX11_readCondF (sK : Nat → Nat) (rJX11_readAllOf : Nat → (Int32 → JP) → JP) (rJX11_readAtom : Nat → (Int32 → JP) → JP) (rJX11_readCond : Nat → (Int32 → JP) → JP) (this : Nat) (Qj : Int32 → JP) : JP :=
  jobj 11 this <|
  rJX11_readAllOf this fun v1 =>
  jif (v1 = (nI 0)) (
    Qj (nI 0)) (
    jex fun n9 => jit (FX11_readCond_9 sK rJX11_readAllOf this Qj) jbot n9)
def JX11_readAllOfR (sK : Nat → Nat) : Nat → (Nat → (Int32 → JP) → JP) × (Nat → (Int32 → JP) → JP) × (Nat → (Int32 → JP) → JP)
  | 0 => ((fun _ _ => jbot), (fun _ _ => jbot), (fun _ _ => jbot))
  | n + 1 => (JX11_readAllOfF sK (JX11_readAllOfR sK n).1 (JX11_readAllOfR sK n).2.1 (JX11_readAllOfR sK n).2.2, JX11_readAtomF sK (JX11_readAllOfR sK n).1 (JX11_readAllOfR sK n).2.1 (JX11_readAllOfR sK n).2.2, JX11_readCondF sK (JX11_readAllOfR sK n).1 (JX11_readAllOfR sK n).2.1 (JX11_readAllOfR sK n).2.2)
def JX11_readAllOf (sK : Nat → Nat) (n : Nat) : Nat → (Int32 → JP) → JP := (JX11_readAllOfR sK n).1
def JX11_readAtom (sK : Nat → Nat) (n : Nat) : Nat → (Int32 → JP) → JP := (JX11_readAllOfR sK n).2.1
def JX11_readCond (sK : Nat → Nat) (n : Nat) : Nat → (Int32 → JP) → JP := (JX11_readAllOfR sK n).2.2
def JX11_readMeasureLine (sK : Nat → Nat) (this : Nat) (p1 : Int32) (Qj : Int32 → JP) : JP :=
  jobj 11 this <|
  JX11_isWord sK this (sK 9) fun v11 =>
  jif (v11 = (nI 0)) (
    Qj (nI 0)) (
    jobj 11 this <|
    JX11_number this (nI 0) (nI 999) fun v24 =>
    jobj 11 this <|
    JX11_keepsAt this ((nI 1285) + ((nI 4) * p1)) v24 fun v27 =>
    jif (v27 = (nI 0)) (
      Qj (nI 0)) (
      jgetA 11 this 1 fun v36 =>
      jastI v36 (((nI 1285) + ((nI 4) * p1)) + (nI 1)) (-1) <|
      jobj 11 this <|
      JX11_sign this (nI 42) fun v47 =>
      jjoin (α := JP) (
        jgetA 11 this 1 fun v74 =>
        jgetI 11 this 12 fun v81 =>
        jastI v74 (((nI 1285) + ((nI 4) * p1)) + (nI 2)) v81 <|
        jput 11 this 9 (.int (nI 0)) <|
        jobj 11 this <|
        JX11_passes sK this (sK 10) fun v93 =>
        jjoin (α := JP) (
          jgetA 11 this 1 fun v109 =>
          jgetI 11 this 12 fun v116 =>
          jastI v109 (((nI 1285) + ((nI 4) * p1)) + (nI 3)) v116 <|
          Qj (nI 1)) fun k108 =>
        jif (v93 = (nI 0)) (
          k108) (
          jobj 11 this <|
          JX11_readCond sK 40 this fun v100 =>
          jif (v100 = (nI 0)) (
            Qj (nI 0)) (
            k108))) fun k73 =>
      jif (v47 = (nI 0)) (
        k73) (
        jobj 11 this <|
        JX11_letters this <|
        jobj 11 this <|
        JX11_factAt sK this fun v62 =>
        jobj 11 this <|
        JX11_keepsAt this (((nI 1285) + ((nI 4) * p1)) + (nI 1)) v62 fun v65 =>
        jif (v65 = (nI 0)) (
          Qj (nI 0)) (
          k73))))
def FX11_readAll_42 (sK : Nat → Nat) (this : Nat) (p1 : Int32) (Qj : Int32 → JP) (k103 : Int32 → JP) (rec42 : Int32 → JP) (x2_42 : Int32) : JP :=
  jobj 11 this <|
  JX11_letters this <|
  jjoin (α := Int32 → JP) (fun (s1_58 : Int32) =>
    jif (x2_42 = s1_58) (
      Qj (-1)) (
      jjoin (α := JP) (
        jobj 11 this <|
        JX11_blanks this <|
        jgetI 11 this 6 fun v93 =>
        jgetI 11 this 7 fun v97 =>
        jif (v93 = v97) (
          k103 x2_42) (
          jobj 11 this <|
          JX11_isAt this (nI 59) (nI 59) fun v112 =>
          jif (v112 = (nI 0)) (
            Qj (-1)) (
            jgetI 11 this 6 fun v122 =>
            jput 11 this 6 (.int (v122 + (nI 1))) <|
            rec42 (x2_42 + (nI 1))))) fun k88 =>
      jif (p1 = (nI 0)) (
        jobj 11 this <|
        JX11_readMeasureLine sK this x2_42 fun v80 =>
        jif (v80 = (nI 0)) (
          Qj (-1)) (
          k88)) (
        jobj 11 this <|
        JX11_readKindLine sK this x2_42 fun v69 =>
        jif (v69 = (nI 0)) (
          Qj (-1)) (
          k88)))) fun k58 =>
  jif (p1 = (nI 0)) (
    k58 (nI 10)) (
    k58 (nI 6))
def JX11_readAll (sK : Nat → Nat) (this : Nat) (p1 : Int32) (Qj : Int32 → JP) : JP :=
  jgetI 11 this 5 fun v2 =>
  jput 11 this 7 (.int v2) <|
  jput 11 this 5 (.int (nI 0)) <|
  jput 11 this 6 (.int (nI 0)) <|
  jput 11 this 12 (.int (nI 0)) <|
  jobj 11 this <|
  JX11_blanks this <|
  jgetI 11 this 6 fun v28 =>
  jgetI 11 this 7 fun v32 =>
  jif (v28 = v32) (
    Qj (nI 0)) (
    jex fun n42 => jit (FX11_readAll_42 sK this p1 Qj (fun (y2_103 : Int32) =>
        Qj (y2_103 + (nI 1)))) (fun _ => jbot) n42 (nI 0))
def JX11_in (p0 : Int32) (p1 : Int32) (p2 : Int32) (Qj : Int32 → JP) : JP :=
  jjoin (α := JP) (
    Qj (nI 0)) fun k14 =>
  jif (p0 < p1) (
    k14) (
    jif (p2 < p0) (
      k14) (
      Qj (nI 1)))
def JX11_throwsIf (this : Nat) (p1 : Int32) (p2 : Int32) (Qj : Int32 → JP) : JP :=
  jif (p1 = (nI 0)) (
    jand (p1 = nI 0 ∨ p1 = nI 1) (Qj p1)) (
    jput 11 this 0 (.int p2) <|
    jand (p1 = nI 0 ∨ p1 = nI 1) (Qj p1))
def FX11_kind_111 (this : Nat) (v7 : Int32) (v88 : Int32) (k143 : JP) (rec111 : Int32 → JP) (x4_111 : Int32) : JP :=
  jif (((nI 2) * v7) ≤ x4_111) (
    k143) (
    jgetA 11 this 1 fun v120 =>
    jgetA 11 this 13 fun v130 =>
    jaldI 0 v130 x4_111 fun v135 =>
    jastI v120 ((((nI 49) + ((nI 14) * v88)) + (nI 2)) + x4_111) v135 <|
    rec111 (x4_111 + (nI 1)))
def JX11_kind (sK : Nat → Nat) (this : Nat) (p1 : Int32) (Qj : Int32 → JP) : JP :=
  jput 11 this 0 (.int (nI 0)) <|
  jobj 11 this <|
  JX11_readAll sK this (nI 1) fun v7 =>
  jjoin (α := Int32 → JP) (fun (s1_24 : Int32) =>
    jput 11 this 10 (.int s1_24) <|
    jjoin (α := Int32 → JP) (fun (s1_47 : Int32) =>
      jobj 11 this <|
      JX11_throwsIf this s1_47 (nI 1) fun v48 =>
      jif (v48 = (nI 0)) (
        jgetA 11 this 1 fun v56 =>
        jaldI 0 v56 (nI 0) fun v60 =>
        jjoin (α := Int32 → JP) (fun (s1_70 : Int32) =>
          jobj 11 this <|
          JX11_throwsIf this s1_70 (nI 2) fun v71 =>
          jif (v71 = (nI 0)) (
            jgetA 11 this 1 fun v84 =>
            jaldI 0 v84 (nI 0) fun v88 =>
            jgetA 11 this 1 fun v93 =>
            jastI v93 ((nI 49) + ((nI 14) * v88)) p1 <|
            jgetA 11 this 1 fun v100 =>
            jastI v100 (((nI 49) + ((nI 14) * v88)) + (nI 1)) v7 <|
            jex fun n111 => jit (FX11_kind_111 this v7 v88 (
                jgetA 11 this 1 fun v144 =>
                jaldI 0 v144 (nI 0) fun v149 =>
                jastI v144 (nI 0) (v149 + (nI 1)) <|
                jgetA 11 this 1 fun v154 =>
                jaldI 0 v154 (nI 0) fun v158 =>
                Qj (v158 - (nI 1)))) (fun _ => jbot) n111 (nI 0)) (
            Qj (nI 0))) fun k70 =>
        jif (v60 = (nI 5)) (
          k70 (nI 1)) (
          k70 (nI 0))) (
        Qj (nI 0))) fun k47 =>
    jjoin (α := JP) (
      k47 (nI 1)) fun k42 =>
    jif (v7 < (nI 0)) (
      k42) (
      JX11_in p1 (nI 0) (nI 20) fun v36 =>
      jif (v36 = (nI 0)) (
        k42) (
        k47 (nI 0)))) fun k24 =>
  jif ((nI 0) ≤ v7) (
    k24 (-1)) (
    jgetI 11 this 8 fun v17 =>
    k24 v17)
def JX11_thrown (this : Nat) (Qj : Int32 → JP) : JP :=
  jgetI 11 this 0 fun v1 =>
  Qj v1
def JX22_init (bc : Nat) (bs : Nat) (this : Nat) (p1 : Nat) (p2 : Int32) (Qj : JP) : JP :=
  jnewA 6 p2 bc bs fun v6 =>
  jput 22 this 0 (.ref v6) <|
  jgetA 22 this 0 fun v15 =>
  jcpyA 6 p1 (nI 0) v15 (nI 0) p2 <|
  Qj
def JX2_measure (sK : Nat → Nat) (bc : Nat) (bs : Nat) (this : Nat) (p1 : Int32) (Ex : Nat → Nat → JP) (Qj : Nat → JP) : JP :=
  jnew 22 1 df22 bc bs fun v0 =>
  jgetA 2 this 3 fun v5 =>
  jbud (bc - 1) (bs - 1) fun mc11 ms11 =>
  jobj 2 this <|
  JX2_lines sK mc11 ms11 this p1 (nI 0) Ex fun v11 =>
  jbud ((bc - 1) - mc11) ((bs - 1) - ms11) fun mc14 ms14 =>
  JX22_init mc14 ms14 v0 v5 v11 <|
  Qj v0
def JX1_measure (sK : Nat → Nat) (bc : Nat) (bs : Nat) (this : Nat) (Ex : Nat → Nat → JP) (Qj : Int32 → JP) : JP :=
  jobj 1 this <|
  JX1_use this fun v1 =>
  jgetA 1 this 1 fun v6 =>
  jgetA 1 this 0 fun v10 =>
  jbud bc bs fun mc14 ms14 =>
  jobj 2 v10 <|
  JX2_measure sK mc14 ms14 v10 v1 (fun (xx14 xq14 : Nat) =>
    jif (xx14 = 4) (
      jgetI 6 xq14 6 fun v26 =>
      jput 1 this 13 (.int v26) <|
      jthrow 0 (bc - mc14) (bs - ms14) Ex) <|
    jbot) fun v14 =>
  jput 7 v6 5 (.ref v14) <|
  jgetA 1 this 1 fun v41 =>
  jgetO 7 v41 5 fun v44 =>
  jsome v44 fun u47 =>
  jgetA 22 u47 0 fun v47 =>
  jalen v47 fun v50 =>
  Qj v50
def JX0_measure (sK : Nat → Nat) (bc : Nat) (bs : Nat) (p0 : Nat) (p1 : Nat) (Qj : Int32 → JP) : JP :=
  jbud bc bs fun mc3 ms3 =>
  jobj 1 p0 <|
  JX1_measure sK mc3 ms3 p0 (fun (xx3 xq3 : Nat) =>
    jif (xx3 = 0) (
      Qj (nI 1)) <|
    jbot) fun v3 =>
  jastL p1 (nI 0) (Int32.toInt64 v3) <|
  Qj (nI 0)
def FX11_measure_57 (this : Nat) (k90 : JP) (rec57 : Int32 → JP) (x2_57 : Int32) : JP :=
  jif ((nI 841) ≤ x2_57) (
    k90) (
    jgetA 11 this 1 fun v65 =>
    jgetA 11 this 1 fun v74 =>
    jaldI 0 v74 ((nI 1284) + x2_57) fun v82 =>
    jastI v65 ((nI 443) + x2_57) v82 <|
    rec57 (x2_57 + (nI 1)))
def JX11_measure (sK : Nat → Nat) (this : Nat) (Qj : Int32 → JP) : JP :=
  jput 11 this 0 (.int (nI 0)) <|
  jobj 11 this <|
  JX11_readAll sK this (nI 0) fun v7 =>
  jjoin (α := Int32 → JP) (fun (s1_24 : Int32) =>
    jput 11 this 10 (.int s1_24) <|
    jjoin (α := Int32 → JP) (fun (s1_37 : Int32) =>
      jobj 11 this <|
      JX11_throwsIf this s1_37 (nI 1) fun v38 =>
      jif (v38 = (nI 0)) (
        jgetA 11 this 1 fun v47 =>
        jastI v47 (nI 1284) v7 <|
        jex fun n57 => jit (FX11_measure_57 this (
            jgetA 11 this 1 fun v91 =>
            jastI v91 (nI 4) (nI 1) <|
            Qj v7)) (fun _ => jbot) n57 (nI 0)) (
        Qj (nI 0))) fun k37 =>
    jif ((nI 0) ≤ v7) (
      k37 (nI 0)) (
      k37 (nI 1))) fun k24 =>
  jif ((nI 0) ≤ v7) (
    k24 (-1)) (
    jgetI 11 this 8 fun v17 =>
    k24 v17)
def JX1_fault (this : Nat) (Qj : Int32 → JP) : JP :=
  jgetI 1 this 13 fun v1 =>
  Qj v1
def JX11_fault (this : Nat) (Qj : Int32 → JP) : JP :=
  jput 11 this 0 (.int (nI 0)) <|
  jgetI 11 this 10 fun v6 =>
  Qj v6
def JX1_mustBe (bc : Nat) (bs : Nat) (p0 : Int32) (Ex : Nat → Nat → JP) (Qj : JP) : JP :=
  jif (p0 = (nI 0)) (
    jthrow 2 bc bs Ex) (
    Qj)
def JX1_isSquare (bc : Nat) (bs : Nat) (p0 : Int32) (Ex : Nat → Nat → JP) (Qj : JP) : JP :=
  JX1_isIn p0 (nI 0) (nI 35) fun v4 =>
  jbud bc bs fun mc7 ms7 =>
  JX1_mustBe mc7 ms7 v4 Ex <|
  Qj
def JX1_isKind (bc : Nat) (bs : Nat) (this : Nat) (p1 : Int32) (p2 : Int32) (Ex : Nat → Nat → JP) (Qj : JP) : JP :=
  jgetA 1 this 1 fun v3 =>
  jgetI 7 v3 6 fun v6 =>
  JX1_isIn p1 p2 (v6 - (nI 1)) fun v11 =>
  jbud bc bs fun mc14 ms14 =>
  JX1_mustBe mc14 ms14 v11 Ex <|
  Qj
def JX1_put (bc : Nat) (bs : Nat) (this : Nat) (p1 : Int32) (p2 : Int32) (p3 : Int32) (Ex : Nat → Nat → JP) (Qj : JP) : JP :=
  jbud bc bs fun mc1 ms1 =>
  JX1_isSquare mc1 ms1 p1 Ex <|
  jbud (bc - mc1) (bs - ms1) fun mc7 ms7 =>
  jobj 1 this <|
  JX1_isKind mc7 ms7 this p2 (-1) Ex <|
  jjoin (α := Int32 → JP) (fun (s0_29 : Int32) =>
    jbud ((bc - mc1) - mc7) ((bs - ms1) - ms7) fun mc29 ms29 =>
    JX1_must mc29 ms29 s0_29 Ex <|
    jgetA 1 this 1 fun v33 =>
    jgetA 7 v33 1 fun v36 =>
    jgetA 8 v36 0 fun v39 =>
    jastI v39 p1 p2 <|
    jgetA 1 this 1 fun v46 =>
    jgetA 7 v46 1 fun v49 =>
    jgetA 8 v49 1 fun v52 =>
    jjoin (α := Int32 → JP) (fun (s2_66 : Int32) =>
      jastI v52 p1 s2_66 <|
      jputZ 1 this 16 (nI 0) <|
      Qj) fun k66 =>
    jif (p2 = (-1)) (
      k66 (nI 0)) (
      k66 p3)) fun k29 =>
  jjoin (α := JP) (
    k29 (nI 1)) fun k24 =>
  jif (p2 = (-1)) (
    k24) (
    JX1_isIn p3 (nI 0) (nI 1) fun v18 =>
    jif (v18 = (nI 0)) (
      k29 (nI 0)) (
      k24))
def JX0_put (bc : Nat) (bs : Nat) (p0 : Nat) (p1 : Int32) (p2 : Int32) (p3 : Int32) (Qj : Int32 → JP) : JP :=
  jbud bc bs fun mc4 ms4 =>
  jobj 1 p0 <|
  JX1_put mc4 ms4 p0 p1 p2 p3 (fun (xx4 xq4 : Nat) =>
    jif (xx4 = 2) (
      Qj (nI 1)) <|
    jif (xx4 = 0) (
      Qj (nI 2)) <|
    jbot) <|
  Qj (nI 0)
def JX11_noSquare (p0 : Int32) (Qj : Int32 → JP) : JP :=
  JX11_in p0 (nI 0) (nI 35) fun v4 =>
  jif (v4 = (nI 0)) (
    Qj (nI 1)) (
    Qj (nI 0))
def JX11_none (this : Nat) (p1 : Int32) (p2 : Int32) (Qj : Int32 → JP) : JP :=
  jgetA 11 this 1 fun v3 =>
  jaldI 0 v3 p2 fun v7 =>
  JX11_in p1 (nI 0) (v7 - (nI 1)) fun v10 =>
  jif (v10 = (nI 0)) (
    Qj (nI 1)) (
    Qj (nI 0))
def JX11_noKind (this : Nat) (p1 : Int32) (Qj : Int32 → JP) : JP :=
  jobj 11 this <|
  JX11_none this p1 (nI 0) fun v3 =>
  jand (v3 = nI 0 ∨ v3 = nI 1) (Qj v3)
def JX11_man (p0 : Int32) (p1 : Int32) (Qj : Int32 → JP) : JP :=
  jif ((nI 0) ≤ p0) (
    Qj (((nI 2) * p0) + p1)) (
    Qj (-1))
def JX11_put (this : Nat) (p1 : Int32) (p2 : Int32) (p3 : Int32) (Qj : JP) : JP :=
  jput 11 this 0 (.int (nI 0)) <|
  JX11_noSquare p1 fun v7 =>
  jjoin (α := Int32 → JP) (fun (s1_31 : Int32) =>
    jobj 11 this <|
    JX11_throwsIf this s1_31 (nI 1) fun v32 =>
    jif (v32 = (nI 0)) (
      jjoin (α := Int32 → JP) (fun (s1_58 : Int32) =>
        jobj 11 this <|
        JX11_throwsIf this s1_58 (nI 2) fun v59 =>
        jif (v59 = (nI 0)) (
          jgetA 11 this 1 fun v67 =>
          JX11_man p2 p3 fun v76 =>
          jastI v67 ((nI 13) + p1) v76 <|
          Qj) (
          Qj)) fun k58 =>
      jjoin (α := JP) (
        k58 (nI 0)) fun k57 =>
      jif (p2 = (-1)) (
        k57) (
        JX11_in p3 (nI 0) (nI 1) fun v47 =>
        jif (v47 = (nI 0)) (
          k58 (nI 1)) (
          k57))) (
      Qj)) fun k31 =>
  jjoin (α := JP) (
    k31 (nI 1)) fun k26 =>
  jif (v7 = (nI 0)) (
    jjoin (α := JP) (
      k31 (nI 0)) fun k30 =>
    jif (p2 = (-1)) (
      k30) (
      jobj 11 this <|
      JX11_noKind this p2 fun v20 =>
      jif (v20 = (nI 0)) (
        k30) (
        k26))) (
    k26)
def FX4_marks_3 (p1 : Nat) (p2 : Int32) (p3 : Int32) (p4 : Nat) (Qj : JP) (rec3 : Int32 → JP) (x5_3 : Int32) : JP :=
  jif ((nI 36) ≤ x5_3) (
    Qj) (
    jjoin (α := JP) (
      rec3 (x5_3 + (nI 1))) fun k77 =>
    jif (((jabs ((jrem x5_3 (nI 6)) - (jrem p2 (nI 6)))) * (jabs ((x5_3 / (nI 6)) - (p2 / (nI 6))))) = (nI 2)) (
      jgetA 8 p1 0 fun v50 =>
      jaldI 0 v50 x5_3 fun v55 =>
      jjoin (α := JP) (
        jastZ p4 x5_3 (nI 1) <|
        k77) fun k71 =>
      jif (v55 = (-1)) (
        k71) (
        jgetA 8 p1 1 fun v61 =>
        jaldI 0 v61 x5_3 fun v66 =>
        jif (v66 = p3) (
          k77) (
          k71))) (
      k77))
def JX4_marks (this : Nat) (p1 : Nat) (p2 : Int32) (p3 : Int32) (p4 : Nat) (Qj : JP) : JP :=
  jex fun n3 => jit (FX4_marks_3 p1 p2 p3 p4 Qj) (fun _ => jbot) n3 (nI 0)
def FX5_marks_24 (p1 : Nat) (p2 : Int32) (p3 : Int32) (p4 : Nat) (Qj : JP) (s1_13 : Int32) (rec24 : Int32 → JP) (x6_24 : Int32) : JP :=
  jif (((jrem p2 (nI 6)) + (nI 1)) < x6_24) (
    Qj) (
    jjoin (α := JP) (
      rec24 (x6_24 + (nI 2))) fun k100 =>
    jif (x6_24 < (nI 0)) (
      k100) (
      jif ((nI 6) ≤ x6_24) (
        k100) (
        jif (((p2 / (nI 6)) + s1_13) < (nI 0)) (
          k100) (
          jif (((p2 / (nI 6)) + s1_13) < (nI 6)) (
            jgetA 8 p1 0 fun v73 =>
            jaldI 0 v73 (((nI 6) * ((p2 / (nI 6)) + s1_13)) + x6_24) fun v78 =>
            jif (v78 = (-1)) (
              k100) (
              jgetA 8 p1 1 fun v84 =>
              jaldI 0 v84 (((nI 6) * ((p2 / (nI 6)) + s1_13)) + x6_24) fun v89 =>
              jif (v89 = p3) (
                k100) (
                jastZ p4 (((nI 6) * ((p2 / (nI 6)) + s1_13)) + x6_24) (nI 1) <|
                k100))) (
            k100)))))
def JX5_marks (this : Nat) (p1 : Nat) (p2 : Int32) (p3 : Int32) (p4 : Nat) (Qj : JP) : JP :=
  jjoin (α := Int32 → JP) (fun (s1_13 : Int32) =>
    jex fun n24 => jit (FX5_marks_24 p1 p2 p3 p4 Qj s1_13) (fun _ => jbot) n24 ((jrem p2 (nI 6)) - (nI 1))) fun k13 =>
  jif (p3 = (nI 0)) (
    k13 (nI 1)) (
    k13 (-1))
def FX3_slides_20 (p0 : Nat) (p3 : Int32) (p4 : Int32) (p5 : Int32) (p7 : Nat) (Qj : JP) (k72 : Int32 → JP) (rec20 : Int32 → Int32 → Int32 → JP) (x8_20 : Int32) (x9_20 : Int32) (x10_20 : Int32) : JP :=
  jif (p5 ≤ x10_20) (
    Qj) (
    jif (x8_20 < (nI 0)) (
      Qj) (
      jif ((nI 6) ≤ x8_20) (
        Qj) (
        jif (x9_20 < (nI 0)) (
          Qj) (
          jif ((nI 6) ≤ x9_20) (
            Qj) (
            jgetA 8 p0 0 fun v62 =>
            jaldI 0 v62 (((nI 6) * x9_20) + x8_20) fun v67 =>
            jif (v67 = (-1)) (
              jastZ p7 (((nI 6) * x9_20) + x8_20) (nI 1) <|
              rec20 (x8_20 + p3) (x9_20 + p4) (x10_20 + (nI 1))) (
              k72 (((nI 6) * x9_20) + x8_20)))))))
def JX3_slides (p0 : Nat) (p1 : Int32) (p2 : Int32) (p3 : Int32) (p4 : Int32) (p5 : Int32) (p6 : Int32) (p7 : Nat) (Qj : JP) : JP :=
  jex fun n20 => jit (FX3_slides_20 p0 p3 p4 p5 p7 Qj (fun (y11_72 : Int32) =>
      jif (p6 = (nI 0)) (
        Qj) (
        jgetA 8 p0 1 fun v78 =>
        jaldI 0 v78 y11_72 fun v83 =>
        jif (v83 = p2) (
          Qj) (
          jastZ p7 y11_72 (nI 1) <|
          Qj)))) (fun _ _ _ => jbot) n20 ((jrem p1 (nI 6)) + p3) ((p1 / (nI 6)) + p4) (nI 0)
def FX13_marks_3 (this : Nat) (p1 : Nat) (p2 : Int32) (p3 : Int32) (p4 : Nat) (Qj : JP) (rec3 : Int32 → JP) (x5_3 : Int32) : JP :=
  jif ((nI 1) < x5_3) (
    Qj) (
    jgetI 13 this 0 fun v16 =>
    JX3_slides p1 p2 p3 x5_3 (nI 0) v16 (nI 1) p4 <|
    jgetI 13 this 0 fun v32 =>
    JX3_slides p1 p2 p3 (nI 0) x5_3 v32 (nI 1) p4 <|
    rec3 (x5_3 + (nI 2)))
def JX13_marks (this : Nat) (p1 : Nat) (p2 : Int32) (p3 : Int32) (p4 : Nat) (Qj : JP) : JP :=
  jex fun n3 => jit (FX13_marks_3 this p1 p2 p3 p4 Qj) (fun _ => jbot) n3 (-1)
def FX14_marks_12 (this : Nat) (p1 : Nat) (p2 : Int32) (p3 : Int32) (p4 : Nat) (x5_3 : Int32) (k41 : JP) (rec12 : Int32 → JP) (x6_12 : Int32) : JP :=
  jif ((nI 1) < x6_12) (
    k41) (
    jgetI 14 this 0 fun v26 =>
    JX3_slides p1 p2 p3 x5_3 x6_12 v26 (nI 1) p4 <|
    rec12 (x6_12 + (nI 2)))
def FX14_marks_3 (this : Nat) (p1 : Nat) (p2 : Int32) (p3 : Int32) (p4 : Nat) (Qj : JP) (rec3 : Int32 → JP) (x5_3 : Int32) : JP :=
  jif ((nI 1) < x5_3) (
    Qj) (
    jex fun n12 => jit (FX14_marks_12 this p1 p2 p3 p4 x5_3 (
        rec3 (x5_3 + (nI 2)))) (fun _ => jbot) n12 (-1))
def JX14_marks (this : Nat) (p1 : Nat) (p2 : Int32) (p3 : Int32) (p4 : Nat) (Qj : JP) : JP :=
  jex fun n3 => jit (FX14_marks_3 this p1 p2 p3 p4 Qj) (fun _ => jbot) n3 (-1)
def JX15_marks (this : Nat) (p1 : Nat) (p2 : Int32) (p3 : Int32) (p4 : Nat) (Qj : JP) : JP :=
  jjoin (α := Int32 → JP) (fun (s4_13 : Int32) =>
    jgetI 15 this 0 fun v14 =>
    JX3_slides p1 p2 p3 (nI 0) s4_13 v14 (nI 0) p4 <|
    Qj) fun k13 =>
  jif (p3 = (nI 0)) (
    k13 (nI 1)) (
    k13 (-1))
def FX10_gathers_126 (this : Nat) (p3 : Nat) (x5_6 : Int32) (k167 : Int32 → JP) (rec126 : Int32 → Int32 → JP) (x4_126 : Int32) (x6_126 : Int32) : JP :=
  jif ((nI 36) ≤ x6_126) (
    k167 x4_126) (
    jgetA 10 this 2 fun v134 =>
    jaldI 1 v134 x6_126 fun v139 =>
    jjoin (α := Int32 → JP) (fun (x4_161 : Int32) =>
      rec126 x4_161 (x6_126 + (nI 1))) fun k161 =>
    jif (v139 = (nI 0)) (
      k161 x4_126) (
      jastI p3 x4_126 (((nI 36) * x5_6) + x6_126) <|
      k161 (x4_126 + (nI 1))))
def FX10_gathers_90 (this : Nat) (p1 : Nat) (p2 : Int32) (x5_6 : Int32) (v77 : Nat) (v84 : Int32) (k123 : JP) (rec90 : Int32 → JP) (x8_90 : Int32) : JP :=
  jif (v84 ≤ x8_90) (
    k123) (
    jaldA 5 v77 x8_90 fun v101 =>
    jgetA 10 this 2 fun v111 =>
    jjoin (α := JP) (
      rec90 (x8_90 + (nI 1))) fun kd114 =>
    jdisp v101 [(4, JX4_marks v101 p1 x5_6 p2 v111 kd114), (5, JX5_marks v101 p1 x5_6 p2 v111 kd114), (13, JX13_marks v101 p1 x5_6 p2 v111 kd114), (14, JX14_marks v101 p1 x5_6 p2 v111 kd114), (15, JX15_marks v101 p1 x5_6 p2 v111 kd114)])
def FX10_gathers_41 (this : Nat) (k62 : JP) (rec41 : Int32 → JP) (x6_41 : Int32) : JP :=
  jif ((nI 36) ≤ x6_41) (
    k62) (
    jgetA 10 this 2 fun v49 =>
    jastZ v49 x6_41 (nI 0) <|
    rec41 (x6_41 + (nI 1)))
def FX10_gathers_6 (this : Nat) (p1 : Nat) (p2 : Int32) (p3 : Nat) (Qj : Int32 → JP) (rec6 : Int32 → Int32 → JP) (x4_6 : Int32) (x5_6 : Int32) : JP :=
  jif ((nI 36) ≤ x5_6) (
    Qj x4_6) (
    jgetA 8 p1 0 fun v14 =>
    jaldI 0 v14 x5_6 fun v19 =>
    jjoin (α := Int32 → JP) (fun (x4_167 : Int32) =>
      rec6 x4_167 (x5_6 + (nI 1))) fun k167 =>
    jif (v19 = (-1)) (
      k167 x4_6) (
      jgetA 8 p1 1 fun v25 =>
      jaldI 0 v25 x5_6 fun v30 =>
      jif (v30 = p2) (
        jex fun n41 => jit (FX10_gathers_41 this (
            jgetA 10 this 0 fun v63 =>
            jgetA 7 v63 0 fun v66 =>
            jgetA 8 p1 0 fun v70 =>
            jaldI 0 v70 x5_6 fun v75 =>
            jaldA 7 v66 v75 fun v76 =>
            jgetA 12 v76 1 fun v77 =>
            jalen v77 fun v84 =>
            jex fun n90 => jit (FX10_gathers_90 this p1 p2 x5_6 v77 v84 (
                jex fun n126 => jit (FX10_gathers_126 this p3 x5_6 k167) (fun _ _ => jbot) n126 x4_6 (nI 0))) (fun _ => jbot) n90 (nI 0))) (fun _ => jbot) n41 (nI 0)) (
        k167 x4_6)))
def JX10_gathers (this : Nat) (p1 : Nat) (p2 : Int32) (p3 : Nat) (Qj : Int32 → JP) : JP :=
  jex fun n6 => jit (FX10_gathers_6 this p1 p2 p3 Qj) (fun _ _ => jbot) n6 (nI 0) (nI 0)
def JX1_moves (bc : Nat) (bs : Nat) (this : Nat) (p1 : Int32) (p2 : Int32) (Ex : Nat → Nat → JP) (Qj : Int32 → JP) : JP :=
  JX1_isIn p1 (nI 0) (nI 1) fun v3 =>
  jjoin (α := Int32 → JP) (fun (s0_19 : Int32) =>
    jbud bc bs fun mc19 ms19 =>
    JX1_must mc19 ms19 s0_19 Ex <|
    jgetA 1 this 4 fun v23 =>
    jgetA 1 this 1 fun v27 =>
    jgetA 7 v27 1 fun v30 =>
    jgetA 1 this 11 fun v35 =>
    jobj 10 v23 <|
    JX10_gathers v23 v30 p1 v35 fun v38 =>
    jif (p2 = (-1)) (
      Qj v38) (
      jif (v38 ≤ p2) (
        Qj (-1)) (
        jgetA 1 this 11 fun v57 =>
        jaldI 0 v57 p2 fun v61 =>
        Qj v61))) fun k19 =>
  jjoin (α := JP) (
    k19 (nI 0)) fun k18 =>
  jif (v3 = (nI 0)) (
    k18) (
    jif (p2 < (-1)) (
      k18) (
      k19 (nI 1)))
def JX0_moves (bc : Nat) (bs : Nat) (p0 : Nat) (p1 : Int32) (p2 : Int32) (p3 : Nat) (Qj : Int32 → JP) : JP :=
  jbud bc bs fun mc5 ms5 =>
  jobj 1 p0 <|
  JX1_moves mc5 ms5 p0 p1 p2 (fun (xx5 xq5 : Nat) =>
    jif (xx5 = 0) (
      Qj (nI 1)) <|
    jbot) fun v5 =>
  jastL p3 (nI 0) (Int32.toInt64 v5) <|
  Qj (nI 0)
def FX11_begins_2 (this : Nat) (Qj : JP) (rec2 : Int32 → JP) (x1_2 : Int32) : JP :=
  jif ((nI 36) ≤ x1_2) (
    Qj) (
    jgetA 11 this 16 fun v9 =>
    jgetA 11 this 1 fun v14 =>
    jaldI 0 v14 ((nI 13) + x1_2) fun v21 =>
    jastI v9 x1_2 v21 <|
    rec2 (x1_2 + (nI 1)))
def JX11_begins (this : Nat) (Qj : JP) : JP :=
  jex fun n2 => jit (FX11_begins_2 this Qj) (fun _ => jbot) n2 (nI 0)
def JX11_at (this : Nat) (p1 : Int32) (p2 : Int32) (Qj : Int32 → JP) : JP :=
  jgetA 11 this 16 fun v1 =>
  jaldI 0 v1 (((nI 36) * p1) + p2) fun v10 =>
  Qj v10
def JX11_sideOf (p0 : Int32) (Qj : Int32 → JP) : JP :=
  Qj (p0 &&& (nI 1))
def JX11_off (p0 : Int32) (p1 : Int32) (p2 : Int32) (Qj : Int32 → JP) : JP :=
  JX11_in ((jrem p0 (nI 6)) + p1) (nI 0) (nI 5) fun v18 =>
  jjoin (α := JP) (
    Qj (-1)) fun k44 =>
  jif (v18 = (nI 0)) (
    k44) (
    JX11_in ((p0 / (nI 6)) + p2) (nI 0) (nI 5) fun v28 =>
    jif (v28 = (nI 0)) (
      k44) (
      Qj (((nI 6) * ((p0 / (nI 6)) + p2)) + ((jrem p0 (nI 6)) + p1))))
def JX11_may (this : Nat) (p1 : Int32) (p2 : Int32) (p3 : Int32) (Qj : JP) : JP :=
  jgetA 11 this 17 fun v1 =>
  jastZ v1 ((((nI 1296) * p1) + ((nI 36) * p2)) + p3) (nI 1) <|
  Qj
def FX11_along_6 (this : Nat) (p1 : Int32) (p2 : Int32) (p3 : Int32) (p4 : Int32) (p5 : Int32) (p6 : Int32) (Qj : JP) (rec6 : Int32 → Int32 → JP) (x7_6 : Int32) (x8_6 : Int32) : JP :=
  jif (p5 ≤ x8_6) (
    Qj) (
    JX11_off x7_6 p3 p4 fun v18 =>
    jif ((nI 0) ≤ v18) (
      jobj 11 this <|
      JX11_at this p1 v18 fun v33 =>
      jjoin (α := JP) (
        jif (v33 < (nI 0)) (
          rec6 v18 (x8_6 + (nI 1))) (
          Qj)) fun k73 =>
      jjoin (α := JP) (
        jobj 11 this <|
        JX11_may this p1 p2 v18 <|
        k73) fun k65 =>
      jif (v33 < (nI 0)) (
        k65) (
        jif (p6 = (nI 0)) (
          JX11_sideOf v33 fun v50 =>
          jobj 11 this <|
          JX11_at this p1 p2 fun v56 =>
          JX11_sideOf v56 fun v59 =>
          jif (v50 = v59) (
            k73) (
            k65)) (
          k73))) (
      Qj))
def JX11_along (this : Nat) (p1 : Int32) (p2 : Int32) (p3 : Int32) (p4 : Int32) (p5 : Int32) (p6 : Int32) (Qj : JP) : JP :=
  jex fun n6 => jit (FX11_along_6 this p1 p2 p3 p4 p5 p6 Qj) (fun _ _ => jbot) n6 p2 (nI 0)
def FX11_leaps_12 (this : Nat) (p1 : Int32) (p2 : Int32) (x3_3 : Int32) (k48 : JP) (rec12 : Int32 → JP) (x4_12 : Int32) : JP :=
  jif ((nI 2) < x4_12) (
    k48) (
    jjoin (α := JP) (
      rec12 (x4_12 + (nI 1))) fun k42 =>
    jif (((x3_3 * x3_3) + (x4_12 * x4_12)) = (nI 5)) (
      jobj 11 this <|
      JX11_along this p1 p2 x3_3 x4_12 (nI 1) (nI 0) <|
      k42) (
      k42))
def FX11_leaps_3 (this : Nat) (p1 : Int32) (p2 : Int32) (Qj : JP) (rec3 : Int32 → JP) (x3_3 : Int32) : JP :=
  jif ((nI 2) < x3_3) (
    Qj) (
    jex fun n12 => jit (FX11_leaps_12 this p1 p2 x3_3 (
        rec3 (x3_3 + (nI 1)))) (fun _ => jbot) n12 (-2))
def JX11_leaps (this : Nat) (p1 : Int32) (p2 : Int32) (Qj : JP) : JP :=
  jex fun n3 => jit (FX11_leaps_3 this p1 p2 Qj) (fun _ => jbot) n3 (-2)
def FX11_bites_3 (this : Nat) (p1 : Int32) (p2 : Int32) (p3 : Int32) (Qj : JP) (rec3 : Int32 → JP) (x4_3 : Int32) : JP :=
  jif ((nI 1) < x4_3) (
    Qj) (
    JX11_off p2 x4_3 p3 fun v13 =>
    jjoin (α := JP) (
      rec3 (x4_3 + (nI 2))) fun k44 =>
    jif (v13 < (nI 0)) (
      k44) (
      jobj 11 this <|
      JX11_at this p1 v13 fun v27 =>
      jif (v27 < (nI 0)) (
        k44) (
        jobj 11 this <|
        JX11_along this p1 p2 x4_3 p3 (nI 1) (nI 0) <|
        k44)))
def JX11_bites (this : Nat) (p1 : Int32) (p2 : Int32) (p3 : Int32) (Qj : JP) : JP :=
  jex fun n3 => jit (FX11_bites_3 this p1 p2 p3 Qj) (fun _ => jbot) n3 (-1)
def FX11_goes_187 (this : Nat) (p1 : Int32) (p2 : Int32) (v78 : Int32) (x9_172 : Int32) (k212 : JP) (rec187 : Int32 → JP) (x10_187 : Int32) : JP :=
  jif ((nI 1) < x10_187) (
    k212) (
    jobj 11 this <|
    JX11_along this p1 p2 x9_172 x10_187 v78 (nI 0) <|
    rec187 (x10_187 + (nI 2)))
def FX11_goes_172 (this : Nat) (p1 : Int32) (p2 : Int32) (v62 : Int32) (v78 : Int32) (k218 : JP) (rec172 : Int32 → JP) (x9_172 : Int32) : JP :=
  jif ((nI 1) < x9_172) (
    k218) (
    jif (v62 = (nI 1)) (
      jex fun n187 => jit (FX11_goes_187 this p1 p2 v78 x9_172 (
          rec172 (x9_172 + (nI 2)))) (fun _ => jbot) n187 (-1)) (
      k218))
def FX11_goes_128 (this : Nat) (p1 : Int32) (p2 : Int32) (v62 : Int32) (v78 : Int32) (k169 : JP) (rec128 : Int32 → JP) (x9_128 : Int32) : JP :=
  jif ((nI 1) < x9_128) (
    k169) (
    jif (v62 = (nI 0)) (
      jobj 11 this <|
      JX11_along this p1 p2 x9_128 (nI 0) v78 (nI 0) <|
      jobj 11 this <|
      JX11_along this p1 p2 (nI 0) x9_128 v78 (nI 0) <|
      rec128 (x9_128 + (nI 2))) (
      k169))
def FX11_goes_35 (this : Nat) (p1 : Int32) (p2 : Int32) (Qj : JP) (v3 : Int32) (s0_19 : Int32) (rec35 : Int32 → JP) (x6_35 : Int32) : JP :=
  jgetA 11 this 1 fun v38 =>
  jaldI 0 v38 (((nI 49) + ((nI 14) * (v3 / (nI 2)))) + (nI 1)) fun v45 =>
  jif (v45 ≤ x6_35) (
    Qj) (
    jgetA 11 this 1 fun v50 =>
    jaldI 0 v50 ((((nI 49) + ((nI 14) * (v3 / (nI 2)))) + (nI 2)) + ((nI 2) * x6_35)) fun v62 =>
    jgetA 11 this 1 fun v66 =>
    jaldI 0 v66 ((((nI 49) + ((nI 14) * (v3 / (nI 2)))) + (nI 3)) + ((nI 2) * x6_35)) fun v78 =>
    jjoin (α := JP) (
      jjoin (α := JP) (
        jjoin (α := JP) (
          jex fun n128 => jit (FX11_goes_128 this p1 p2 v62 v78 (
              jex fun n172 => jit (FX11_goes_172 this p1 p2 v62 v78 (
                  rec35 (x6_35 + (nI 1)))) (fun _ => jbot) n172 (-1))) (fun _ => jbot) n128 (-1)) fun k125 =>
        jif (v62 = (nI 4)) (
          jobj 11 this <|
          JX11_bites this p1 p2 s0_19 <|
          k125) (
          k125)) fun k111 =>
      jif (v62 = (nI 3)) (
        jobj 11 this <|
        JX11_leaps this p1 p2 <|
        k111) (
        k111)) fun k99 =>
    jif (v62 = (nI 2)) (
      jobj 11 this <|
      JX11_along this p1 p2 (nI 0) s0_19 v78 (nI 1) <|
      k99) (
      k99))
def JX11_goes (this : Nat) (p1 : Int32) (p2 : Int32) (Qj : JP) : JP :=
  jobj 11 this <|
  JX11_at this p1 p2 fun v3 =>
  JX11_sideOf v3 fun v8 =>
  jjoin (α := Int32 → JP) (fun (s0_19 : Int32) =>
    jex fun n35 => jit (FX11_goes_35 this p1 p2 Qj v3 s0_19) (fun _ => jbot) n35 (nI 0)) fun k19 =>
  jif (v8 = (nI 0)) (
    k19 (nI 1)) (
    k19 (-1))
def FX11_finds_30 (this : Nat) (p1 : Int32) (p2 : Int32) (Qj : JP) (rec30 : Int32 → JP) (x3_30 : Int32) : JP :=
  jif ((nI 36) ≤ x3_30) (
    Qj) (
    jobj 11 this <|
    JX11_at this p1 x3_30 fun v39 =>
    jjoin (α := JP) (
      rec30 (x3_30 + (nI 1))) fun k64 =>
    jif (v39 < (nI 0)) (
      k64) (
      jobj 11 this <|
      JX11_at this p1 x3_30 fun v48 =>
      JX11_sideOf v48 fun v51 =>
      jif (v51 = p2) (
        jobj 11 this <|
        JX11_goes this p1 x3_30 <|
        k64) (
        k64)))
def FX11_finds_2 (this : Nat) (p1 : Int32) (k28 : JP) (rec2 : Int32 → JP) (x3_2 : Int32) : JP :=
  jif ((nI 1296) ≤ x3_2) (
    k28) (
    jgetA 11 this 17 fun v10 =>
    jastZ v10 (((nI 1296) * p1) + x3_2) (nI 0) <|
    rec2 (x3_2 + (nI 1)))
def JX11_finds (this : Nat) (p1 : Int32) (p2 : Int32) (Qj : JP) : JP :=
  jex fun n2 => jit (FX11_finds_2 this p1 (
      jex fun n30 => jit (FX11_finds_30 this p1 p2 Qj) (fun _ => jbot) n30 (nI 0))) (fun _ => jbot) n2 (nI 0)
def FX11_manyAt_4 (this : Nat) (p1 : Int32) (Qj : Int32 → JP) (rec4 : Int32 → Int32 → JP) (x2_4 : Int32) (x3_4 : Int32) : JP :=
  jif ((nI 1296) ≤ x3_4) (
    Qj x2_4) (
    jgetA 11 this 17 fun v13 =>
    jaldI 1 v13 (((nI 1296) * p1) + x3_4) fun v23 =>
    jjoin (α := Int32 → JP) (fun (s1_32 : Int32) =>
      rec4 (x2_4 + s1_32) (x3_4 + (nI 1))) fun k32 =>
    jif (v23 = (nI 0)) (
      k32 (nI 0)) (
      k32 (nI 1)))
def JX11_manyAt (this : Nat) (p1 : Int32) (Qj : Int32 → JP) : JP :=
  jex fun n4 => jit (FX11_manyAt_4 this p1 Qj) (fun _ _ => jbot) n4 (nI 0) (nI 0)
def FX11_moveAt_5 (this : Nat) (p1 : Int32) (Qj : Int32 → JP) (rec5 : Int32 → Int32 → JP) (x3_5 : Int32) (x4_5 : Int32) : JP :=
  jif ((nI 1296) ≤ x4_5) (
    Qj (-1)) (
    jgetA 11 this 17 fun v14 =>
    jaldI 1 v14 (((nI 1296) * p1) + x4_5) fun v25 =>
    jjoin (α := Int32 → JP) (fun (x3_42 : Int32) =>
      rec5 x3_42 (x4_5 + (nI 1))) fun k42 =>
    jif (v25 = (nI 0)) (
      k42 x3_5) (
      jif (x3_5 = (nI 0)) (
        Qj x4_5) (
        k42 (x3_5 + (-1)))))
def JX11_moveAt (this : Nat) (p1 : Int32) (p2 : Int32) (Qj : Int32 → JP) : JP :=
  jex fun n5 => jit (FX11_moveAt_5 this p1 Qj) (fun _ _ => jbot) n5 p2 (nI 0)
def JX11_moves (this : Nat) (p1 : Int32) (p2 : Int32) (Qj : Int32 → JP) : JP :=
  jput 11 this 0 (.int (nI 0)) <|
  JX11_in p1 (nI 0) (nI 1) fun v9 =>
  jjoin (α := Int32 → JP) (fun (s1_25 : Int32) =>
    jobj 11 this <|
    JX11_throwsIf this s1_25 (nI 1) fun v26 =>
    jif (v26 = (nI 0)) (
      jobj 11 this <|
      JX11_begins this <|
      jobj 11 this <|
      JX11_finds this (nI 0) p1 <|
      jif ((nI 0) ≤ p2) (
        jobj 11 this <|
        JX11_moveAt this (nI 0) p2 fun v59 =>
        Qj v59) (
        jobj 11 this <|
        JX11_manyAt this (nI 0) fun v50 =>
        Qj v50)) (
      Qj (nI 0))) fun k25 =>
  jjoin (α := JP) (
    k25 (nI 1)) fun k20 =>
  jif (v9 = (nI 0)) (
    k20) (
    jif ((-1) ≤ p2) (
      k25 (nI 0)) (
      k20))
def JX1_newBook (this : Nat) (p1 : Int32) (Qj : Int32 → JP) : JP :=
  jgetA 1 this 1 fun v1 =>
  jgetA 7 v1 2 fun v4 =>
  jgetA 1 this 1 fun v8 =>
  jgetI 7 v8 7 fun v11 =>
  jaldA 8 v4 v11 fun v14 =>
  jput 9 v14 1 (.int p1) <|
  jput 9 v14 2 (.int (nI 0)) <|
  jgetA 1 this 1 fun v27 =>
  jgetI 7 v27 7 fun v31 =>
  jput 7 v27 7 (.int (v31 + (nI 1))) <|
  jputZ 1 this 16 (nI 0) <|
  jgetA 1 this 1 fun v45 =>
  jgetI 7 v45 7 fun v48 =>
  Qj (v48 - (nI 1))
def JX1_book (bc : Nat) (bs : Nat) (this : Nat) (p1 : Int32) (Ex : Nat → Nat → JP) (Qj : Int32 → JP) : JP :=
  JX1_isIn p1 (nI 0) (nI 1) fun v3 =>
  jbud bc bs fun mc6 ms6 =>
  JX1_must mc6 ms6 v3 Ex <|
  jgetA 1 this 1 fun v10 =>
  jgetI 7 v10 7 fun v13 =>
  jjoin (α := Int32 → JP) (fun (s0_25 : Int32) =>
    jbud (bc - mc6) (bs - ms6) fun mc25 ms25 =>
    JX1_mayBe mc25 ms25 s0_25 Ex <|
    jobj 1 this <|
    JX1_newBook this p1 fun v30 =>
    Qj v30) fun k25 =>
  jif ((nI 3) ≤ v13) (
    k25 (nI 0)) (
    k25 (nI 1))
def JX0_book (bc : Nat) (bs : Nat) (p0 : Nat) (p1 : Int32) (p2 : Nat) (Qj : Int32 → JP) : JP :=
  jbud bc bs fun mc4 ms4 =>
  jobj 1 p0 <|
  JX1_book mc4 ms4 p0 p1 (fun (xx4 xq4 : Nat) =>
    jif (xx4 = 0) (
      Qj (nI 1)) <|
    jif (xx4 = 1) (
      Qj (nI 2)) <|
    jbot) fun v4 =>
  jastL p2 (nI 0) (Int32.toInt64 v4) <|
  Qj (nI 0)
def JX11_book (this : Nat) (p1 : Int32) (Qj : Int32 → JP) : JP :=
  jput 11 this 0 (.int (nI 0)) <|
  JX11_in p1 (nI 0) (nI 1) fun v9 =>
  jjoin (α := Int32 → JP) (fun (s1_20 : Int32) =>
    jobj 11 this <|
    JX11_throwsIf this s1_20 (nI 1) fun v21 =>
    jif (v21 = (nI 0)) (
      jgetA 11 this 1 fun v29 =>
      jaldI 0 v29 (nI 1) fun v33 =>
      jjoin (α := Int32 → JP) (fun (s1_43 : Int32) =>
        jobj 11 this <|
        JX11_throwsIf this s1_43 (nI 2) fun v44 =>
        jif (v44 = (nI 0)) (
          jgetA 11 this 1 fun v53 =>
          jaldI 0 v53 (nI 1) fun v57 =>
          jgetA 11 this 1 fun v60 =>
          jastI v60 ((nI 119) + ((nI 98) * v57)) p1 <|
          jgetA 11 this 1 fun v73 =>
          jastI v73 (((nI 119) + ((nI 98) * v57)) + (nI 1)) (nI 0) <|
          jgetA 11 this 1 fun v88 =>
          jaldI 0 v88 (nI 1) fun v93 =>
          jastI v88 (nI 1) (v93 + (nI 1)) <|
          Qj v57) (
          Qj (nI 0))) fun k43 =>
      jif (v33 = (nI 3)) (
        k43 (nI 1)) (
        k43 (nI 0))) (
      Qj (nI 0))) fun k20 =>
  jif (v9 = (nI 0)) (
    k20 (nI 1)) (
    k20 (nI 0))
def JX1_bookAt (bc : Nat) (bs : Nat) (this : Nat) (p1 : Int32) (Ex : Nat → Nat → JP) (Qj : Nat → JP) : JP :=
  jgetA 1 this 1 fun v3 =>
  jgetI 7 v3 7 fun v6 =>
  JX1_isIn p1 (nI 0) (v6 - (nI 1)) fun v11 =>
  jbud bc bs fun mc14 ms14 =>
  JX1_mustBe mc14 ms14 v11 Ex <|
  jgetA 1 this 1 fun v18 =>
  jgetA 7 v18 2 fun v21 =>
  jaldA 8 v21 p1 fun v25 =>
  Qj v25
def JX1_isNoted (bc : Nat) (bs : Nat) (p0 : Int32) (p1 : Int32) (p2 : Int32) (Ex : Nat → Nat → JP) (Qj : JP) : JP :=
  JX1_isIn p0 (-1) (nI 5) fun v3 =>
  jjoin (α := JP) (
    jbud bc bs fun mc32 ms32 =>
    JX1_must mc32 ms32 (nI 0) Ex <|
    Qj) fun k31 =>
  jif (v3 = (nI 0)) (
    k31) (
    JX1_isIn p1 (nI 0) (nI 5) fun v12 =>
    jif (v12 = (nI 0)) (
      k31) (
      JX1_isIn p2 (nI 0) (nI 5) fun v21 =>
      jif (v21 = (nI 0)) (
        k31) (
        jbud bc bs fun mc32 ms32 =>
        JX1_must mc32 ms32 (nI 1) Ex <|
        Qj)))
def JX23_init (this : Nat) (p1 : Int32) (p2 : Int32) (p3 : Int32) (p4 : Int32) (Qj : JP) : JP :=
  jput 23 this 0 (.int p1) <|
  jput 23 this 1 (.int p2) <|
  jput 23 this 2 (.int p3) <|
  jput 23 this 3 (.int p4) <|
  Qj
def JX1_note (bc : Nat) (bs : Nat) (this : Nat) (p1 : Int32) (p2 : Int32) (p3 : Int32) (p4 : Int32) (p5 : Int32) (Ex : Nat → Nat → JP) (Qj : Int32 → JP) : JP :=
  jbud bc bs fun mc2 ms2 =>
  jobj 1 this <|
  JX1_bookAt mc2 ms2 this p1 Ex fun v2 =>
  jbud (bc - mc2) (bs - ms2) fun mc10 ms10 =>
  jobj 1 this <|
  JX1_isKind mc10 ms10 this p2 (nI 0) Ex <|
  jbud ((bc - mc2) - mc10) ((bs - ms2) - ms10) fun mc18 ms18 =>
  JX1_isNoted mc18 ms18 p3 p4 p5 Ex <|
  jgetI 9 v2 2 fun v23 =>
  jjoin (α := Int32 → JP) (fun (s0_36 : Int32) =>
    jbud (((bc - mc2) - mc10) - mc18) (((bs - ms2) - ms10) - ms18) fun mc36 ms36 =>
    JX1_mayBe mc36 ms36 s0_36 Ex <|
    jgetA 9 v2 0 fun v41 =>
    jgetI 9 v2 2 fun v46 =>
    jnew 23 4 df23 ((((bc - mc2) - mc10) - mc18) - mc36) ((((bs - ms2) - ms10) - ms18) - ms36) fun v49 =>
    JX23_init v49 p2 p3 p4 p5 <|
    jastA 10 23 v41 v46 v49 <|
    jgetI 9 v2 2 fun v66 =>
    jput 9 v2 2 (.int (v66 + (nI 1))) <|
    jputZ 1 this 16 (nI 0) <|
    jgetI 9 v2 2 fun v81 =>
    Qj (v81 - (nI 1))) fun k36 =>
  jif ((nI 24) ≤ v23) (
    k36 (nI 0)) (
    k36 (nI 1))
def JX0_note (bc : Nat) (bs : Nat) (p0 : Nat) (p1 : Int32) (p2 : Int32) (p3 : Int32) (p4 : Int32) (p5 : Int32) (p6 : Nat) (Qj : Int32 → JP) : JP :=
  jbud bc bs fun mc11 ms11 =>
  jobj 1 p0 <|
  JX1_note mc11 ms11 p0 p1 p2 p3 p4 p5 (fun (xx11 xq11 : Nat) =>
    jif (xx11 = 2) (
      Qj (nI 1)) <|
    jif (xx11 = 0) (
      Qj (nI 2)) <|
    jif (xx11 = 1) (
      Qj (nI 3)) <|
    jbot) fun v11 =>
  jastL p6 (nI 0) (Int32.toInt64 v11) <|
  Qj (nI 0)
def JX11_noBook (this : Nat) (p1 : Int32) (Qj : Int32 → JP) : JP :=
  jobj 11 this <|
  JX11_none this p1 (nI 1) fun v3 =>
  jand (v3 = nI 0 ∨ v3 = nI 1) (Qj v3)
def JX11_badNote (p0 : Int32) (p1 : Int32) (p2 : Int32) (Qj : Int32 → JP) : JP :=
  JX11_in p0 (-1) (nI 5) fun v3 =>
  jjoin (α := JP) (
    Qj (nI 1)) fun k27 =>
  jif (v3 = (nI 0)) (
    k27) (
    JX11_in p1 (nI 0) (nI 5) fun v12 =>
    jif (v12 = (nI 0)) (
      k27) (
      JX11_in p2 (nI 0) (nI 5) fun v21 =>
      jif (v21 = (nI 0)) (
        k27) (
        Qj (nI 0))))
def JX11_ofBook (this : Nat) (p1 : Int32) (p2 : Int32) (Qj : Int32 → JP) : JP :=
  jgetA 11 this 1 fun v1 =>
  jaldI 0 v1 (((nI 119) + ((nI 98) * p1)) + p2) fun v13 =>
  Qj v13
def JX11_notes (this : Nat) (p1 : Int32) (Qj : Int32 → JP) : JP :=
  jobj 11 this <|
  JX11_ofBook this p1 (nI 1) fun v3 =>
  Qj v3
def JX11_setsNote (this : Nat) (p1 : Int32) (p2 : Int32) (p3 : Int32) (p4 : Int32) (p5 : Int32) (p6 : Int32) (Qj : JP) : JP :=
  jgetA 11 this 1 fun v16 =>
  jastI v16 ((((nI 119) + ((nI 98) * p1)) + (nI 2)) + ((nI 4) * p2)) p3 <|
  jgetA 11 this 1 fun v24 =>
  jastI v24 (((((nI 119) + ((nI 98) * p1)) + (nI 2)) + ((nI 4) * p2)) + (nI 1)) p4 <|
  jgetA 11 this 1 fun v35 =>
  jastI v35 (((((nI 119) + ((nI 98) * p1)) + (nI 2)) + ((nI 4) * p2)) + (nI 2)) p5 <|
  jgetA 11 this 1 fun v46 =>
  jastI v46 (((((nI 119) + ((nI 98) * p1)) + (nI 2)) + ((nI 4) * p2)) + (nI 3)) p6 <|
  Qj
def JX11_addsNote (this : Nat) (p1 : Int32) (p2 : Int32) (p3 : Int32) (p4 : Int32) (p5 : Int32) (Qj : Int32 → JP) : JP :=
  jobj 11 this <|
  JX11_notes this p1 fun v4 =>
  jobj 11 this <|
  JX11_setsNote this p1 v4 p2 p3 p4 p5 <|
  jgetA 11 this 1 fun v17 =>
  jaldI 0 v17 (((nI 119) + ((nI 98) * p1)) + (nI 1)) fun v30 =>
  jastI v17 (((nI 119) + ((nI 98) * p1)) + (nI 1)) (v30 + (nI 1)) <|
  jobj 11 this <|
  JX11_notes this p1 fun v36 =>
  Qj (v36 - (nI 1))
def JX11_note (this : Nat) (p1 : Int32) (p2 : Int32) (p3 : Int32) (p4 : Int32) (p5 : Int32) (Qj : Int32 → JP) : JP :=
  jput 11 this 0 (.int (nI 0)) <|
  jobj 11 this <|
  JX11_noBook this p1 fun v8 =>
  jjoin (α := Int32 → JP) (fun (s1_27 : Int32) =>
    jobj 11 this <|
    JX11_throwsIf this s1_27 (nI 1) fun v28 =>
    jif (v28 = (nI 0)) (
      JX11_badNote p3 p4 p5 fun v40 =>
      jobj 11 this <|
      JX11_throwsIf this v40 (nI 2) fun v44 =>
      jif (v44 = (nI 0)) (
        jobj 11 this <|
        JX11_notes this p1 fun v53 =>
        jjoin (α := Int32 → JP) (fun (s1_66 : Int32) =>
          jobj 11 this <|
          JX11_throwsIf this s1_66 (nI 3) fun v67 =>
          jif (v67 = (nI 0)) (
            jobj 11 this <|
            JX11_addsNote this p1 p2 p3 p4 p5 fun v83 =>
            Qj v83) (
            Qj (nI 0))) fun k66 =>
        jif (v53 = (nI 24)) (
          k66 (nI 1)) (
          k66 (nI 0))) (
        Qj (nI 0))) (
      Qj (nI 0))) fun k27 =>
  jjoin (α := JP) (
    k27 (nI 1)) fun k22 =>
  jif (v8 = (nI 0)) (
    jobj 11 this <|
    JX11_noKind this p2 fun v16 =>
    jif (v16 = (nI 0)) (
      k27 (nI 0)) (
      k22)) (
    k22)
def JX1_isNote (bc : Nat) (bs : Nat) (this : Nat) (p1 : Int32) (p2 : Int32) (Ex : Nat → Nat → JP) (Qj : JP) : JP :=
  jbud bc bs fun mc4 ms4 =>
  jobj 1 this <|
  JX1_bookAt mc4 ms4 this p1 Ex fun v4 =>
  jgetI 9 v4 2 fun v7 =>
  JX1_isIn p2 (nI 0) (v7 - (nI 1)) fun v12 =>
  jbud (bc - mc4) (bs - ms4) fun mc15 ms15 =>
  JX1_mustBe mc15 ms15 v12 Ex <|
  Qj
def JX23_isNearly (this : Nat) (p1 : Nat) (Qj : Int32 → JP) : JP :=
  jgetI 23 this 0 fun v1 =>
  jgetI 23 p1 0 fun v5 =>
  jjoin (α := JP) (
    Qj (nI 0)) fun k37 =>
  jif (v1 = v5) (
    jgetI 23 this 2 fun v12 =>
    jgetI 23 p1 2 fun v16 =>
    jif (v12 = v16) (
      jgetI 23 this 3 fun v23 =>
      jgetI 23 p1 3 fun v27 =>
      jif (v23 = v27) (
        Qj (nI 1)) (
        k37)) (
      k37)) (
    k37)
def JX23_isLike (this : Nat) (p1 : Nat) (Qj : Int32 → JP) : JP :=
  jgetI 23 this 1 fun v1 =>
  jgetI 23 p1 1 fun v5 =>
  jjoin (α := JP) (
    Qj (nI 0)) fun k23 =>
  jif (v1 = v5) (
    jobj 23 this <|
    JX23_isNearly this p1 fun v13 =>
    jif (v13 = (nI 0)) (
      k23) (
      Qj (nI 1))) (
    k23)
def JX1_change (bc : Nat) (bs : Nat) (this : Nat) (p1 : Int32) (p2 : Int32) (p3 : Int32) (p4 : Int32) (p5 : Int32) (p6 : Int32) (Ex : Nat → Nat → JP) (Qj : Int32 → JP) : JP :=
  jbud bc bs fun mc3 ms3 =>
  jobj 1 this <|
  JX1_isNote mc3 ms3 this p1 p2 Ex <|
  jbud (bc - mc3) (bs - ms3) fun mc9 ms9 =>
  jobj 1 this <|
  JX1_isKind mc9 ms9 this p3 (nI 0) Ex <|
  jbud ((bc - mc3) - mc9) ((bs - ms3) - ms9) fun mc18 ms18 =>
  JX1_isNoted mc18 ms18 p4 p5 p6 Ex <|
  jnew 23 4 df23 (((bc - mc3) - mc9) - mc18) (((bs - ms3) - ms9) - ms18) fun v21 =>
  JX23_init v21 p3 p4 p5 p6 <|
  jgetA 1 this 1 fun v40 =>
  jgetA 7 v40 2 fun v43 =>
  jaldA 8 v43 p1 fun v47 =>
  jgetA 9 v47 0 fun v48 =>
  jaldA 10 v48 p2 fun v52 =>
  jobj 23 v21 <|
  JX23_isLike v21 v52 fun v53 =>
  jjoin (α := Int32 → JP) (fun (s0_64 : Int32) =>
    jgetA 1 this 1 fun v67 =>
    jgetA 7 v67 2 fun v70 =>
    jaldA 8 v70 p1 fun v74 =>
    jgetA 9 v74 0 fun v75 =>
    jastA 10 23 v75 p2 v21 <|
    jputZ 1 this 16 (nI 0) <|
    jand (s0_64 = nI 0 ∨ s0_64 = nI 1) (Qj s0_64)) fun k64 =>
  jif (v53 = (nI 0)) (
    k64 (nI 1)) (
    k64 (nI 0))
def JX0_change (bc : Nat) (bs : Nat) (p0 : Nat) (p1 : Int32) (p2 : Int32) (p3 : Int32) (p4 : Int32) (p5 : Int32) (p6 : Int32) (p7 : Nat) (Qj : Int32 → JP) : JP :=
  jbud bc bs fun mc13 ms13 =>
  jobj 1 p0 <|
  JX1_change mc13 ms13 p0 p1 p2 p3 p4 p5 p6 (fun (xx13 xq13 : Nat) =>
    jif (xx13 = 2) (
      Qj (nI 1)) <|
    jif (xx13 = 0) (
      Qj (nI 2)) <|
    jbot) fun v13 =>
  jjoin (α := Int64 → JP) (fun (s2_24 : Int64) =>
    jastL p7 (nI 0) s2_24 <|
    Qj (nI 0)) fun k24 =>
  jif (v13 = (nI 0)) (
    k24 (lN 0)) (
    k24 (lN 1))
def JX11_noNote (this : Nat) (p1 : Int32) (p2 : Int32) (Qj : Int32 → JP) : JP :=
  jobj 11 this <|
  JX11_noBook this p1 fun v2 =>
  jjoin (α := JP) (
    Qj (nI 1)) fun k23 =>
  jif (v2 = (nI 0)) (
    jobj 11 this <|
    JX11_notes this p1 fun v12 =>
    JX11_in p2 (nI 0) (v12 - (nI 1)) fun v17 =>
    jif (v17 = (nI 0)) (
      k23) (
      Qj (nI 0))) (
    k23)
def JX11_ofNote (this : Nat) (p1 : Int32) (p2 : Int32) (p3 : Int32) (Qj : Int32 → JP) : JP :=
  jobj 11 this <|
  JX11_ofBook this p1 (((nI 2) + ((nI 4) * p2)) + p3) fun v9 =>
  Qj v9
def JX11_change (this : Nat) (p1 : Int32) (p2 : Int32) (p3 : Int32) (p4 : Int32) (p5 : Int32) (p6 : Int32) (Qj : Int32 → JP) : JP :=
  jput 11 this 0 (.int (nI 0)) <|
  jobj 11 this <|
  JX11_noNote this p1 p2 fun v9 =>
  jjoin (α := Int32 → JP) (fun (s1_28 : Int32) =>
    jobj 11 this <|
    JX11_throwsIf this s1_28 (nI 1) fun v29 =>
    jif (v29 = (nI 0)) (
      JX11_badNote p4 p5 p6 fun v42 =>
      jobj 11 this <|
      JX11_throwsIf this v42 (nI 2) fun v46 =>
      jif (v46 = (nI 0)) (
        jobj 11 this <|
        JX11_ofNote this p1 p2 (nI 0) fun v58 =>
        jjoin (α := Int32 → JP) (fun (s0_106 : Int32) =>
          jobj 11 this <|
          JX11_setsNote this p1 p2 p3 p4 p5 p6 <|
          jand (s0_106 = nI 0 ∨ s0_106 = nI 1) (Qj s0_106)) fun k106 =>
        jjoin (α := JP) (
          k106 (nI 1)) fun k101 =>
        jif (v58 = p3) (
          jobj 11 this <|
          JX11_ofNote this p1 p2 (nI 1) fun v69 =>
          jif (v69 = p4) (
            jobj 11 this <|
            JX11_ofNote this p1 p2 (nI 2) fun v81 =>
            jif (v81 = p5) (
              jobj 11 this <|
              JX11_ofNote this p1 p2 (nI 3) fun v93 =>
              jif (v93 = p6) (
                k106 (nI 0)) (
                k101)) (
              k101)) (
            k101)) (
          k101)) (
        Qj (nI 0))) (
      Qj (nI 0))) fun k28 =>
  jjoin (α := JP) (
    k28 (nI 1)) fun k23 =>
  jif (v9 = (nI 0)) (
    jobj 11 this <|
    JX11_noKind this p3 fun v17 =>
    jif (v17 = (nI 0)) (
      k28 (nI 0)) (
      k23)) (
    k23)
def JX1_look (bc : Nat) (bs : Nat) (this : Nat) (p1 : Int32) (p2 : Int32) (p3 : Int32) (Ex : Nat → Nat → JP) (Qj : Int32 → JP) : JP :=
  jbud bc bs fun mc3 ms3 =>
  jobj 1 this <|
  JX1_isNote mc3 ms3 this p1 p2 Ex <|
  jgetA 1 this 1 fun v7 =>
  jgetA 7 v7 2 fun v10 =>
  jaldA 8 v10 p1 fun v14 =>
  jgetA 9 v14 0 fun v15 =>
  jaldA 10 v15 p2 fun v19 =>
  jif (p3 = (nI 0)) (
    jgetI 23 v19 0 fun v54 =>
    Qj v54) <|
  jif (p3 = (nI 1)) (
    jgetI 23 v19 1 fun v60 =>
    Qj v60) <|
  jif (p3 = (nI 2)) (
    jgetI 23 v19 2 fun v66 =>
    Qj v66) <|
  jif (p3 = (nI 3)) (
    jgetI 23 v19 3 fun v72 =>
    Qj v72) <|
  jthrow 3 (bc - mc3) (bs - ms3) Ex
def JX0_look (bc : Nat) (bs : Nat) (p0 : Nat) (p1 : Int32) (p2 : Int32) (p3 : Int32) (p4 : Nat) (Qj : Int32 → JP) : JP :=
  jbud bc bs fun mc7 ms7 =>
  jobj 1 p0 <|
  JX1_look mc7 ms7 p0 p1 p2 p3 (fun (xx7 xq7 : Nat) =>
    jif (xx7 = 2) (
      Qj (nI 1)) <|
    jif (xx7 = 3) (
      Qj (nI 2)) <|
    jbot) fun v7 =>
  jastL p4 (nI 0) (Int32.toInt64 v7) <|
  Qj (nI 0)
def JX11_look (this : Nat) (p1 : Int32) (p2 : Int32) (p3 : Int32) (Qj : Int32 → JP) : JP :=
  jput 11 this 0 (.int (nI 0)) <|
  jobj 11 this <|
  JX11_noNote this p1 p2 fun v9 =>
  jobj 11 this <|
  JX11_throwsIf this v9 (nI 1) fun v13 =>
  jjoin (α := JP) (
    Qj (nI 0)) fun k41 =>
  jif (v13 = (nI 0)) (
    JX11_in p3 (nI 0) (nI 3) fun v23 =>
    jjoin (α := Int32 → JP) (fun (s1_34 : Int32) =>
      jobj 11 this <|
      JX11_throwsIf this s1_34 (nI 2) fun v35 =>
      jif (v35 = (nI 0)) (
        jobj 11 this <|
        JX11_ofNote this p1 p2 p3 fun v49 =>
        Qj v49) (
        k41)) fun k34 =>
    jif (v23 = (nI 0)) (
      k34 (nI 1)) (
      k34 (nI 0))) (
    k41)
def JX8_be (this : Nat) (p1 : Nat) (Qj : JP) : JP :=
  jgetA 8 p1 0 fun v1 =>
  jgetA 8 this 0 fun v6 =>
  jcpyI v1 (nI 0) v6 (nI 0) (nI 36) <|
  jgetA 8 p1 1 fun v16 =>
  jgetA 8 this 1 fun v21 =>
  jcpyI v16 (nI 0) v21 (nI 0) (nI 36) <|
  Qj
def JX1_draw (this : Nat) (Qj : Int32 → JP) : JP :=
  jgetI 1 this 15 fun v4 =>
  jput 1 this 15 (.int (((nI 1103515245) * v4) + (nI 12345))) <|
  jgetI 1 this 15 fun v16 =>
  Qj ((jushr v16 (nI 16)) &&& (nI 32767))
def JX8_goes (this : Nat) (p1 : Int32) (Qj : Int32 → JP) : JP :=
  jgetA 8 this 0 fun v11 =>
  jaldI 0 v11 (jrem p1 (nI 36)) fun v15 =>
  jgetA 8 this 0 fun v19 =>
  jgetA 8 this 0 fun v24 =>
  jaldI 0 v24 (p1 / (nI 36)) fun v28 =>
  jastI v19 (jrem p1 (nI 36)) v28 <|
  jgetA 8 this 1 fun v31 =>
  jgetA 8 this 1 fun v36 =>
  jaldI 0 v36 (p1 / (nI 36)) fun v40 =>
  jastI v31 (jrem p1 (nI 36)) v40 <|
  jgetA 8 this 0 fun v43 =>
  jastI v43 (p1 / (nI 36)) (-1) <|
  Qj v15
def FX1_write_98 (this : Nat) (p1 : Int32) (p2 : Int32) (p3 : Int32) (Qj : Int32 → JP) (v58 : Int32) (v72 : Nat) (rec98 : Int32 → Nat → Nat → JP) (x7_98 : Int32) (bc_98 : Nat) (bs_98 : Nat) : JP :=
  jif (p2 ≤ x7_98) (
    Qj v58) (
    jgetA 1 this 4 fun v111 =>
    jgetA 1 this 12 fun v115 =>
    jgetA 1 this 11 fun v121 =>
    jobj 10 v111 <|
    JX10_gathers v111 v115 (jrem x7_98 (nI 2)) v121 fun v124 =>
    jif (v124 = (nI 0)) (
      Qj v58) (
      jgetA 1 this 11 fun v138 =>
      jobj 1 this <|
      JX1_draw this fun v142 =>
      jand (¬ v124 = (nI 0)) <|
      jaldI 0 v138 (jrem v142 v124) fun v148 =>
      jgetA 1 this 12 fun v152 =>
      jgetA 8 v152 0 fun v155 =>
      jaldI 0 v155 (v148 / (nI 36)) fun v163 =>
      jjoin (α := Int32 → JP) (fun (s0_206 : Int32) =>
        jgetA 1 this 12 fun v209 =>
        jobj 8 v209 <|
        JX8_goes v209 v148 fun v214 =>
        jobj 1 this <|
        JX1_draw this fun v219 =>
        jjoin (α := Int32 → Int32 → Int32 → JP) (fun (x11_300 : Int32) (x12_300 : Int32) (x13_300 : Int32) =>
          jgetA 9 v72 0 fun v302 =>
          jnew 23 4 df23 bc_98 bs_98 fun v307 =>
          JX23_init v307 x11_300 (-1) x12_300 x13_300 <|
          jastA 10 23 v302 x7_98 v307 <|
          jgetI 9 v72 2 fun v325 =>
          jput 9 v72 2 (.int (v325 + (nI 1))) <|
          rec98 (x7_98 + (nI 1)) (bc_98 - 1) (bs_98 - 4)) fun k300 =>
        jif (p3 ≤ (jrem v219 (nI 10))) (
          k300 v163 (jrem (jrem v148 (nI 36)) (nI 6)) s0_206) (
          jobj 1 this <|
          JX1_draw this fun v230 =>
          jif ((jrem v230 (nI 3)) = (nI 0)) (
            jgetA 1 this 1 fun v247 =>
            jgetI 7 v247 6 fun v250 =>
            jand (¬ v250 = (nI 0)) <|
            k300 (jrem (v163 + (nI 1)) v250) (jrem (jrem v148 (nI 36)) (nI 6)) s0_206) (
            jif ((jrem v230 (nI 3)) = (nI 1)) (
              jjoin (α := Int32 → JP) (fun (s1_278 : Int32) =>
                k300 v163 ((jrem (jrem v148 (nI 36)) (nI 6)) + s1_278) s0_206) fun k278 =>
              jif ((jrem (jrem v148 (nI 36)) (nI 6)) = (nI 5)) (
                k278 (-1)) (
                k278 (nI 1))) (
              jjoin (α := Int32 → JP) (fun (s1_297 : Int32) =>
                k300 v163 (jrem (jrem v148 (nI 36)) (nI 6)) (s0_206 + s1_297)) fun k297 =>
              jif (s0_206 = (nI 5)) (
                k297 (-1)) (
                k297 (nI 1)))))) fun k206 =>
      jjoin (α := JP) (
        k206 ((jrem v148 (nI 36)) / (nI 6))) fun k204 =>
      jif (p1 = (nI 1)) (
        jif ((jrem x7_98 (nI 2)) = (nI 1)) (
          k206 ((nI 5) - ((jrem v148 (nI 36)) / (nI 6)))) (
          k204)) (
        k204)))
def JX1_write (bc : Nat) (bs : Nat) (this : Nat) (p1 : Int32) (p2 : Int32) (p3 : Int32) (p4 : Int32) (Ex : Nat → Nat → JP) (Qj : Int32 → JP) : JP :=
  JX1_isIn p1 (nI 0) (nI 1) fun v3 =>
  jjoin (α := Int32 → JP) (fun (s0_34 : Int32) =>
    jbud bc bs fun mc34 ms34 =>
    JX1_must mc34 ms34 s0_34 Ex <|
    jgetA 1 this 1 fun v38 =>
    jgetI 7 v38 7 fun v41 =>
    jjoin (α := Int32 → JP) (fun (s0_53 : Int32) =>
      jbud (bc - mc34) (bs - ms34) fun mc53 ms53 =>
      JX1_mayBe mc53 ms53 s0_53 Ex <|
      jobj 1 this <|
      JX1_newBook this p1 fun v58 =>
      jgetA 1 this 1 fun v64 =>
      jgetA 7 v64 2 fun v67 =>
      jaldA 8 v67 v58 fun v72 =>
      jput 1 this 15 (.int p4) <|
      jgetA 1 this 12 fun v82 =>
      jgetA 1 this 1 fun v86 =>
      jgetA 7 v86 1 fun v89 =>
      jobj 8 v82 <|
      JX8_be v82 v89 <|
      jex fun n98 => jit (FX1_write_98 this p1 p2 p3 Qj v58 v72) (fun _ _ _ => jbot) n98 (nI 0) ((bc - mc34) - mc53) ((bs - ms34) - ms53)) fun k53 =>
    jif ((nI 3) ≤ v41) (
      k53 (nI 0)) (
      k53 (nI 1))) fun k34 =>
  jjoin (α := JP) (
    k34 (nI 0)) fun k33 =>
  jif (v3 = (nI 0)) (
    k33) (
    JX1_isIn p2 (nI 1) (nI 24) fun v13 =>
    jif (v13 = (nI 0)) (
      k33) (
      JX1_isIn p3 (nI 0) (nI 9) fun v23 =>
      jif (v23 = (nI 0)) (
        k33) (
        k34 (nI 1))))
def JX0_write (bc : Nat) (bs : Nat) (p0 : Nat) (p1 : Int32) (p2 : Int32) (p3 : Int32) (p4 : Int32) (p5 : Nat) (Qj : Int32 → JP) : JP :=
  jbud bc bs fun mc9 ms9 =>
  jobj 1 p0 <|
  JX1_write mc9 ms9 p0 p1 p2 p3 p4 (fun (xx9 xq9 : Nat) =>
    jif (xx9 = 0) (
      Qj (nI 1)) <|
    jif (xx9 = 1) (
      Qj (nI 2)) <|
    jbot) fun v9 =>
  jastL p5 (nI 0) (Int32.toInt64 v9) <|
  Qj (nI 0)
def JX11_draw (this : Nat) (Qj : Int32 → JP) : JP :=
  jgetI 11 this 51 fun v5 =>
  jput 11 this 51 (.int (((nI 1103515245) * v5) + (nI 12345))) <|
  jgetI 11 this 51 fun v17 =>
  Qj ((jshr v17 (nI 16)) &&& (nI 32767))
def FX11_makes_2 (this : Nat) (p1 : Int32) (k33 : JP) (rec2 : Int32 → JP) (x3_2 : Int32) : JP :=
  jif ((nI 36) ≤ x3_2) (
    k33) (
    jgetA 11 this 16 fun v9 =>
    jobj 11 this <|
    JX11_at this p1 x3_2 fun v23 =>
    jastI v9 (((nI 36) * (p1 + (nI 1))) + x3_2) v23 <|
    rec2 (x3_2 + (nI 1)))
def JX11_makes (this : Nat) (p1 : Int32) (p2 : Int32) (Qj : JP) : JP :=
  jex fun n2 => jit (FX11_makes_2 this p1 (
      jgetA 11 this 16 fun v34 =>
      jobj 11 this <|
      JX11_at this p1 (p2 / (nI 36)) fun v54 =>
      jastI v34 (((nI 36) * (p1 + (nI 1))) + (jrem p2 (nI 36))) v54 <|
      jgetA 11 this 16 fun v59 =>
      jastI v59 (((nI 36) * (p1 + (nI 1))) + (p2 / (nI 36))) (-1) <|
      Qj)) (fun _ => jbot) n2 (nI 0)
def FX11_write_133 (this : Nat) (p1 : Int32) (p2 : Int32) (p3 : Int32) (Qj : Int32 → JP) (v77 : Int32) (rec133 : Int32 → JP) (x6_133 : Int32) : JP :=
  jif (p2 ≤ x6_133) (
    Qj v77) (
    jobj 11 this <|
    JX11_finds this x6_133 (jrem x6_133 (nI 2)) <|
    jobj 11 this <|
    JX11_manyAt this x6_133 fun v152 =>
    jif (v152 = (nI 0)) (
      Qj v77) (
      jobj 11 this <|
      JX11_draw this fun v169 =>
      jand (¬ v152 = (nI 0)) <|
      jobj 11 this <|
      JX11_moveAt this x6_133 (jrem v169 v152) fun v175 =>
      jobj 11 this <|
      JX11_at this x6_133 (v175 / (nI 36)) fun v195 =>
      jjoin (α := Int32 → JP) (fun (s0_237 : Int32) =>
        jobj 11 this <|
        JX11_draw this fun v240 =>
        jjoin (α := Int32 → Int32 → Int32 → JP) (fun (x10_326 : Int32) (x11_326 : Int32) (x12_326 : Int32) =>
          jobj 11 this <|
          JX11_addsNote this v77 x10_326 (-1) x11_326 x12_326 fun v336 =>
          jobj 11 this <|
          JX11_makes this x6_133 v175 <|
          rec133 (x6_133 + (nI 1))) fun k326 =>
        jif (p3 ≤ (jrem v240 (nI 10))) (
          k326 (v195 / (nI 2)) (jrem (jrem v175 (nI 36)) (nI 6)) s0_237) (
          jobj 11 this <|
          JX11_draw this fun v251 =>
          jif ((jrem v251 (nI 3)) = (nI 0)) (
            jgetA 11 this 1 fun v268 =>
            jaldI 0 v268 (nI 0) fun v272 =>
            jand (¬ v272 = (nI 0)) <|
            k326 (jrem ((v195 / (nI 2)) + (nI 1)) v272) (jrem (jrem v175 (nI 36)) (nI 6)) s0_237) (
            jif ((jrem v251 (nI 3)) = (nI 1)) (
              jjoin (α := Int32 → JP) (fun (s0_302 : Int32) =>
                k326 (v195 / (nI 2)) s0_302 s0_237) fun k302 =>
              jif ((jrem (jrem v175 (nI 36)) (nI 6)) = (nI 5)) (
                k302 ((jrem (jrem v175 (nI 36)) (nI 6)) - (nI 1))) (
                k302 ((jrem (jrem v175 (nI 36)) (nI 6)) + (nI 1)))) (
              jjoin (α := Int32 → JP) (fun (s0_324 : Int32) =>
                k326 (v195 / (nI 2)) (jrem (jrem v175 (nI 36)) (nI 6)) s0_324) fun k324 =>
              jif (s0_237 = (nI 5)) (
                k324 (s0_237 - (nI 1))) (
                k324 (s0_237 + (nI 1))))))) fun k237 =>
      jjoin (α := JP) (
        k237 ((jrem v175 (nI 36)) / (nI 6))) fun k232 =>
      jif (p1 = (nI 1)) (
        jif ((jrem x6_133 (nI 2)) = (nI 1)) (
          k237 ((nI 5) - ((jrem v175 (nI 36)) / (nI 6)))) (
          k232)) (
        k232)))
def JX11_write (this : Nat) (p1 : Int32) (p2 : Int32) (p3 : Int32) (p4 : Int32) (Qj : Int32 → JP) : JP :=
  jput 11 this 0 (.int (nI 0)) <|
  JX11_in p1 (nI 0) (nI 1) fun v9 =>
  jjoin (α := Int32 → JP) (fun (s1_40 : Int32) =>
    jobj 11 this <|
    JX11_throwsIf this s1_40 (nI 1) fun v41 =>
    jif (v41 = (nI 0)) (
      jgetA 11 this 1 fun v49 =>
      jaldI 0 v49 (nI 1) fun v53 =>
      jjoin (α := Int32 → JP) (fun (s1_63 : Int32) =>
        jobj 11 this <|
        JX11_throwsIf this s1_63 (nI 2) fun v64 =>
        jif (v64 = (nI 0)) (
          jgetA 11 this 1 fun v73 =>
          jaldI 0 v73 (nI 1) fun v77 =>
          jgetA 11 this 1 fun v81 =>
          jastI v81 ((nI 119) + ((nI 98) * v77)) p1 <|
          jgetA 11 this 1 fun v95 =>
          jastI v95 (((nI 119) + ((nI 98) * v77)) + (nI 1)) (nI 0) <|
          jgetA 11 this 1 fun v111 =>
          jaldI 0 v111 (nI 1) fun v116 =>
          jastI v111 (nI 1) (v116 + (nI 1)) <|
          jput 11 this 51 (.int p4) <|
          jobj 11 this <|
          JX11_begins this <|
          jex fun n133 => jit (FX11_write_133 this p1 p2 p3 Qj v77) (fun _ => jbot) n133 (nI 0)) (
          Qj (nI 0))) fun k63 =>
      jif (v53 = (nI 3)) (
        k63 (nI 1)) (
        k63 (nI 0))) (
      Qj (nI 0))) fun k40 =>
  jjoin (α := JP) (
    k40 (nI 1)) fun k35 =>
  jif (v9 = (nI 0)) (
    k35) (
    JX11_in p2 (nI 1) (nI 24) fun v19 =>
    jif (v19 = (nI 0)) (
      k35) (
      JX11_in p3 (nI 0) (nI 9) fun v29 =>
      jif (v29 = (nI 0)) (
        k35) (
        k40 (nI 0))))
def JX1_isSlip (bc : Nat) (bs : Nat) (p0 : Int32) (Ex : Nat → Nat → JP) (Qj : JP) : JP :=
  JX1_isIn p0 (nI 1) (nI 7) fun v4 =>
  jbud bc bs fun mc7 ms7 =>
  JX1_mustBe mc7 ms7 v4 Ex <|
  Qj
def JX1_price (bc : Nat) (bs : Nat) (this : Nat) (p1 : Int32) (p2 : Int32) (Ex : Nat → Nat → JP) (Qj : Int32 → JP) : JP :=
  jbud bc bs fun mc1 ms1 =>
  JX1_isSlip mc1 ms1 p1 Ex <|
  JX1_isIn p2 (nI 0) (nI 9) fun v8 =>
  jbud (bc - mc1) (bs - ms1) fun mc11 ms11 =>
  JX1_must mc11 ms11 v8 Ex <|
  jgetA 1 this 1 fun v15 =>
  jgetA 7 v15 4 fun v18 =>
  jaldI 0 v18 p1 fun v22 =>
  jgetA 1 this 1 fun v25 =>
  jgetA 7 v25 4 fun v28 =>
  jastI v28 p1 p2 <|
  jputZ 1 this 16 (nI 0) <|
  Qj v22
def JX0_price (bc : Nat) (bs : Nat) (p0 : Nat) (p1 : Int32) (p2 : Int32) (p3 : Nat) (Qj : Int32 → JP) : JP :=
  jbud bc bs fun mc5 ms5 =>
  jobj 1 p0 <|
  JX1_price mc5 ms5 p0 p1 p2 (fun (xx5 xq5 : Nat) =>
    jif (xx5 = 2) (
      Qj (nI 1)) <|
    jif (xx5 = 0) (
      Qj (nI 2)) <|
    jbot) fun v5 =>
  jastL p3 (nI 0) (Int32.toInt64 v5) <|
  Qj (nI 0)
def JX11_price (this : Nat) (p1 : Int32) (p2 : Int32) (Qj : Int32 → JP) : JP :=
  jput 11 this 0 (.int (nI 0)) <|
  JX11_in p1 (nI 1) (nI 7) fun v10 =>
  jjoin (α := Int32 → JP) (fun (s1_21 : Int32) =>
    jobj 11 this <|
    JX11_throwsIf this s1_21 (nI 1) fun v22 =>
    jif (v22 = (nI 0)) (
      JX11_in p2 (nI 0) (nI 9) fun v33 =>
      jjoin (α := Int32 → JP) (fun (s1_44 : Int32) =>
        jobj 11 this <|
        JX11_throwsIf this s1_44 (nI 2) fun v45 =>
        jif (v45 = (nI 0)) (
          jgetA 11 this 1 fun v54 =>
          jaldI 0 v54 ((nI 5) + p1) fun v60 =>
          jgetA 11 this 1 fun v63 =>
          jastI v63 ((nI 5) + p1) p2 <|
          Qj v60) (
          Qj (nI 0))) fun k44 =>
      jif (v33 = (nI 0)) (
        k44 (nI 1)) (
        k44 (nI 0))) (
      Qj (nI 0))) fun k21 =>
  jif (v10 = (nI 0)) (
    k21 (nI 1)) (
    k21 (nI 0))
def JX1_length (bc : Nat) (bs : Nat) (this : Nat) (p1 : Int32) (Ex : Nat → Nat → JP) (Qj : JP) : JP :=
  JX1_isIn p1 (-1) (nI 30) fun v4 =>
  jbud bc bs fun mc7 ms7 =>
  JX1_must mc7 ms7 v4 Ex <|
  jgetA 1 this 1 fun v11 =>
  jput 7 v11 9 (.int p1) <|
  jputZ 1 this 16 (nI 0) <|
  Qj
def JX0_length (bc : Nat) (bs : Nat) (p0 : Nat) (p1 : Int32) (Qj : Int32 → JP) : JP :=
  jbud bc bs fun mc2 ms2 =>
  jobj 1 p0 <|
  JX1_length mc2 ms2 p0 p1 (fun (xx2 xq2 : Nat) =>
    jif (xx2 = 0) (
      Qj (nI 1)) <|
    jbot) <|
  Qj (nI 0)
def JX11_length (this : Nat) (p1 : Int32) (Qj : JP) : JP :=
  jput 11 this 0 (.int (nI 0)) <|
  JX11_in p1 (-1) (nI 30) fun v10 =>
  jjoin (α := Int32 → JP) (fun (s1_21 : Int32) =>
    jobj 11 this <|
    JX11_throwsIf this s1_21 (nI 1) fun v22 =>
    jif (v22 = (nI 0)) (
      jgetA 11 this 1 fun v30 =>
      jastI v30 (nI 3) p1 <|
      Qj) (
      Qj)) fun k21 =>
  jif (v10 = (nI 0)) (
    k21 (nI 1)) (
    k21 (nI 0))
def JX24_init (this : Nat) (p1 : Int32) (p2 : Int32) (p3 : Int32) (p4 : Int32) (Qj : JP) : JP :=
  jput 24 this 0 (.int p1) <|
  jput 24 this 1 (.int p2) <|
  jput 24 this 2 (.int p3) <|
  jput 24 this 3 (.int p4) <|
  Qj
def JX1_picture (bc : Nat) (bs : Nat) (this : Nat) (p1 : Int32) (p2 : Int32) (p3 : Int32) (p4 : Int32) (Ex : Nat → Nat → JP) (Qj : Int32 → JP) : JP :=
  jbud bc bs fun mc1 ms1 =>
  JX1_isSquare mc1 ms1 p2 Ex <|
  jbud (bc - mc1) (bs - ms1) fun mc7 ms7 =>
  jobj 1 this <|
  JX1_isKind mc7 ms7 this p3 (-1) Ex <|
  JX1_isIn p1 (nI 0) (nI 30) fun v14 =>
  jjoin (α := Int32 → JP) (fun (s0_40 : Int32) =>
    jbud ((bc - mc1) - mc7) ((bs - ms1) - ms7) fun mc40 ms40 =>
    JX1_must mc40 ms40 s0_40 Ex <|
    jgetA 1 this 1 fun v44 =>
    jgetI 7 v44 8 fun v47 =>
    jjoin (α := Int32 → JP) (fun (s0_60 : Int32) =>
      jbud (((bc - mc1) - mc7) - mc40) (((bs - ms1) - ms7) - ms40) fun mc60 ms60 =>
      JX1_mayBe mc60 ms60 s0_60 Ex <|
      jgetA 1 this 1 fun v64 =>
      jgetA 7 v64 3 fun v67 =>
      jgetA 1 this 1 fun v71 =>
      jgetI 7 v71 8 fun v74 =>
      jnew 24 4 df24 ((((bc - mc1) - mc7) - mc40) - mc60) ((((bs - ms1) - ms7) - ms40) - ms60) fun v77 =>
      JX24_init v77 p1 p2 p3 p4 <|
      jastA 9 24 v67 v74 v77 <|
      jgetA 1 this 1 fun v91 =>
      jgetI 7 v91 8 fun v95 =>
      jput 7 v91 8 (.int (v95 + (nI 1))) <|
      jputZ 1 this 16 (nI 0) <|
      jgetA 1 this 1 fun v109 =>
      jgetI 7 v109 8 fun v112 =>
      Qj v112) fun k60 =>
    jif ((nI 10) ≤ v47) (
      k60 (nI 0)) (
      k60 (nI 1))) fun k40 =>
  jjoin (α := JP) (
    k40 (nI 0)) fun k39 =>
  jif (v14 = (nI 0)) (
    k39) (
    jjoin (α := JP) (
      k40 (nI 1)) fun k35 =>
    jif (p3 = (-1)) (
      k35) (
      JX1_isIn p4 (nI 0) (nI 1) fun v29 =>
      jif (v29 = (nI 0)) (
        k39) (
        k35)))
def JX0_picture (bc : Nat) (bs : Nat) (p0 : Nat) (p1 : Int32) (p2 : Int32) (p3 : Int32) (p4 : Int32) (p5 : Nat) (Qj : Int32 → JP) : JP :=
  jbud bc bs fun mc9 ms9 =>
  jobj 1 p0 <|
  JX1_picture mc9 ms9 p0 p1 p2 p3 p4 (fun (xx9 xq9 : Nat) =>
    jif (xx9 = 2) (
      Qj (nI 1)) <|
    jif (xx9 = 0) (
      Qj (nI 2)) <|
    jif (xx9 = 1) (
      Qj (nI 3)) <|
    jbot) fun v9 =>
  jastL p5 (nI 0) (Int32.toInt64 v9) <|
  Qj (nI 0)
def JX11_picture (this : Nat) (p1 : Int32) (p2 : Int32) (p3 : Int32) (p4 : Int32) (Qj : Int32 → JP) : JP :=
  jput 11 this 0 (.int (nI 0)) <|
  JX11_noSquare p2 fun v7 =>
  jjoin (α := Int32 → JP) (fun (s1_31 : Int32) =>
    jobj 11 this <|
    JX11_throwsIf this s1_31 (nI 1) fun v32 =>
    jif (v32 = (nI 0)) (
      JX11_in p1 (nI 0) (nI 30) fun v43 =>
      jjoin (α := Int32 → JP) (fun (s1_69 : Int32) =>
        jobj 11 this <|
        JX11_throwsIf this s1_69 (nI 2) fun v70 =>
        jif (v70 = (nI 0)) (
          jgetA 11 this 1 fun v78 =>
          jaldI 0 v78 (nI 2) fun v82 =>
          jjoin (α := Int32 → JP) (fun (s1_93 : Int32) =>
            jobj 11 this <|
            JX11_throwsIf this s1_93 (nI 3) fun v94 =>
            jif (v94 = (nI 0)) (
              jgetA 11 this 1 fun v107 =>
              jaldI 0 v107 (nI 2) fun v111 =>
              jgetA 11 this 1 fun v117 =>
              jastI v117 ((nI 413) + ((nI 3) * v111)) p1 <|
              jgetA 11 this 1 fun v125 =>
              jastI v125 (((nI 413) + ((nI 3) * v111)) + (nI 1)) p2 <|
              jgetA 11 this 1 fun v135 =>
              JX11_man p3 p4 fun v145 =>
              jastI v135 (((nI 413) + ((nI 3) * v111)) + (nI 2)) v145 <|
              jgetA 11 this 1 fun v150 =>
              jaldI 0 v150 (nI 2) fun v155 =>
              jastI v150 (nI 2) (v155 + (nI 1)) <|
              jgetA 11 this 1 fun v160 =>
              jaldI 0 v160 (nI 2) fun v164 =>
              Qj v164) (
              Qj (nI 0))) fun k93 =>
          jif (v82 = (nI 10)) (
            k93 (nI 1)) (
            k93 (nI 0))) (
          Qj (nI 0))) fun k69 =>
      jjoin (α := JP) (
        k69 (nI 1)) fun k64 =>
      jif (v43 = (nI 0)) (
        k64) (
        jjoin (α := JP) (
          k69 (nI 0)) fun k68 =>
        jif (p3 = (-1)) (
          k68) (
          JX11_in p4 (nI 0) (nI 1) fun v58 =>
          jif (v58 = (nI 0)) (
            k64) (
            k68)))) (
      Qj (nI 0))) fun k31 =>
  jjoin (α := JP) (
    k31 (nI 1)) fun k26 =>
  jif (v7 = (nI 0)) (
    jjoin (α := JP) (
      k31 (nI 0)) fun k30 =>
    jif (p3 = (-1)) (
      k30) (
      jobj 11 this <|
      JX11_noKind this p3 fun v20 =>
      jif (v20 = (nI 0)) (
        k30) (
        k26))) (
    k26)
def JX1_allBooks (this : Nat) (Qj : Int32 → JP) : JP :=
  jgetA 1 this 1 fun v2 =>
  jgetI 7 v2 7 fun v5 =>
  Qj ((jshl (nI 1) v5) - (nI 1))
def FX10_begins_32 (this : Nat) (p2 : Int32) (Qj : JP) (rec32 : Int32 → JP) (x3_32 : Int32) : JP :=
  jif ((nI 7) < x3_32) (
    Qj) (
    jgetA 10 this 9 fun v39 =>
    jjoin (α := Int32 → JP) (fun (s2_60 : Int32) =>
      jastI v39 x3_32 s2_60 <|
      rec32 (x3_32 + (nI 1))) fun k60 =>
    jif (p2 = (nI 0)) (
      jgetA 10 this 0 fun v52 =>
      jgetA 7 v52 4 fun v55 =>
      jaldI 0 v55 x3_32 fun v59 =>
      k60 v59) (
      k60 (nI 0)))
def JX10_begins (this : Nat) (p1 : Int32) (p2 : Int32) (Qj : JP) : JP :=
  jput 10 this 12 (.int p1) <|
  jputZ 10 this 27 p2 <|
  jput 10 this 13 (.int (nI 0)) <|
  jput 10 this 20 (.int (nI 0)) <|
  jputZ 10 this 26 (nI 0) <|
  jputZ 10 this 28 (nI 0) <|
  jex fun n32 => jit (FX10_begins_32 this p2 Qj) (fun _ => jbot) n32 (nI 0)
def JX24_is (this : Nat) (p1 : Nat) (Qj : Int32 → JP) : JP :=
  jgetA 8 p1 0 fun v1 =>
  jgetI 24 this 1 fun v5 =>
  jaldI 0 v1 v5 fun v8 =>
  jgetI 24 this 2 fun v10 =>
  jjoin (α := JP) (
    Qj (nI 0)) fun k44 =>
  jif (v8 = v10) (
    jgetI 24 this 2 fun v17 =>
    jjoin (α := JP) (
      Qj (nI 1)) fun k40 =>
    jif (v17 = (-1)) (
      k40) (
      jgetA 8 p1 1 fun v25 =>
      jgetI 24 this 1 fun v29 =>
      jaldI 0 v25 v29 fun v32 =>
      jgetI 24 this 3 fun v34 =>
      jif (v32 = v34) (
        k40) (
        k44))) (
    k44)
def FX10_bars_4 (this : Nat) (p1 : Int32) (Qj : Int32 → JP) (rec4 : Int32 → Int32 → JP) (x2_4 : Int32) (x3_4 : Int32) : JP :=
  jgetA 10 this 0 fun v6 =>
  jgetI 7 v6 8 fun v9 =>
  jif (v9 ≤ x3_4) (
    jand (x2_4 = nI 0 ∨ x2_4 = nI 1) (Qj x2_4)) (
    jgetI 10 this 27 fun v16 =>
    jif (v16 = (nI 0)) (
      jjoin (α := Int32 → JP) (fun (s0_66 : Int32) =>
        rec4 s0_66 (x3_4 + (nI 1))) fun k66 =>
      jjoin (α := JP) (
        k66 (nI 1)) fun k61 =>
      jif (x2_4 = (nI 0)) (
        jgetA 10 this 0 fun v27 =>
        jgetA 7 v27 3 fun v30 =>
        jaldA 9 v30 x3_4 fun v34 =>
        jgetI 24 v34 0 fun v35 =>
        jjoin (α := JP) (
          k66 (nI 0)) fun k65 =>
        jif (v35 = p1) (
          jgetA 10 this 0 fun v43 =>
          jgetA 7 v43 3 fun v46 =>
          jaldA 9 v46 x3_4 fun v50 =>
          jgetA 10 this 1 fun v52 =>
          jobj 24 v50 <|
          JX24_is v50 v52 fun v55 =>
          jif (v55 = (nI 0)) (
            k61) (
            k65)) (
          k65)) (
        k61)) (
      jand (x2_4 = nI 0 ∨ x2_4 = nI 1) (Qj x2_4)))
def JX10_bars (this : Nat) (p1 : Int32) (Qj : Int32 → JP) : JP :=
  jex fun n4 => jit (FX10_bars_4 this p1 Qj) (fun _ _ => jbot) n4 (nI 0) (nI 0)
def JX10_isIn (this : Nat) (p1 : Int32) (Qj : Int32 → JP) : JP :=
  jgetI 10 this 12 fun v1 =>
  jif (((jshr v1 p1) &&& (nI 1)) = (nI 1)) (
    Qj (nI 1)) (
    Qj (nI 0))
def FX10_isReading_79 (this : Nat) (p1 : Int32) (k137 : Int32 → JP) (rec79 : Int32 → Int32 → JP) (x2_79 : Int32) (x3_79 : Int32) : JP :=
  jgetA 10 this 0 fun v81 =>
  jgetI 7 v81 7 fun v84 =>
  jif (v84 ≤ x3_79) (
    k137 x2_79) (
    jobj 10 this <|
    JX10_isIn this x3_79 fun v92 =>
    jjoin (α := Int32 → JP) (fun (s0_130 : Int32) =>
      rec79 s0_130 (x3_79 + (nI 1))) fun k130 =>
    jif (v92 = (nI 0)) (
      k130 x2_79) (
      jgetA 10 this 4 fun v102 =>
      jaldA 12 v102 x3_79 fun v106 =>
      jaldA 11 v106 p1 fun v108 =>
      jgetA 10 this 0 fun v110 =>
      jgetA 7 v110 2 fun v113 =>
      jaldA 8 v113 x3_79 fun v117 =>
      jgetI 9 v117 2 fun v118 =>
      jaldI 0 v108 v118 fun v121 =>
      k130 (jmin (nI 1000000) (x2_79 + v121))))
def FX10_isReading_33 (this : Nat) (p1 : Int32) (Qj : Int32 → JP) (k75 : JP) (rec33 : Int32 → JP) (x2_33 : Int32) : JP :=
  jgetA 10 this 0 fun v35 =>
  jgetI 7 v35 8 fun v38 =>
  jif (v38 ≤ x2_33) (
    k75) (
    jgetI 10 this 27 fun v45 =>
    jif (v45 = (nI 0)) (
      jgetA 10 this 0 fun v52 =>
      jgetA 7 v52 3 fun v55 =>
      jaldA 9 v55 x2_33 fun v59 =>
      jgetI 24 v59 0 fun v60 =>
      jif (v60 ≤ p1) (
        rec33 (x2_33 + (nI 1))) (
        Qj (nI 0))) (
      k75))
def JX10_isReading (this : Nat) (p1 : Int32) (Qj : Int32 → JP) : JP :=
  jgetI 10 this 27 fun v1 =>
  jjoin (α := JP) (
    jex fun n33 => jit (FX10_isReading_33 this p1 Qj (
        jex fun n79 => jit (FX10_isReading_79 this p1 (fun (y2_137 : Int32) =>
            jgetI 10 this 22 fun v139 =>
            jif (y2_137 = v139) (
              Qj (nI 1)) (
              Qj (nI 0)))) (fun _ _ => jbot) n79 (nI 0) (nI 0))) (fun _ => jbot) n33 (nI 0)) fun k31 =>
  jif (v1 = (nI 0)) (
    jgetA 10 this 0 fun v8 =>
    jgetI 7 v8 9 fun v11 =>
    jif (v11 = (-1)) (
      k31) (
      jgetA 10 this 0 fun v19 =>
      jgetI 7 v19 9 fun v22 =>
      jif (v22 = p1) (
        k31) (
        Qj (nI 0)))) (
    k31)
def FX8_men_4 (this : Nat) (p1 : Int32) (Qj : Int32 → JP) (rec4 : Int32 → Int32 → JP) (x2_4 : Int32) (x3_4 : Int32) : JP :=
  jif ((nI 36) ≤ x3_4) (
    Qj x2_4) (
    jgetA 8 this 0 fun v12 =>
    jaldI 0 v12 x3_4 fun v16 =>
    jjoin (α := Int32 → JP) (fun (s1_36 : Int32) =>
      rec4 (x2_4 + s1_36) (x3_4 + (nI 1))) fun k36 =>
    jjoin (α := JP) (
      k36 (nI 0)) fun k35 =>
    jif (v16 = (-1)) (
      k35) (
      jgetA 8 this 1 fun v22 =>
      jaldI 0 v22 x3_4 fun v26 =>
      jif (v26 = p1) (
        k36 (nI 1)) (
        k35)))
def JX8_men (this : Nat) (p1 : Int32) (Qj : Int32 → JP) : JP :=
  jex fun n4 => jit (FX8_men_4 this p1 Qj) (fun _ _ => jbot) n4 (nI 0) (nI 0)
def FX10_isTaken_23 (this : Nat) (p1 : Int32) (Qj : Int32 → JP) (v13 : Int32) (rec23 : Int32 → Int32 → JP) (x4_23 : Int32) (x5_23 : Int32) : JP :=
  jif (v13 ≤ x5_23) (
    jand (x4_23 = nI 0 ∨ x4_23 = nI 1) (Qj x4_23)) (
    jjoin (α := Int32 → JP) (fun (s0_56 : Int32) =>
      rec23 s0_56 (x5_23 + (nI 1))) fun k56 =>
    jjoin (α := JP) (
      k56 (nI 1)) fun k51 =>
    jif (x4_23 = (nI 0)) (
      jgetA 10 this 3 fun v35 =>
      jaldA 11 v35 (nI 30) fun v40 =>
      jaldI 0 v40 x5_23 fun v43 =>
      jif ((jrem v43 (nI 36)) = p1) (
        k51) (
        k56 (nI 0))) (
      k51))
def JX10_isTaken (this : Nat) (p1 : Int32) (p2 : Int32) (Qj : Int32 → JP) : JP :=
  jgetA 10 this 11 fun v2 =>
  jgetA 10 this 3 fun v7 =>
  jaldA 11 v7 (nI 30) fun v12 =>
  jobj 10 this <|
  JX10_gathers this v2 p2 v12 fun v13 =>
  jex fun n23 => jit (FX10_isTaken_23 this p1 Qj v13) (fun _ _ => jbot) n23 (nI 0) (nI 0)
def JX18_holds (this : Nat) (p1 : Nat) (Qj : Int32 → JP) : JP :=
  jgetI 18 this 0 fun v2 =>
  jaldI 0 p1 v2 fun v5 =>
  jif (v5 = (nI 0)) (
    Qj (nI 0)) (
    Qj (nI 1))
def FX19_of_7 (this : Nat) (p1 : Nat) (Qj : Int32 → JP) (rec7 : Int32 → Int32 → JP) (x2_7 : Int32) (x3_7 : Int32) : JP :=
  jif ((nI 4) ≤ x3_7) (
    Qj x2_7) (
    jgetA 19 this 0 fun v14 =>
    jaldI 0 v14 x3_7 fun v18 =>
    jaldI 0 p1 x3_7 fun v21 =>
    rec7 (x2_7 + (v18 * v21)) (x3_7 + (nI 1)))
def JX19_of (this : Nat) (p1 : Nat) (Qj : Int32 → JP) : JP :=
  jgetI 19 this 1 fun v1 =>
  jex fun n7 => jit (FX19_of_7 this p1 Qj) (fun _ _ => jbot) n7 v1 (nI 0)
def JX20_holds (this : Nat) (p1 : Nat) (Qj : Int32 → JP) : JP :=
  jgetA 20 this 0 fun v1 =>
  jobj 19 v1 <|
  JX19_of v1 p1 fun v5 =>
  jgetA 20 this 1 fun v9 =>
  jobj 19 v9 <|
  JX19_of v9 p1 fun v13 =>
  jif (v13 ≤ v5) (
    Qj (nI 0)) (
    Qj (nI 1))
def FX17_holds_2 (rJX17_holds : Nat → Nat → (Int32 → JP) → JP) (rJX21_holds : Nat → Nat → (Int32 → JP) → JP) (this : Nat) (p1 : Nat) (k44 : JP) (k23 : JP) (rec2 : Option Nat → JP) (x2_2 : Option Nat) : JP :=
  jnull x2_2 (
    k44) (
    jsome x2_2 fun u7 =>
    jgetA 17 u7 0 fun v7 =>
    jjoin (α := Int32 → JP) (fun v11 =>
      jgetI 17 this 1 fun v17 =>
      jif (v11 = v17) (
        jgetO 17 u7 2 fun v37 =>
        rec2 v37) (
        k23)) fun kd11 =>
    jdisp v7 [(17, rJX17_holds v7 p1 kd11), (18, JX18_holds v7 p1 kd11), (20, JX20_holds v7 p1 kd11), (21, rJX21_holds v7 p1 kd11)])
def JX17_holdsF (rJX17_holds : Nat → Nat → (Int32 → JP) → JP) (rJX21_holds : Nat → Nat → (Int32 → JP) → JP) (this : Nat) (p1 : Nat) (Qj : Int32 → JP) : JP :=
  jex fun n2 => jit (FX17_holds_2 rJX17_holds rJX21_holds this p1 (
      jgetI 17 this 1 fun v45 =>
      jand (v45 = nI 0 ∨ v45 = nI 1) (Qj v45)) (
      jgetI 17 this 1 fun v24 =>
      jif (v24 = (nI 0)) (
        Qj (nI 1)) (
        Qj (nI 0)))) (fun _ => jbot) n2 (some this)
def JX21_holdsF (rJX17_holds : Nat → Nat → (Int32 → JP) → JP) (rJX21_holds : Nat → Nat → (Int32 → JP) → JP) (this : Nat) (p1 : Nat) (Qj : Int32 → JP) : JP :=
  jgetA 21 this 0 fun v1 =>
  jjoin (α := Int32 → JP) (fun v5 =>
    jif (v5 = (nI 0)) (
      Qj (nI 1)) (
      Qj (nI 0))) fun kd5 =>
  jdisp v1 [(17, rJX17_holds v1 p1 kd5), (18, JX18_holds v1 p1 kd5), (20, JX20_holds v1 p1 kd5), (21, rJX21_holds v1 p1 kd5)]
def JX17_holdsR : Nat → (Nat → Nat → (Int32 → JP) → JP) × (Nat → Nat → (Int32 → JP) → JP)
  | 0 => ((fun _ _ _ => jbot), (fun _ _ _ => jbot))
  | n + 1 => (JX17_holdsF (JX17_holdsR n).1 (JX17_holdsR n).2, JX21_holdsF (JX17_holdsR n).1 (JX17_holdsR n).2)
def JX17_holds (n : Nat) : Nat → Nat → (Int32 → JP) → JP := (JX17_holdsR n).1
def JX21_holds (n : Nat) : Nat → Nat → (Int32 → JP) → JP := (JX17_holdsR n).2
def JX16_tells (this : Nat) (p1 : Nat) (Qj : Int32 → JP) : JP :=
  jgetO 16 this 2 fun v1 =>
  jjoin (α := JP) (
    jgetI 16 this 1 fun v25 =>
    jif (v25 = (-1)) (
      jgetI 16 this 0 fun v33 =>
      Qj v33) (
      jgetI 16 this 0 fun v40 =>
      jgetI 16 this 1 fun v45 =>
      jaldI 0 p1 v45 fun v48 =>
      Qj (v40 * v48))) fun k24 =>
  jnull v1 (
    k24) (
    jgetO 16 this 2 fun v8 =>
    jsome v8 fun u12 =>
    jjoin (α := Int32 → JP) (fun v12 =>
      jif (v12 = (nI 0)) (
        Qj (nI 0)) (
        k24)) fun kd12 =>
    jdisp u12 [(17, JX17_holds 40 u12 p1 kd12), (18, JX18_holds u12 p1 kd12), (20, JX20_holds u12 p1 kd12), (21, JX21_holds 40 u12 p1 kd12)])
def FX22_tells_4 (this : Nat) (p1 : Nat) (Qj : Int32 → JP) (rec4 : Int32 → Int32 → JP) (x2_4 : Int32) (x3_4 : Int32) : JP :=
  jgetA 22 this 0 fun v6 =>
  jalen v6 fun v9 =>
  jif (v9 ≤ x3_4) (
    Qj x2_4) (
    jgetA 22 this 0 fun v15 =>
    jaldA 6 v15 x3_4 fun v19 =>
    jobj 16 v19 <|
    JX16_tells v19 p1 fun v21 =>
    rec4 (x2_4 + v21) (x3_4 + (nI 1)))
def JX22_tells (this : Nat) (p1 : Nat) (Qj : Int32 → JP) : JP :=
  jex fun n4 => jit (FX22_tells_4 this p1 Qj) (fun _ _ => jbot) n4 (nI 0) (nI 0)
def FX10_played_30 (this : Nat) (p1 : Int32) (Qj : Int32 → JP) (rec30 : Int32 → Int32 → JP) (x2_30 : Int32) (x3_30 : Int32) : JP :=
  jif (p1 ≤ x3_30) (
    Qj x2_30) (
    jgetA 10 this 5 fun v41 =>
    jaldI 0 v41 x3_30 fun v45 =>
    jgetA 10 this 0 fun v49 =>
    jgetA 7 v49 0 fun v52 =>
    jgetA 10 this 11 fun v56 =>
    jgetA 8 v56 0 fun v59 =>
    jaldI 0 v59 (v45 / (nI 36)) fun v67 =>
    jaldA 7 v52 v67 fun v68 =>
    jgetI 12 v68 0 fun v69 =>
    jgetA 10 this 11 fun v75 =>
    jobj 8 v75 <|
    JX8_goes v75 v45 fun v80 =>
    jgetA 10 this 10 fun v86 =>
    jjoin (α := Int32 → JP) (fun (s2_113 : Int32) =>
      jastI v86 (nI 0) s2_113 <|
      jgetA 10 this 10 fun v115 =>
      jastI v115 (nI 1) v69 <|
      jgetA 10 this 10 fun v123 =>
      jastI v123 (nI 2) (x3_30 + (nI 1)) <|
      jgetA 10 this 10 fun v132 =>
      jgetA 10 this 11 fun v137 =>
      jobj 8 v137 <|
      JX8_men v137 (jrem x3_30 (nI 2)) fun v142 =>
      jastI v132 (nI 3) v142 <|
      jgetA 10 this 10 fun v147 =>
      jjoin (α := Int32 → JP) (fun (s2_162 : Int32) =>
        jastI v147 (nI 4) s2_162 <|
        jgetA 10 this 10 fun v164 =>
        jobj 10 this <|
        JX10_isTaken this (jrem v45 (nI 36)) ((nI 1) - (jrem x3_30 (nI 2))) fun v178 =>
        jjoin (α := Int32 → JP) (fun (s2_189 : Int32) =>
          jastI v164 (nI 5) s2_189 <|
          jgetA 10 this 0 fun v192 =>
          jgetO 7 v192 5 fun v195 =>
          jgetA 10 this 10 fun v199 =>
          jsome v195 fun u202 =>
          jobj 22 u202 <|
          JX22_tells u202 v199 fun v202 =>
          rec30 (x2_30 + v202) (x3_30 + (nI 1))) fun k189 =>
        jif (v178 = (nI 0)) (
          k189 (nI 1)) (
          k189 (nI 0))) fun k162 =>
      jif (v80 = (-1)) (
        k162 (nI 0)) (
        k162 (nI 1))) fun k113 =>
    jif (v80 = (-1)) (
      k113 (nI 0)) (
      jgetA 10 this 0 fun v101 =>
      jgetA 7 v101 0 fun v104 =>
      jaldA 7 v104 v80 fun v109 =>
      jgetI 12 v109 0 fun v110 =>
      k113 v110))
def JX10_played (this : Nat) (p1 : Int32) (Qj : Int32 → JP) : JP :=
  jgetA 10 this 0 fun v1 =>
  jgetO 7 v1 5 fun v4 =>
  jnull v4 (
    Qj (nI 0)) (
    jgetA 10 this 11 fun v13 =>
    jgetA 10 this 0 fun v17 =>
    jgetA 7 v17 1 fun v20 =>
    jobj 8 v13 <|
    JX8_be v13 v20 <|
    jex fun n30 => jit (FX10_played_30 this p1 Qj) (fun _ _ => jbot) n30 (nI 0) (nI 0))
def JX10_found (this : Nat) (p1 : Int32) (Qj : JP) : JP :=
  jgetI 10 this 28 fun v1 =>
  jif (v1 = (nI 0)) (
    jgetI 10 this 15 fun v68 =>
    jjoin (α := JP) (
      jgetI 10 this 15 fun v94 =>
      jjoin (α := JP) (
        jgetI 10 this 29 fun v121 =>
        jjoin (α := JP) (
          jgetI 10 this 15 fun v184 =>
          jput 10 this 15 (.int (v184 + (nI 1))) <|
          Qj) fun k182 =>
        jif (v121 = (nI 0)) (
          k182) (
          jgetI 10 this 15 fun v128 =>
          jif ((nI 200) ≤ v128) (
            k182) (
            jobj 10 this <|
            JX10_played this p1 fun v139 =>
            jgetI 10 this 15 fun v144 =>
            jjoin (α := JP) (
              jput 10 this 19 (.int v139) <|
              jput 10 this 18 (.int p1) <|
              jgetA 10 this 5 fun v169 =>
              jgetA 10 this 8 fun v174 =>
              jcpyI v169 (nI 0) v174 (nI 0) p1 <|
              k182) fun k158 =>
            jif (v144 = (nI 0)) (
              k158) (
              jgetI 10 this 19 fun v152 =>
              jif (v152 ≤ v139) (
                k182) (
                k158))))) fun k120 =>
      jif (v94 = (nI 1)) (
        jgetA 10 this 5 fun v102 =>
        jgetA 10 this 7 fun v107 =>
        jcpyI v102 (nI 0) v107 (nI 0) p1 <|
        jput 10 this 17 (.int p1) <|
        k120) (
        k120)) fun k93 =>
    jif (v68 = (nI 0)) (
      jgetA 10 this 5 fun v75 =>
      jgetA 10 this 6 fun v80 =>
      jcpyI v75 (nI 0) v80 (nI 0) p1 <|
      jput 10 this 16 (.int p1) <|
      k93) (
      k93)) (
    jgetL 10 this 24 fun v9 =>
    jgetL 10 this 25 fun v13 =>
    jput 10 this 24 (.long (v9 + v13)) <|
    jgetL 10 this 23 fun v22 =>
    jgetI 10 this 21 fun v27 =>
    jjoin (α := Int64 → JP) (fun (s2_62 : Int64) =>
      jput 10 this 23 (.long (v22 + s2_62)) <|
      Qj) fun k62 =>
    jjoin (α := JP) (
      k62 (lN 0)) fun k61 =>
    jif (p1 ≤ v27) (
      k61) (
      jgetA 10 this 5 fun v34 =>
      jgetI 10 this 21 fun v38 =>
      jaldI 0 v34 v38 fun v41 =>
      jgetA 10 this 6 fun v43 =>
      jgetI 10 this 21 fun v47 =>
      jaldI 0 v43 v47 fun v50 =>
      jif (v41 = v50) (
        jgetL 10 this 25 fun v55 =>
        k62 v55) (
        k61)))
def JX23_slip (this : Nat) (p1 : Int32) (p2 : Int32) (p3 : Int32) (p4 : Int32) (p5 : Nat) (Qj : Int32 → JP) : JP :=
  jjoin (α := Int32 → JP) (fun (s0_49 : Int32) =>
    jgetI 23 this 0 fun v52 =>
    jjoin (α := Int32 → JP) (fun (s0_64 : Int32) =>
      jgetI 23 this 2 fun v65 =>
      jjoin (α := Int32 → JP) (fun (s1_78 : Int32) =>
        jgetI 23 this 3 fun v80 =>
        jjoin (α := Int32 → JP) (fun (s1_94 : Int32) =>
          jgetI 23 this 1 fun v96 =>
          jjoin (α := Int32 → JP) (fun (s1_118 : Int32) =>
            jif ((((s0_64 ||| s1_78) ||| s1_94) ||| s1_118) = (nI 0)) (
              Qj (nI 0)) (
              JJ13_bitCount (((s0_64 ||| s1_78) ||| s1_94) ||| s1_118) fun v130 =>
              jif (v130 ≤ (nI 1)) (
                JJ13_numberOfTrailingZeros (((s0_64 ||| s1_78) ||| s1_94) ||| s1_118) fun v141 =>
                jif (v141 = (nI 2)) (
                  jgetI 23 this 2 fun v153 =>
                  jjoin (α := JP) (
                    Qj (-1)) fun k177 =>
                  jif ((jabs (v153 - (jrem (jrem p4 (nI 36)) (nI 6)))) = (nI 1)) (
                    jaldI 0 p5 (nI 2) fun v169 =>
                    jif (v169 ≤ (nI 0)) (
                      k177) (
                      Qj (nI 2))) (
                    k177)) (
                  jif (v141 = (nI 3)) (
                    jgetI 23 this 3 fun v201 =>
                    jjoin (α := Int32 → JP) (fun (s0_226 : Int32) =>
                      jgetI 23 this 3 fun v230 =>
                      jjoin (α := Int32 → JP) (fun (s0_251 : Int32) =>
                        jjoin (α := JP) (
                          jif (s0_226 = (nI 0)) (
                            jif (s0_251 = (nI 0)) (
                              Qj (-1)) (
                              Qj (nI 4))) (
                            Qj (nI 3))) fun k282 =>
                        jif (s0_226 = (nI 0)) (
                          k282) (
                          jif (s0_251 = (nI 0)) (
                            k282) (
                            jaldI 0 p5 (nI 4) fun v266 =>
                            jaldI 0 p5 (nI 3) fun v270 =>
                            jif (v270 ≤ v266) (
                              Qj (nI 3)) (
                              Qj (nI 4))))) fun k251 =>
                      jjoin (α := JP) (
                        k251 (nI 0)) fun k250 =>
                      jif (((nI 5) - v230) = s0_49) (
                        jaldI 0 p5 (nI 4) fun v242 =>
                        jif (v242 ≤ (nI 0)) (
                          k250) (
                          k251 (nI 1))) (
                        k250)) fun k226 =>
                    jjoin (α := JP) (
                      k226 (nI 0)) fun k225 =>
                    jif ((jabs (v201 - s0_49)) = (nI 1)) (
                      jaldI 0 p5 (nI 3) fun v217 =>
                      jif (v217 ≤ (nI 0)) (
                        k225) (
                        k226 (nI 1))) (
                      k225)) (
                    jaldI 0 p5 v141 fun v189 =>
                    jif (v189 ≤ (nI 0)) (
                      Qj (-1)) (
                      Qj v141)))) (
                Qj (-1)))) fun k118 =>
          jjoin (α := JP) (
            k118 (nI 0)) fun k112 =>
          jif (v96 = (-1)) (
            k112) (
            jgetI 23 this 1 fun v104 =>
            jif (v104 = (jrem (p4 / (nI 36)) (nI 6))) (
              k112) (
              k118 (nI 32)))) fun k94 =>
        jif (v80 = s0_49) (
          k94 (nI 0)) (
          k94 (nI 8))) fun k78 =>
      jif (v65 = (jrem (jrem p4 (nI 36)) (nI 6))) (
        k78 (nI 0)) (
        k78 (nI 4))) fun k64 =>
    jif (v52 = p2) (
      k64 (nI 0)) (
      k64 (nI 2))) fun k49 =>
  jjoin (α := JP) (
    k49 ((jrem p4 (nI 36)) / (nI 6))) fun k47 =>
  jif (p1 = (nI 1)) (
    jif (p3 = (nI 1)) (
      k49 ((nI 5) - ((jrem p4 (nI 36)) / (nI 6)))) (
      k47)) (
    k47)
def JX10_cost (this : Nat) (p1 : Nat) (p2 : Int32) (p3 : Int32) (p4 : Int32) (p5 : Int32) (Qj : Int32 → JP) : JP :=
  jgetA 9 p1 0 fun v1 =>
  jaldA 10 v1 p2 fun v5 =>
  jgetI 9 p1 1 fun v7 =>
  jgetA 10 this 9 fun v16 =>
  jobj 23 v5 <|
  JX23_slip v5 v7 p3 p4 p5 v16 fun v19 =>
  jif (v19 = (-1)) (
    Qj (nI 1000000)) (
    jif (v19 = (nI 0)) (
      Qj (nI 0)) (
      jgetA 10 this 9 fun v45 =>
      jaldI 0 v45 v19 fun v50 =>
      Qj v50))
def JX9_isTwice (this : Nat) (p1 : Int32) (Qj : Int32 → JP) : JP :=
  jjoin (α := JP) (
    Qj (nI 0)) fun k28 =>
  jif (p1 ≤ (nI 0)) (
    k28) (
    jgetA 9 this 0 fun v5 =>
    jaldA 10 v5 p1 fun v9 =>
    jgetA 9 this 0 fun v11 =>
    jaldA 10 v11 (p1 - (nI 1)) fun v17 =>
    jobj 23 v9 <|
    JX23_isLike v9 v17 fun v18 =>
    jif (v18 = (nI 0)) (
      k28) (
      Qj (nI 1)))
def FX10_leads_7 (this : Nat) (p1 : Nat) (p2 : Nat) (p3 : Nat) (p4 : Int32) (p5 : Int32) (p6 : Int32) (Qj : Int32 → JP) (rec7 : Int32 → Int32 → JP) (x7_7 : Int32) (x8_7 : Int32) : JP :=
  jgetI 9 p1 2 fun v10 =>
  jif (v10 < x8_7) (
    Qj x7_7) (
    jgetA 10 this 9 fun v17 =>
    jaldI 0 v17 (nI 6) fun v22 =>
    jjoin (α := Int32 → JP) (fun (s0_43 : Int32) =>
      jjoin (α := Int32 → JP) (fun (x9_90 : Int32) =>
        jjoin (α := Int32 → JP) (fun (x9_137 : Int32) =>
          jastI p3 x8_7 (jmin x9_137 (nI 1000000)) <|
          jaldI 0 p3 x8_7 fun v153 =>
          rec7 (jmin x7_7 v153) (x8_7 + (nI 1))) fun k137 =>
        jif (x8_7 ≤ (nI 0)) (
          k137 x9_90) (
          jgetA 10 this 9 fun v96 =>
          jaldI 0 v96 (nI 7) fun v101 =>
          jif (v101 ≤ (nI 0)) (
            k137 x9_90) (
            jobj 9 p1 <|
            JX9_isTwice p1 (x8_7 - (nI 1)) fun v110 =>
            jif (v110 = (nI 0)) (
              k137 x9_90) (
              jaldI 0 p3 (x8_7 - (nI 1)) fun v123 =>
              jgetA 10 this 9 fun v125 =>
              jaldI 0 v125 (nI 7) fun v130 =>
              k137 (jmin x9_90 (v123 + v130)))))) fun k90 =>
      jif (x8_7 ≤ (nI 0)) (
        k90 s0_43) (
        jaldI 0 p2 (x8_7 - (nI 1)) fun v55 =>
        jif ((nI 1000000) ≤ v55) (
          k90 s0_43) (
          jaldI 0 p2 (x8_7 - (nI 1)) fun v68 =>
          jobj 10 this <|
          JX10_cost this p1 (x8_7 - (nI 1)) p4 p5 p6 fun v81 =>
          k90 (jmin s0_43 (v68 + v81))))) fun k43 =>
    jif (v22 ≤ (nI 0)) (
      k43 (nI 1000000)) (
      jaldI 0 p2 x8_7 fun v29 =>
      jgetA 10 this 9 fun v31 =>
      jaldI 0 v31 (nI 6) fun v36 =>
      k43 (v29 + v36)))
def JX10_leads (this : Nat) (p1 : Nat) (p2 : Nat) (p3 : Nat) (p4 : Int32) (p5 : Int32) (p6 : Int32) (Qj : Int32 → JP) : JP :=
  jex fun n7 => jit (FX10_leads_7 this p1 p2 p3 p4 p5 p6 Qj) (fun _ _ => jbot) n7 (nI 1000000) (nI 0)
def JX8_comes (this : Nat) (p1 : Int32) (p2 : Int32) (Qj : JP) : JP :=
  jgetA 8 this 0 fun v12 =>
  jgetA 8 this 0 fun v17 =>
  jaldI 0 v17 (jrem p1 (nI 36)) fun v22 =>
  jastI v12 (p1 / (nI 36)) v22 <|
  jgetA 8 this 1 fun v25 =>
  jgetA 8 this 1 fun v30 =>
  jaldI 0 v30 (jrem p1 (nI 36)) fun v35 =>
  jastI v25 (p1 / (nI 36)) v35 <|
  jgetA 8 this 0 fun v38 =>
  jastI v38 (jrem p1 (nI 36)) p2 <|
  jgetA 8 this 1 fun v46 =>
  jgetA 8 this 1 fun v53 =>
  jaldI 0 v53 (p1 / (nI 36)) fun v57 =>
  jastI v46 (jrem p1 (nI 36)) ((nI 1) - v57) <|
  Qj
def FX10_goes_162 (this : Nat) (p1 : Int32) (v138 : Int32) (v153 : Int32) (k243 : Int32 → JP) (rec162 : Int32 → Int32 → JP) (x8_162 : Int32) (x9_162 : Int32) : JP :=
  jgetA 10 this 0 fun v165 =>
  jgetI 7 v165 7 fun v168 =>
  jif (v168 ≤ x9_162) (
    k243 x8_162) (
    jobj 10 this <|
    JX10_isIn this x9_162 fun v177 =>
    jjoin (α := Int32 → JP) (fun (s0_235 : Int32) =>
      rec162 s0_235 (x9_162 + (nI 1))) fun k235 =>
    jif (v177 = (nI 0)) (
      k235 x8_162) (
      jgetA 10 this 0 fun v189 =>
      jgetA 7 v189 2 fun v192 =>
      jaldA 8 v192 x9_162 fun v197 =>
      jgetA 10 this 4 fun v199 =>
      jaldA 12 v199 x9_162 fun v204 =>
      jaldA 11 v204 p1 fun v206 =>
      jgetA 10 this 4 fun v208 =>
      jaldA 12 v208 x9_162 fun v213 =>
      jaldA 11 v213 (p1 + (nI 1)) fun v217 =>
      jobj 10 this <|
      JX10_leads this v197 v206 v217 v153 (jrem p1 (nI 2)) v138 fun v223 =>
      k235 (jmin (nI 1000000) (x8_162 + v223))))
def FX10_goes_121 (rJX10_goes : Nat → Int32 → JP → JP) (this : Nat) (p1 : Int32) (Qj : JP) (v104 : Nat) (v113 : Int32) (rec121 : Int32 → JP) (x5_121 : Int32) : JP :=
  jif (v113 ≤ x5_121) (
    Qj) (
    jgetI 10 this 26 fun v129 =>
    jif (v129 = (nI 0)) (
      jaldI 0 v104 x5_121 fun v138 =>
      jgetA 10 this 1 fun v142 =>
      jgetA 8 v142 0 fun v145 =>
      jaldI 0 v145 (v138 / (nI 36)) fun v153 =>
      jex fun n162 => jit (FX10_goes_162 this p1 v138 v153 (fun (y8_243 : Int32) =>
          jgetI 10 this 22 fun v246 =>
          jjoin (α := JP) (
            rec121 (x5_121 + (nI 1))) fun k292 =>
          jif (y8_243 ≤ v246) (
            jgetA 10 this 1 fun v256 =>
            jobj 8 v256 <|
            JX8_goes v256 v138 fun v261 =>
            jgetA 10 this 5 fun v267 =>
            jastI v267 p1 v138 <|
            jobj 10 this <|
            rJX10_goes this (p1 + (nI 1)) <|
            jgetA 10 this 1 fun v282 =>
            jobj 8 v282 <|
            JX8_comes v282 v138 v261 <|
            k292) (
            k292))) (fun _ _ => jbot) n162 (nI 0) (nI 0)) (
      Qj))
def JX10_goesF (rJX10_goes : Nat → Int32 → JP → JP) (this : Nat) (p1 : Int32) (Qj : JP) : JP :=
  jgetI 10 this 13 fun v2 =>
  jput 10 this 13 (.int (v2 + (nI 1))) <|
  jgetI 10 this 13 fun v12 =>
  jjoin (α := Int32 → JP) (fun (s1_26 : Int32) =>
    jputZ 10 this 26 s1_26 <|
    jgetI 10 this 26 fun v30 =>
    jif (v30 = (nI 0)) (
      jobj 10 this <|
      JX10_bars this p1 fun v38 =>
      jif (v38 = (nI 0)) (
        jgetI 10 this 20 fun v47 =>
        jput 10 this 20 (.int (jmax v47 p1)) <|
        jobj 10 this <|
        JX10_isReading this p1 fun v59 =>
        jjoin (α := JP) (
          jif (p1 = (nI 30)) (
            Qj) (
            jgetI 10 this 27 fun v77 =>
            jjoin (α := JP) (
              jgetA 10 this 3 fun v100 =>
              jaldA 11 v100 p1 fun v104 =>
              jgetA 10 this 1 fun v108 =>
              jobj 10 this <|
              JX10_gathers this v108 (jrem p1 (nI 2)) v104 fun v113 =>
              jex fun n121 => jit (FX10_goes_121 rJX10_goes this p1 Qj v104 v113) (fun _ => jbot) n121 (nI 0)) fun k95 =>
            jif (v77 = (nI 0)) (
              jgetA 10 this 0 fun v85 =>
              jgetI 7 v85 9 fun v88 =>
              jif (p1 = v88) (
                Qj) (
                k95)) (
              k95))) fun k70 =>
        jif (v59 = (nI 0)) (
          k70) (
          jobj 10 this <|
          JX10_found this p1 <|
          k70)) (
        Qj)) (
      Qj)) fun k26 =>
  jif (v12 ≤ (nI 8000)) (
    k26 (nI 0)) (
    k26 (nI 1))
def JX10_goesR : Nat → (Nat → Int32 → JP → JP)
  | 0 => (fun _ _ _ => jbot)
  | n + 1 => JX10_goesF (JX10_goesR n)
def JX10_goes (n : Nat) : Nat → Int32 → JP → JP := (JX10_goesR n)
def FX10_walks_34 (this : Nat) (x2_21 : Int32) (k66 : JP) (rec34 : Int32 → JP) (x3_34 : Int32) : JP :=
  jif ((nI 24) < x3_34) (
    k66) (
    jgetA 10 this 4 fun v41 =>
    jaldA 12 v41 x2_21 fun v45 =>
    jaldA 11 v45 (nI 0) fun v47 =>
    jjoin (α := Int32 → JP) (fun (s2_59 : Int32) =>
      jastI v47 x3_34 s2_59 <|
      rec34 (x3_34 + (nI 1))) fun k59 =>
    jif (x3_34 = (nI 0)) (
      k59 (nI 0)) (
      k59 (nI 1000000)))
def FX10_walks_21 (this : Nat) (k72 : JP) (rec21 : Int32 → JP) (x2_21 : Int32) : JP :=
  jgetA 10 this 0 fun v23 =>
  jgetI 7 v23 7 fun v26 =>
  jif (v26 ≤ x2_21) (
    k72) (
    jex fun n34 => jit (FX10_walks_34 this x2_21 (
        rec21 (x2_21 + (nI 1)))) (fun _ => jbot) n34 (nI 0))
def JX10_walks (this : Nat) (p1 : Int32) (Qj : JP) : JP :=
  jput 10 this 22 (.int p1) <|
  jgetA 10 this 1 fun v6 =>
  jgetA 10 this 0 fun v10 =>
  jgetA 7 v10 1 fun v13 =>
  jobj 8 v6 <|
  JX8_be v6 v13 <|
  jex fun n21 => jit (FX10_walks_21 this (
      jobj 10 this <|
      JX10_goes 40 this (nI 0) <|
      Qj)) (fun _ => jbot) n21 (nI 0)
def FX10_least_13 (this : Nat) (k49 : JP) (rec13 : Int32 → JP) (x2_13 : Int32) : JP :=
  jif ((nI 20) < x2_13) (
    k49) (
    jgetI 10 this 15 fun v20 =>
    jif (v20 = (nI 0)) (
      jgetI 10 this 26 fun v27 =>
      jif (v27 = (nI 0)) (
        jobj 10 this <|
        JX10_walks this x2_13 <|
        jput 10 this 14 (.int x2_13) <|
        rec13 (x2_13 + (nI 1))) (
        k49)) (
      k49))
def JX10_least (this : Nat) (p1 : Int32) (Qj : Int32 → JP) : JP :=
  jobj 10 this <|
  JX10_begins this p1 (nI 0) <|
  jput 10 this 15 (.int (nI 0)) <|
  jex fun n13 => jit (FX10_least_13 this (
      jgetI 10 this 26 fun v50 =>
      jif (v50 = (nI 0)) (
        jgetI 10 this 15 fun v62 =>
        jif (v62 = (nI 0)) (
          Qj (-1)) (
          jgetI 10 this 14 fun v73 =>
          Qj v73)) (
        Qj (-2)))) (fun _ => jbot) n13 (nI 0)
def FX1_lays_179 (this : Nat) (p1 : Int32) (Qj : JP) (v8 : Nat) (rec179 : Int32 → Int32 → JP) (x3_179 : Int32) (x4_179 : Int32) : JP :=
  jjoin (α := JP) (
    jjoin (α := Int32 → JP) (fun (s0_248 : Int32) =>
      jjoin (α := Int32 → Int32 → JP) (fun (x3_421 : Int32) (x4_421 : Int32) =>
        rec179 x3_421 x4_421) fun k421 =>
      jjoin (α := JP) (
        jjoin (α := JP) (
          jgetA 1 this 5 fun v411 =>
          jaldA 11 v411 p1 fun v415 =>
          jastI v415 (x4_179 + (-1)) (nI 7) <|
          k421 x3_179 (x4_179 + (-1))) fun k407 =>
        jif (x3_179 ≤ (nI 0)) (
          k407) (
          jgetA 1 this 1 fun v336 =>
          jgetA 7 v336 4 fun v339 =>
          jaldI 0 v339 (nI 6) fun v344 =>
          jif (v344 ≤ (nI 0)) (
            k407) (
            jgetA 1 this 7 fun v349 =>
            jaldA 11 v349 x3_179 fun v353 =>
            jaldI 0 v353 x4_179 fun v356 =>
            jgetA 1 this 7 fun v358 =>
            jaldA 11 v358 (x3_179 - (nI 1)) fun v364 =>
            jaldI 0 v364 x4_179 fun v367 =>
            jgetA 1 this 1 fun v369 =>
            jgetA 7 v369 4 fun v372 =>
            jaldI 0 v372 (nI 6) fun v377 =>
            jif (v356 = (v367 + v377)) (
              jgetA 1 this 6 fun v386 =>
              jaldA 11 v386 p1 fun v390 =>
              jastI v390 (x3_179 + (-1)) (-1) <|
              jgetA 1 this 9 fun v395 =>
              jaldI 0 v395 p1 fun v400 =>
              jastI v395 p1 (v400 + (nI 1)) <|
              k421 (x3_179 + (-1)) x4_179) (
              k407)))) fun k331 =>
      jif (s0_248 = (-1)) (
        k331) (
        jgetA 1 this 7 fun v257 =>
        jaldA 11 v257 x3_179 fun v261 =>
        jaldI 0 v261 x4_179 fun v264 =>
        jgetA 1 this 7 fun v266 =>
        jaldA 11 v266 (x3_179 - (nI 1)) fun v272 =>
        jaldI 0 v272 (x4_179 - (nI 1)) fun v277 =>
        jjoin (α := Int32 → JP) (fun (s2_297 : Int32) =>
          jif (v264 = (v277 + s2_297)) (
            jgetA 1 this 5 fun v308 =>
            jaldA 11 v308 p1 fun v312 =>
            jastI v312 (x4_179 + (-1)) s0_248 <|
            jgetA 1 this 6 fun v319 =>
            jaldA 11 v319 p1 fun v323 =>
            jastI v323 (x3_179 + (-1)) (x4_179 + (-1)) <|
            k421 (x3_179 + (-1)) (x4_179 + (-1))) (
            k331)) fun k297 =>
        jif (s0_248 = (nI 0)) (
          k297 (nI 0)) (
          jgetA 1 this 1 fun v288 =>
          jgetA 7 v288 4 fun v291 =>
          jaldI 0 v291 s0_248 fun v296 =>
          k297 v296))) fun k248 =>
    jjoin (α := JP) (
      k248 (-1)) fun k247 =>
    jif (x3_179 ≤ (nI 0)) (
      k247) (
      jif (x4_179 ≤ (nI 0)) (
        k247) (
        jgetA 9 v8 0 fun v198 =>
        jaldA 10 v198 (x4_179 - (nI 1)) fun v205 =>
        jgetI 9 v8 1 fun v207 =>
        jgetA 1 this 10 fun v211 =>
        jaldI 0 v211 (x3_179 - (nI 1)) fun v217 =>
        jgetA 1 this 3 fun v224 =>
        jgetA 10 v224 6 fun v227 =>
        jaldI 0 v227 (x3_179 - (nI 1)) fun v233 =>
        jgetA 1 this 1 fun v235 =>
        jgetA 7 v235 4 fun v238 =>
        jobj 23 v205 <|
        JX23_slip v205 v207 v217 (jrem (x3_179 - (nI 1)) (nI 2)) v233 v238 fun v241 =>
        k248 v241))) fun k188 =>
  jif ((nI 0) < x3_179) (
    k188) (
    jif (x4_179 ≤ (nI 0)) (
      Qj) (
      k188))
def FX1_lays_59 (this : Nat) (v8 : Nat) (k158 : JP) (rec59 : Int32 → JP) (x3_59 : Int32) : JP :=
  jgetA 1 this 3 fun v61 =>
  jgetI 10 v61 16 fun v64 =>
  jif (v64 ≤ x3_59) (
    k158) (
    jgetA 1 this 3 fun v71 =>
    jgetA 10 v71 6 fun v74 =>
    jaldI 0 v74 x3_59 fun v78 =>
    jgetA 1 this 3 fun v82 =>
    jgetA 1 this 7 fun v87 =>
    jaldA 11 v87 x3_59 fun v91 =>
    jgetA 1 this 7 fun v93 =>
    jaldA 11 v93 (x3_59 + (nI 1)) fun v99 =>
    jgetA 1 this 12 fun v101 =>
    jgetA 8 v101 0 fun v104 =>
    jaldI 0 v104 (v78 / (nI 36)) fun v112 =>
    jobj 10 v82 <|
    JX10_leads v82 v8 v91 v99 v112 (jrem x3_59 (nI 2)) v78 fun v118 =>
    jgetA 1 this 10 fun v124 =>
    jgetA 1 this 12 fun v129 =>
    jgetA 8 v129 0 fun v132 =>
    jaldI 0 v132 (v78 / (nI 36)) fun v140 =>
    jastI v124 x3_59 v140 <|
    jgetA 1 this 12 fun v143 =>
    jobj 8 v143 <|
    JX8_goes v143 v78 fun v148 =>
    rec59 (x3_59 + (nI 1)))
def FX1_lays_26 (this : Nat) (k57 : JP) (rec26 : Int32 → JP) (x3_26 : Int32) : JP :=
  jif ((nI 24) < x3_26) (
    k57) (
    jgetA 1 this 7 fun v33 =>
    jaldA 11 v33 (nI 0) fun v37 =>
    jjoin (α := Int32 → JP) (fun (s2_50 : Int32) =>
      jastI v37 x3_26 s2_50 <|
      rec26 (x3_26 + (nI 1))) fun k50 =>
    jif (x3_26 = (nI 0)) (
      k50 (nI 0)) (
      k50 (nI 1000000)))
def JX1_lays (this : Nat) (p1 : Int32) (Qj : JP) : JP :=
  jgetA 1 this 1 fun v1 =>
  jgetA 7 v1 2 fun v4 =>
  jaldA 8 v4 p1 fun v8 =>
  jgetA 1 this 12 fun v11 =>
  jgetA 1 this 1 fun v15 =>
  jgetA 7 v15 1 fun v18 =>
  jobj 8 v11 <|
  JX8_be v11 v18 <|
  jex fun n26 => jit (FX1_lays_26 this (
      jex fun n59 => jit (FX1_lays_59 this v8 (
          jgetA 1 this 9 fun v159 =>
          jastI v159 p1 (nI 0) <|
          jgetA 1 this 3 fun v166 =>
          jgetI 10 v166 16 fun v169 =>
          jgetI 9 v8 2 fun v174 =>
          jex fun n179 => jit (FX1_lays_179 this p1 Qj v8) (fun _ _ => jbot) n179 v169 v174)) (fun _ => jbot) n59 (nI 0))) (fun _ => jbot) n26 (nI 0)
def FX1_reads_37 (this : Nat) (k66 : JP) (rec37 : Int32 → JP) (x1_37 : Int32) : JP :=
  jgetA 1 this 1 fun v39 =>
  jgetI 7 v39 7 fun v42 =>
  jif (v42 ≤ x1_37) (
    k66) (
    jgetI 1 this 14 fun v49 =>
    jif (v49 < (nI 0)) (
      k66) (
      jobj 1 this <|
      JX1_lays this x1_37 <|
      rec37 (x1_37 + (nI 1))))
def JX1_reads (this : Nat) (Qj : Int32 → JP) : JP :=
  jgetI 1 this 16 fun v1 =>
  jif (v1 = (nI 0)) (
    jgetA 1 this 3 fun v13 =>
    jputZ 10 v13 29 (nI 0) <|
    jgetA 1 this 3 fun v22 =>
    jobj 1 this <|
    JX1_allBooks this fun v26 =>
    jobj 10 v22 <|
    JX10_least v22 v26 fun v29 =>
    jput 1 this 14 (.int v29) <|
    jex fun n37 => jit (FX1_reads_37 this (
        jputZ 1 this 16 (nI 1) <|
        jgetI 1 this 14 fun v72 =>
        Qj v72)) (fun _ => jbot) n37 (nI 0)) (
    jgetI 1 this 14 fun v8 =>
    Qj v8)
def JX1_least (this : Nat) (Qj : Int32 → JP) : JP :=
  jobj 1 this <|
  JX1_reads this fun v1 =>
  Qj v1
def FX11_asksAll_46 (this : Nat) (Qj : JP) (rec46 : Int32 → JP) (x1_46 : Int32) : JP :=
  jif ((nI 8) ≤ x1_46) (
    Qj) (
    jgetA 11 this 20 fun v53 =>
    jgetA 11 this 1 fun v58 =>
    jaldI 0 v58 ((nI 5) + x1_46) fun v64 =>
    jastI v53 x1_46 v64 <|
    rec46 (x1_46 + (nI 1)))
def FX11_asksAll_16 (this : Nat) (k44 : JP) (rec16 : Int32 → JP) (x1_16 : Int32) : JP :=
  jgetA 11 this 1 fun v18 =>
  jaldI 0 v18 (nI 1) fun v22 =>
  jif (v22 ≤ x1_16) (
    k44) (
    jgetA 11 this 19 fun v27 =>
    jobj 11 this <|
    JX11_ofBook this x1_16 (nI 0) fun v34 =>
    jastI v27 x1_16 v34 <|
    rec16 (x1_16 + (nI 1)))
def JX11_asksAll (this : Nat) (Qj : JP) : JP :=
  jgetA 11 this 1 fun v3 =>
  jaldI 0 v3 (nI 1) fun v7 =>
  jput 11 this 18 (.int ((jshl (nI 1) v7) - (nI 1))) <|
  jex fun n16 => jit (FX11_asksAll_16 this (
      jex fun n46 => jit (FX11_asksAll_46 this Qj) (fun _ => jbot) n46 (nI 0))) (fun _ => jbot) n16 (nI 0)
def JX11_isAsked (this : Nat) (p1 : Int32) (Qj : Int32 → JP) : JP :=
  jgetI 11 this 18 fun v1 =>
  jif (((jshr v1 p1) &&& (nI 1)) = (nI 1)) (
    Qj (nI 1)) (
    Qj (nI 0))
def JX11_sumAt (p0 : Int32) (p1 : Int32) (p2 : Int32) (Qj : Int32 → JP) : JP :=
  Qj (((nI 25) * (((nI 31) * p0) + p1)) + p2)
def JX11_fitAt (p0 : Int32) (p1 : Int32) (p2 : Int32) (Qj : Int32 → JP) : JP :=
  Qj (((((nI 3) * p0) + p1) * (nI 24)) + p2)
def JX11_ofMove (this : Nat) (p1 : Int32) (p2 : Int32) (p3 : Int32) (Qj : Int32 → JP) : JP :=
  jjoin (α := JP) (
    Qj (nI 1000)) fun k8 =>
  jif (p1 = (nI 0)) (
    k8) (
    jif (p2 = (nI 0)) (
      k8) (
      jgetA 11 this 24 fun v15 =>
      JX11_sumAt p3 (p1 - (nI 1)) (p2 - (nI 1)) fun v25 =>
      jaldI 0 v15 v25 fun v28 =>
      jgetA 11 this 22 fun v30 =>
      JX11_fitAt (p1 - (nI 1)) p3 (p2 - (nI 1)) fun v40 =>
      jaldI 0 v30 v40 fun v43 =>
      Qj (v28 + v43)))
def JX11_ofLost (this : Nat) (p1 : Int32) (p2 : Int32) (p3 : Int32) (Qj : Int32 → JP) : JP :=
  jjoin (α := JP) (
    Qj (nI 1000)) fun k14 =>
  jif (p1 = (nI 0)) (
    k14) (
    jgetA 11 this 20 fun v5 =>
    jaldI 0 v5 (nI 6) fun v10 =>
    jif (v10 = (nI 0)) (
      k14) (
      jgetA 11 this 24 fun v21 =>
      JX11_sumAt p3 (p1 - (nI 1)) p2 fun v29 =>
      jaldI 0 v21 v29 fun v32 =>
      jgetA 11 this 20 fun v34 =>
      jaldI 0 v34 (nI 6) fun v39 =>
      Qj (v32 + v39)))
def FX11_isTwice_23 (this : Nat) (p1 : Int32) (p2 : Int32) (Qj : Int32 → JP) (rec23 : Int32 → Int32 → JP) (x3_23 : Int32) (x4_23 : Int32) : JP :=
  jif ((nI 4) ≤ x4_23) (
    jand (x3_23 = nI 0 ∨ x3_23 = nI 1) (Qj x3_23)) (
    jif (x3_23 = (nI 0)) (
      jand (x3_23 = nI 0 ∨ x3_23 = nI 1) (Qj x3_23)) (
      jobj 11 this <|
      JX11_ofNote this p1 p2 x4_23 fun v38 =>
      jobj 11 this <|
      JX11_ofNote this p1 (p2 - (nI 1)) x4_23 fun v48 =>
      jjoin (α := Int32 → JP) (fun (s0_59 : Int32) =>
        rec23 s0_59 (x4_23 + (nI 1))) fun k59 =>
      jif (v38 = v48) (
        k59 (nI 1)) (
        k59 (nI 0))))
def JX11_isTwice (this : Nat) (p1 : Int32) (p2 : Int32) (Qj : Int32 → JP) : JP :=
  jjoin (α := Int32 → JP) (fun (s0_19 : Int32) =>
    jex fun n23 => jit (FX11_isTwice_23 this p1 p2 Qj) (fun _ _ => jbot) n23 s0_19 (nI 0)) fun k19 =>
  jjoin (α := JP) (
    k19 (nI 0)) fun k18 =>
  jif (p2 ≤ (nI 0)) (
    k18) (
    jgetA 11 this 20 fun v5 =>
    jaldI 0 v5 (nI 7) fun v10 =>
    jif (v10 ≤ (nI 0)) (
      k18) (
      k19 (nI 1)))
def JX11_ofTwice (this : Nat) (p1 : Int32) (p2 : Int32) (p3 : Int32) (Qj : Int32 → JP) : JP :=
  jjoin (α := JP) (
    Qj (nI 1000)) fun k15 =>
  jif (p2 = (nI 0)) (
    k15) (
    jobj 11 this <|
    JX11_isTwice this p3 (p2 - (nI 1)) fun v9 =>
    jif (v9 = (nI 0)) (
      k15) (
      jgetA 11 this 24 fun v22 =>
      JX11_sumAt p3 p1 (p2 - (nI 1)) fun v30 =>
      jaldI 0 v22 v30 fun v33 =>
      jgetA 11 this 20 fun v35 =>
      jaldI 0 v35 (nI 7) fun v40 =>
      Qj (v33 + v40)))
def FX11_sums_2 (this : Nat) (p1 : Int32) (p2 : Int32) (Qj : JP) (rec2 : Int32 → JP) (x3_2 : Int32) : JP :=
  jobj 11 this <|
  JX11_notes this p1 fun v5 =>
  jif (v5 < x3_2) (
    Qj) (
    jjoin (α := Int32 → JP) (fun (s0_48 : Int32) =>
      jgetA 11 this 24 fun v51 =>
      JX11_sumAt p1 p2 x3_2 fun v57 =>
      jastI v51 v57 (jmin (nI 1000) s0_48) <|
      rec2 (x3_2 + (nI 1))) fun k48 =>
    jif ((p2 + x3_2) = (nI 0)) (
      k48 (nI 0)) (
      jobj 11 this <|
      JX11_ofMove this p2 x3_2 p1 fun v25 =>
      jobj 11 this <|
      JX11_ofLost this p2 x3_2 p1 fun v32 =>
      jobj 11 this <|
      JX11_ofTwice this p2 x3_2 p1 fun v39 =>
      k48 (jmin v25 (jmin v32 v39))))
def JX11_sums (this : Nat) (p1 : Int32) (p2 : Int32) (Qj : JP) : JP :=
  jex fun n2 => jit (FX11_sums_2 this p1 p2 Qj) (fun _ => jbot) n2 (nI 0)
def FX11_prices_46 (this : Nat) (p1 : Int32) (x2_12 : Int32) (k79 : Int32 → JP) (rec46 : Int32 → Int32 → JP) (x3_46 : Int32) (x4_46 : Int32) : JP :=
  jobj 11 this <|
  JX11_notes this x2_12 fun v50 =>
  jif (v50 < x4_46) (
    k79 x3_46) (
    jgetA 11 this 24 fun v58 =>
    JX11_sumAt x2_12 p1 x4_46 fun v65 =>
    jaldI 0 v58 v65 fun v68 =>
    rec46 (jmin x3_46 v68) (x4_46 + (nI 1)))
def FX11_prices_12 (this : Nat) (p1 : Int32) (Qj : JP) (rec12 : Int32 → JP) (x2_12 : Int32) : JP :=
  jgetA 11 this 1 fun v14 =>
  jaldI 0 v14 (nI 1) fun v18 =>
  jif (v18 ≤ x2_12) (
    Qj) (
    jobj 11 this <|
    JX11_isAsked this x2_12 fun v24 =>
    jjoin (α := JP) (
      rec12 (x2_12 + (nI 1))) fun k113 =>
    jif (v24 = (nI 0)) (
      k113) (
      jobj 11 this <|
      JX11_sums this x2_12 p1 <|
      jex fun n46 => jit (FX11_prices_46 this p1 x2_12 (fun (y3_79 : Int32) =>
          jgetI 11 this 25 fun v81 =>
          jput 11 this 25 (.int (v81 + y3_79)) <|
          jgetI 11 this 26 fun v91 =>
          jgetA 11 this 24 fun v95 =>
          jobj 11 this <|
          JX11_notes this x2_12 fun v102 =>
          JX11_sumAt x2_12 p1 v102 fun v105 =>
          jaldI 0 v95 v105 fun v108 =>
          jput 11 this 26 (.int (v91 + v108)) <|
          k113)) (fun _ _ => jbot) n46 (nI 1000) (nI 0)))
def JX11_prices (this : Nat) (p1 : Int32) (Qj : JP) : JP :=
  jput 11 this 25 (.int (nI 0)) <|
  jput 11 this 26 (.int (nI 0)) <|
  jex fun n12 => jit (FX11_prices_12 this p1 Qj) (fun _ => jbot) n12 (nI 0)
def JX11_valueOf (this : Nat) (p1 : Int32) (Qj : Int32 → JP) : JP :=
  jgetA 11 this 1 fun v1 =>
  jaldI 0 v1 ((nI 49) + ((nI 14) * p1)) fun v11 =>
  Qj v11
def FX11_holdsLine_11 (this : Nat) (p1 : Int32) (k258 : Int32 → JP) (rec11 : Int32 → Int32 → JP) (x2_11 : Int32) (x3_11 : Int32) : JP :=
  jgetA 11 this 1 fun v13 =>
  jaldI 0 v13 (p1 + (nI 3)) fun v19 =>
  jif (v19 ≤ x3_11) (
    k258 x2_11) (
    jgetA 11 this 1 fun v24 =>
    jaldI 0 v24 ((nI 484) + ((nI 2) * x3_11)) fun v34 =>
    jjoin (α := Int32 → JP) (fun (x2_252 : Int32) =>
      rec11 x2_252 (x3_11 + (nI 1))) fun k252 =>
    jif ((nI 6) < v34) (
      jif (v34 = (nI 10)) (
        jgetA 11 this 15 fun v95 =>
        jgetA 11 this 15 fun v103 =>
        jaldI 0 v103 (x2_11 - (nI 1)) fun v109 =>
        jastI v95 (x2_11 - (nI 1)) ((nI 1) - v109) <|
        k252 x2_11) (
        jgetA 11 this 15 fun v119 =>
        jaldI 0 v119 ((x2_11 + (-1)) - (nI 1)) fun v125 =>
        jgetA 11 this 15 fun v129 =>
        jaldI 0 v129 (x2_11 + (-1)) fun v133 =>
        jjoin (α := Int32 → JP) (fun (s0_217 : Int32) =>
          jgetA 11 this 15 fun v220 =>
          jjoin (α := Int32 → JP) (fun (s2_251 : Int32) =>
            jastI v220 ((x2_11 + (-1)) - (nI 1)) s2_251 <|
            k252 (x2_11 + (-1))) fun k251 =>
          jif (v34 = (nI 7)) (
            k251 (v125 + v133)) (
            jif (s0_217 = (nI 0)) (
              k251 (nI 0)) (
              k251 (nI 1)))) fun k217 =>
        jif (v34 = (nI 8)) (
          jif (v133 ≤ v125) (
            k217 (nI 0)) (
            k217 (nI 1))) (
          jif (v34 = (nI 9)) (
            jif (v125 ≤ v133) (
              k217 (nI 0)) (
              k217 (nI 1))) (
            jif (v34 = (nI 11)) (
              jif ((v125 + v133) = (nI 2)) (
                k217 (nI 1)) (
                k217 (nI 0))) (
              jif ((v125 + v133) ≤ (nI 0)) (
                k217 (nI 0)) (
                k217 (nI 1))))))) (
      jgetA 11 this 15 fun v45 =>
      jjoin (α := Int32 → JP) (fun (s2_80 : Int32) =>
        jastI v45 x2_11 s2_80 <|
        k252 (x2_11 + (nI 1))) fun k80 =>
      jif (v34 = (nI 6)) (
        jgetA 11 this 1 fun v57 =>
        jaldI 0 v57 (((nI 484) + ((nI 2) * x3_11)) + (nI 1)) fun v69 =>
        k80 v69) (
        jgetA 11 this 14 fun v74 =>
        jaldI 0 v74 v34 fun v79 =>
        k80 v79)))
def JX11_holdsLine (this : Nat) (p1 : Int32) (Qj : Int32 → JP) : JP :=
  jgetA 11 this 1 fun v3 =>
  jaldI 0 v3 (p1 + (nI 2)) fun v9 =>
  jex fun n11 => jit (FX11_holdsLine_11 this p1 (fun (y2_258 : Int32) =>
      jjoin (α := JP) (
        Qj (nI 1)) fun k272 =>
      jif (y2_258 = (nI 0)) (
        k272) (
        jgetA 11 this 15 fun v263 =>
        jaldI 0 v263 (nI 0) fun v267 =>
        jif (v267 = (nI 1)) (
          k272) (
          Qj (nI 0))))) (fun _ _ => jbot) n11 (nI 0) v9
def FX11_measured_4 (this : Nat) (Qj : Int32 → JP) (rec4 : Int32 → Int32 → JP) (x1_4 : Int32) (x2_4 : Int32) : JP :=
  jgetA 11 this 1 fun v6 =>
  jaldI 0 v6 (nI 443) fun v12 =>
  jif (v12 ≤ x2_4) (
    Qj x1_4) (
    jobj 11 this <|
    JX11_holdsLine this ((nI 444) + ((nI 4) * x2_4)) fun v26 =>
    jjoin (α := Int32 → JP) (fun (x1_70 : Int32) =>
      rec4 x1_70 (x2_4 + (nI 1))) fun k70 =>
    jif (v26 = (nI 0)) (
      k70 x1_4) (
      jgetA 11 this 1 fun v34 =>
      jaldI 0 v34 ((nI 444) + ((nI 4) * x2_4)) fun v38 =>
      jgetA 11 this 1 fun v40 =>
      jaldI 0 v40 (((nI 444) + ((nI 4) * x2_4)) + (nI 1)) fun v46 =>
      jjoin (α := Int32 → JP) (fun (s2_67 : Int32) =>
        k70 (x1_4 + (v38 * s2_67))) fun k67 =>
      jif ((nI 0) ≤ v46) (
        jgetA 11 this 14 fun v55 =>
        jgetA 11 this 1 fun v59 =>
        jaldI 0 v59 (((nI 444) + ((nI 4) * x2_4)) + (nI 1)) fun v65 =>
        jaldI 0 v55 v65 fun v66 =>
        k67 v66) (
        k67 (nI 1))))
def JX11_measured (this : Nat) (Qj : Int32 → JP) : JP :=
  jex fun n4 => jit (FX11_measured_4 this Qj) (fun _ _ => jbot) n4 (nI 0) (nI 0)
def FX11_measures_121 (this : Nat) (p1 : Int32) (v19 : Int32) (v39 : Int32) (k204 : JP) (rec121 : Int32 → JP) (x6_121 : Int32) : JP :=
  jif ((nI 36) ≤ x6_121) (
    k204) (
    jgetA 11 this 14 fun v129 =>
    jaldI 0 v129 (nI 3) fun v134 =>
    jobj 11 this <|
    JX11_at this p1 x6_121 fun v139 =>
    jjoin (α := Int32 → JP) (fun (s3_168 : Int32) =>
      jastI v129 (nI 3) (v134 + s3_168) <|
      jgetA 11 this 17 fun v171 =>
      jaldI 1 v171 ((((nI 1296) * p1) + ((nI 36) * x6_121)) + (jrem v19 (nI 36))) fun v187 =>
      jjoin (α := JP) (
        rec121 (x6_121 + (nI 1))) fun k198 =>
      jif (v187 = (nI 0)) (
        k198) (
        jgetA 11 this 14 fun v192 =>
        jastI v192 (nI 5) (nI 0) <|
        k198)) fun k168 =>
    jjoin (α := JP) (
      k168 (nI 0)) fun k167 =>
    jif (v139 < (nI 0)) (
      k167) (
      jobj 11 this <|
      JX11_at this p1 x6_121 fun v149 =>
      JX11_sideOf v149 fun v152 =>
      JX11_sideOf v39 fun v157 =>
      jif (v152 = v157) (
        k168 (nI 1)) (
        k167)))
def JX11_measures (this : Nat) (p1 : Int32) (Qj : JP) : JP :=
  jif (p1 = (nI 0)) (
    jgetA 11 this 45 fun v5 =>
    jastI v5 (nI 0) (nI 0) <|
    Qj) (
    jgetA 11 this 21 fun v13 =>
    jaldI 0 v13 (p1 - (nI 1)) fun v19 =>
    jobj 11 this <|
    JX11_at this (p1 - (nI 1)) (jrem v19 (nI 36)) fun v31 =>
    jobj 11 this <|
    JX11_at this p1 (jrem v19 (nI 36)) fun v39 =>
    jgetA 11 this 14 fun v45 =>
    jjoin (α := Int32 → JP) (fun (s2_66 : Int32) =>
      jastI v45 (nI 0) s2_66 <|
      jgetA 11 this 14 fun v68 =>
      jobj 11 this <|
      JX11_valueOf this (v39 / (nI 2)) fun v77 =>
      jastI v68 (nI 1) v77 <|
      jgetA 11 this 14 fun v82 =>
      jastI v82 (nI 2) p1 <|
      jgetA 11 this 14 fun v89 =>
      jjoin (α := Int32 → JP) (fun (s2_103 : Int32) =>
        jastI v89 (nI 4) s2_103 <|
        jgetA 11 this 14 fun v105 =>
        jastI v105 (nI 5) (nI 1) <|
        jgetA 11 this 14 fun v112 =>
        jastI v112 (nI 3) (nI 0) <|
        jex fun n121 => jit (FX11_measures_121 this p1 v19 v39 (
            jgetA 11 this 45 fun v205 =>
            jgetA 11 this 45 fun v210 =>
            jaldI 0 v210 (p1 - (nI 1)) fun v216 =>
            jgetA 11 this 1 fun v218 =>
            jaldI 0 v218 (nI 4) fun v222 =>
            jjoin (α := Int32 → JP) (fun (s3_235 : Int32) =>
              jastI v205 p1 (v216 + s3_235) <|
              Qj) fun k235 =>
            jif (v222 = (nI 1)) (
              jobj 11 this <|
              JX11_measured this fun v228 =>
              k235 v228) (
              k235 (nI 0)))) (fun _ => jbot) n121 (nI 0)) fun k103 =>
      jif ((nI 0) ≤ v31) (
        k103 (nI 1)) (
        k103 (nI 0))) fun k66 =>
    jif ((nI 0) ≤ v31) (
      jobj 11 this <|
      JX11_valueOf this (v31 / (nI 2)) fun v63 =>
      k66 v63) (
      k66 (nI 0)))
def FX11_isBarred_4 (this : Nat) (p1 : Int32) (Qj : Int32 → JP) (rec4 : Int32 → Int32 → JP) (x2_4 : Int32) (x3_4 : Int32) : JP :=
  jgetA 11 this 1 fun v6 =>
  jaldI 0 v6 (nI 2) fun v10 =>
  jif (v10 ≤ x3_4) (
    jand (x2_4 = nI 0 ∨ x2_4 = nI 1) (Qj x2_4)) (
    jgetI 11 this 30 fun v15 =>
    jif (v15 = (nI 0)) (
      jjoin (α := Int32 → JP) (fun (s0_76 : Int32) =>
        rec4 s0_76 (x3_4 + (nI 1))) fun k76 =>
      jjoin (α := JP) (
        k76 (nI 1)) fun k71 =>
      jif (x2_4 = (nI 0)) (
        jgetA 11 this 1 fun v35 =>
        jaldI 0 v35 ((nI 413) + ((nI 3) * x3_4)) fun v40 =>
        jjoin (α := JP) (
          k76 (nI 0)) fun k75 =>
        jif (v40 = p1) (
          jgetA 11 this 1 fun v48 =>
          jaldI 0 v48 (((nI 413) + ((nI 3) * x3_4)) + (nI 1)) fun v55 =>
          jobj 11 this <|
          JX11_at this p1 v55 fun v56 =>
          jgetA 11 this 1 fun v60 =>
          jaldI 0 v60 (((nI 413) + ((nI 3) * x3_4)) + (nI 2)) fun v67 =>
          jif (v56 = v67) (
            k75) (
            k71)) (
          k75)) (
        k71)) (
      jand (x2_4 = nI 0 ∨ x2_4 = nI 1) (Qj x2_4)))
def JX11_isBarred (this : Nat) (p1 : Int32) (Qj : Int32 → JP) : JP :=
  jex fun n4 => jit (FX11_isBarred_4 this p1 Qj) (fun _ _ => jbot) n4 (nI 0) (nI 0)
def FX11_isLongEnough_34 (this : Nat) (p1 : Int32) (Qj : Int32 → JP) (rec34 : Int32 → Int32 → JP) (x2_34 : Int32) (x3_34 : Int32) : JP :=
  jgetA 11 this 1 fun v36 =>
  jaldI 0 v36 (nI 2) fun v40 =>
  jif (v40 ≤ x3_34) (
    jand (x2_34 = nI 0 ∨ x2_34 = nI 1) (Qj x2_34)) (
    jgetI 11 this 30 fun v45 =>
    jif (v45 = (nI 0)) (
      jjoin (α := Int32 → JP) (fun (s0_76 : Int32) =>
        rec34 s0_76 (x3_34 + (nI 1))) fun k76 =>
      jjoin (α := JP) (
        k76 (nI 0)) fun k75 =>
      jif (x2_34 = (nI 0)) (
        k75) (
        jgetA 11 this 1 fun v56 =>
        jaldI 0 v56 ((nI 413) + ((nI 3) * x3_34)) fun v66 =>
        jif (p1 < v66) (
          k75) (
          k76 (nI 1)))) (
      jand (x2_34 = nI 0 ∨ x2_34 = nI 1) (Qj x2_34)))
def JX11_isLongEnough (this : Nat) (p1 : Int32) (Qj : Int32 → JP) : JP :=
  jgetI 11 this 30 fun v1 =>
  jjoin (α := Int32 → JP) (fun (s0_31 : Int32) =>
    jex fun n34 => jit (FX11_isLongEnough_34 this p1 Qj) (fun _ _ => jbot) n34 s0_31 (nI 0)) fun k31 =>
  jjoin (α := JP) (
    k31 (nI 1)) fun k26 =>
  jif (v1 = (nI 0)) (
    jgetA 11 this 1 fun v8 =>
    jaldI 0 v8 (nI 3) fun v12 =>
    jif (v12 < (nI 0)) (
      k26) (
      jgetA 11 this 1 fun v17 =>
      jaldI 0 v17 (nI 3) fun v21 =>
      jif (v21 = p1) (
        k26) (
        k31 (nI 0)))) (
    k26)
def FX11_takes_2 (this : Nat) (p1 : Nat) (p2 : Int32) (Qj : Int32 → JP) (rec2 : Int32 → JP) (x3_2 : Int32) : JP :=
  jif (p2 ≤ x3_2) (
    Qj p2) (
    jgetA 11 this 21 fun v10 =>
    jaldI 0 v10 x3_2 fun v14 =>
    jastI p1 x3_2 v14 <|
    rec2 (x3_2 + (nI 1)))
def JX11_takes (this : Nat) (p1 : Nat) (p2 : Int32) (Qj : Int32 → JP) : JP :=
  jex fun n2 => jit (FX11_takes_2 this p1 p2 Qj) (fun _ => jbot) n2 (nI 0)
def JX11_meets (this : Nat) (p1 : Int32) (p2 : Int32) (Qj : JP) : JP :=
  jgetI 11 this 26 fun v1 =>
  jif (p2 < v1) (
    Qj) (
    jobj 11 this <|
    JX11_isBarred this p1 fun v10 =>
    jif (v10 = (nI 0)) (
      jobj 11 this <|
      JX11_isLongEnough this p1 fun v18 =>
      jif (v18 = (nI 0)) (
        Qj) (
        jgetA 11 this 33 fun v26 =>
        jgetI 11 this 26 fun v30 =>
        jaldL v26 v30 fun v34 =>
        jastL v26 v30 (v34 + (lN 1)) <|
        jgetI 11 this 35 fun v39 =>
        jjoin (α := JP) (
          jgetI 11 this 37 fun v77 =>
          jput 11 this 37 (.int (v77 + (nI 1))) <|
          jgetI 11 this 37 fun v86 =>
          jjoin (α := JP) (
            jgetI 11 this 37 fun v107 =>
            jjoin (α := JP) (
              jgetI 11 this 37 fun v128 =>
              jif ((nI 200) < v128) (
                Qj) (
                jgetI 11 this 37 fun v138 =>
                jjoin (α := JP) (
                  jgetA 11 this 40 fun v162 =>
                  jobj 11 this <|
                  JX11_takes this v162 p1 fun v166 =>
                  jput 11 this 43 (.int v166) <|
                  jgetA 11 this 45 fun v174 =>
                  jaldI 0 v174 p1 fun v178 =>
                  jput 11 this 44 (.int v178) <|
                  Qj) fun k159 =>
                jif (v138 ≤ (nI 1)) (
                  k159) (
                  jgetA 11 this 45 fun v146 =>
                  jaldI 0 v146 p1 fun v150 =>
                  jgetI 11 this 44 fun v152 =>
                  jif (v150 < v152) (
                    k159) (
                    Qj)))) fun k127 =>
            jif (v107 = (nI 2)) (
              jgetA 11 this 39 fun v117 =>
              jobj 11 this <|
              JX11_takes this v117 p1 fun v121 =>
              jput 11 this 42 (.int v121) <|
              k127) (
              k127)) fun k106 =>
          jif (v86 = (nI 1)) (
            jgetA 11 this 38 fun v96 =>
            jobj 11 this <|
            JX11_takes this v96 p1 fun v100 =>
            jput 11 this 41 (.int v100) <|
            k106) (
            k106)) fun k75 =>
        jif (p1 ≤ v39) (
          k75) (
          jgetA 11 this 21 fun v47 =>
          jgetI 11 this 35 fun v51 =>
          jaldI 0 v47 v51 fun v54 =>
          jgetI 11 this 36 fun v56 =>
          jif (v54 = v56) (
            jgetA 11 this 34 fun v63 =>
            jgetI 11 this 26 fun v67 =>
            jaldL v63 v67 fun v71 =>
            jastL v63 v67 (v71 + (lN 1)) <|
            k75) (
            k75)))) (
      Qj))
def JX11_goesOn (this : Nat) (p1 : Int32) (Qj : Int32 → JP) : JP :=
  jjoin (α := JP) (
    Qj (nI 0)) fun k35 =>
  jif ((nI 30) ≤ p1) (
    k35) (
    jgetI 11 this 30 fun v7 =>
    jjoin (α := JP) (
      jobj 11 this <|
      JX11_isBarred this p1 fun v25 =>
      jif (v25 = (nI 0)) (
        Qj (nI 1)) (
        k35)) fun k23 =>
    jif (v7 = (nI 0)) (
      jgetA 11 this 1 fun v14 =>
      jaldI 0 v14 (nI 3) fun v18 =>
      jif (v18 = p1) (
        k35) (
        k23)) (
      k23))
def JX11_lays (this : Nat) (p1 : Int32) (p2 : Int32) (Qj : JP) : JP :=
  jgetI 11 this 27 fun v2 =>
  jput 11 this 27 (.int (v2 + (nI 1))) <|
  jgetI 11 this 29 fun v12 =>
  jjoin (α := Int32 → JP) (fun (s1_33 : Int32) =>
    jputZ 11 this 29 s1_33 <|
    jgetI 11 this 28 fun v38 =>
    jput 11 this 28 (.int (jmax v38 p1)) <|
    jobj 11 this <|
    JX11_finds this p1 (jrem p1 (nI 2)) <|
    jobj 11 this <|
    JX11_measures this p1 <|
    jobj 11 this <|
    JX11_meets this p1 p2 <|
    jgetA 11 this 31 fun v68 =>
    jobj 11 this <|
    JX11_goesOn this p1 fun v74 =>
    jif (v74 = (nI 0)) (
      jastI v68 p1 (nI 1296) <|
      Qj) (
      jastI v68 p1 (nI 0) <|
      Qj)) fun k33 =>
  jjoin (α := JP) (
    k33 (nI 1)) fun k28 =>
  jif (v12 = (nI 0)) (
    jgetI 11 this 27 fun v19 =>
    jif (v19 ≤ (nI 8000)) (
      k33 (nI 0)) (
      k28)) (
    k28)
def JX11_fits (p0 : Int32) (p1 : Int32) (p2 : Int32) (p3 : Int32) (p4 : Int32) (p5 : Int32) (p6 : Int32) (Qj : Int32 → JP) : JP :=
  jjoin (α := Int32 → JP) (fun (s0_11 : Int32) =>
    jjoin (α := Int32 → JP) (fun (s0_25 : Int32) =>
      jif (p0 = (nI 0)) (
        jjoin (α := JP) (
          Qj (nI 0)) fun k86 =>
        jif (p1 = (nI 0)) (
          k86) (
          jif (p2 = (nI 0)) (
            k86) (
            jif (s0_11 = (nI 0)) (
              k86) (
              jif (s0_25 = (nI 0)) (
                k86) (
                Qj (nI 1)))))) <|
      jif (p0 = (nI 1)) (
        jjoin (α := JP) (
          Qj (nI 0)) fun k110 =>
        jif (p1 = (nI 0)) (
          jif (p2 = (nI 0)) (
            k110) (
            jif (s0_11 = (nI 0)) (
              k110) (
              jif (s0_25 = (nI 0)) (
                k110) (
                Qj (nI 1))))) (
          k110)) <|
      jif (p0 = (nI 2)) (
        jjoin (α := JP) (
          Qj (nI 0)) fun k140 =>
        jif (p1 = (nI 0)) (
          k140) (
          jif (p2 = (nI 0)) (
            k140) (
            jif ((jabs (p3 - p5)) = (nI 1)) (
              jif (s0_25 = (nI 0)) (
                k140) (
                Qj (nI 1))) (
              k140)))) <|
      jif (p0 = (nI 3)) (
        jjoin (α := JP) (
          Qj (nI 0)) fun k171 =>
        jif (p1 = (nI 0)) (
          k171) (
          jif (p2 = (nI 0)) (
            k171) (
            jif (s0_11 = (nI 0)) (
              k171) (
              jif ((jabs (p4 - p6)) = (nI 1)) (
                Qj (nI 1)) (
                k171))))) <|
      jif (p0 = (nI 4)) (
        jjoin (α := JP) (
          Qj (nI 0)) fun k204 =>
        jif (p1 = (nI 0)) (
          k204) (
          jif (p2 = (nI 0)) (
            k204) (
            jif (s0_11 = (nI 0)) (
              k204) (
              jif (s0_25 = (nI 0)) (
                jif (((nI 5) - p4) = p6) (
                  Qj (nI 1)) (
                  k204)) (
                k204))))) <|
      jjoin (α := JP) (
        Qj (nI 0)) fun k228 =>
      jif (p1 = (nI 0)) (
        k228) (
        jif (p2 = (nI 0)) (
          jif (s0_11 = (nI 0)) (
            k228) (
            jif (s0_25 = (nI 0)) (
              k228) (
              Qj (nI 1)))) (
          k228))) fun k25 =>
    jif (p4 = p6) (
      k25 (nI 1)) (
      k25 (nI 0))) fun k11 =>
  jif (p3 = p5) (
    k11 (nI 1)) (
    k11 (nI 0))
def FX11_tries_130 (this : Nat) (p2 : Int32) (p3 : Int32) (v5 : Int32) (s0_61 : Int32) (s0_82 : Int32) (s0_117 : Int32) (k237 : Int32 → Int32 → JP) (rec130 : Int32 → Int32 → Int32 → JP) (x10_130 : Int32) (x11_130 : Int32) (x12_130 : Int32) : JP :=
  jif ((nI 6) ≤ x12_130) (
    k237 x10_130 x11_130) (
    jjoin (α := Int32 → Int32 → JP) (fun (x10_231 : Int32) (x11_231 : Int32) =>
      rec130 x10_231 x11_231 (x12_130 + (nI 1))) fun k231 =>
    jjoin (α := JP) (
      jobj 11 this <|
      JX11_ofNote this p2 p3 (nI 2) fun v162 =>
      jobj 11 this <|
      JX11_ofNote this p2 p3 (nI 3) fun v169 =>
      JX11_fits x12_130 s0_82 s0_117 v162 v169 (jrem (jrem v5 (nI 36)) (nI 6)) s0_61 fun v179 =>
      jif (v179 = (nI 0)) (
        k231 x10_130 x11_130) (
        jjoin (α := Int32 → JP) (fun (s0_204 : Int32) =>
          jjoin (α := Int32 → JP) (fun (s0_220 : Int32) =>
            k231 (jmin x10_130 s0_204) s0_220) fun k220 =>
          jif (x10_130 ≤ s0_204) (
            k220 x11_130) (
            k220 x12_130)) fun k204 =>
        jif (x12_130 = (nI 0)) (
          k204 (nI 0)) (
          jgetA 11 this 20 fun v198 =>
          jaldI 0 v198 x12_130 fun v203 =>
          k204 v203))) fun k152 =>
    jif (x12_130 ≤ (nI 0)) (
      k152) (
      jgetA 11 this 20 fun v143 =>
      jaldI 0 v143 x12_130 fun v148 =>
      jif (v148 = (nI 0)) (
        k231 x10_130 x11_130) (
        k152)))
def JX11_tries (this : Nat) (p1 : Int32) (p2 : Int32) (p3 : Int32) (Qj : JP) : JP :=
  jgetA 11 this 21 fun v1 =>
  jaldI 0 v1 p1 fun v5 =>
  jobj 11 this <|
  JX11_at this p1 (v5 / (nI 36)) fun v15 =>
  jgetA 11 this 19 fun v28 =>
  jaldI 0 v28 p2 fun v32 =>
  jjoin (α := Int32 → JP) (fun (s0_61 : Int32) =>
    jobj 11 this <|
    JX11_ofNote this p2 p3 (nI 0) fun v67 =>
    jjoin (α := Int32 → JP) (fun (s0_82 : Int32) =>
      jobj 11 this <|
      JX11_ofNote this p2 p3 (nI 1) fun v88 =>
      jjoin (α := Int32 → JP) (fun (s0_117 : Int32) =>
        jex fun n130 => jit (FX11_tries_130 this p2 p3 v5 s0_61 s0_82 s0_117 (fun (y10_237 : Int32) (y11_237 : Int32) =>
            jgetA 11 this 22 fun v238 =>
            JX11_fitAt p1 p2 p3 fun v244 =>
            jastI v238 v244 y10_237 <|
            jgetA 11 this 23 fun v251 =>
            JX11_fitAt p1 p2 p3 fun v257 =>
            jastI v251 v257 y11_237 <|
            Qj)) (fun _ _ _ => jbot) n130 (nI 1000) (nI 0) (nI 0)) fun k117 =>
      jjoin (α := JP) (
        k117 (nI 1)) fun k112 =>
      jif (v88 < (nI 0)) (
        k112) (
        jobj 11 this <|
        JX11_ofNote this p2 p3 (nI 1) fun v98 =>
        jif (v98 = (jrem (v5 / (nI 36)) (nI 6))) (
          k112) (
          k117 (nI 0)))) fun k82 =>
    jif (v67 = (v15 / (nI 2))) (
      k82 (nI 1)) (
      k82 (nI 0))) fun k61 =>
  jjoin (α := JP) (
    k61 ((jrem v5 (nI 36)) / (nI 6))) fun k56 =>
  jif (v32 = (nI 1)) (
    JX11_sideOf v15 fun v39 =>
    jif (v39 = (nI 1)) (
      k61 ((nI 5) - ((jrem v5 (nI 36)) / (nI 6)))) (
      k56)) (
    k56)
def FX11_laysAll_156 (this : Nat) (x2_58 : Int32) (x4_142 : Int32) (k191 : JP) (rec156 : Int32 → JP) (x5_156 : Int32) : JP :=
  jobj 11 this <|
  JX11_notes this x4_142 fun v161 =>
  jif (v161 ≤ x5_156) (
    k191) (
    jobj 11 this <|
    JX11_isAsked this x4_142 fun v170 =>
    jif (v170 = (nI 0)) (
      k191) (
      jobj 11 this <|
      JX11_tries this x2_58 x4_142 x5_156 <|
      rec156 (x5_156 + (nI 1))))
def FX11_laysAll_142 (this : Nat) (x2_58 : Int32) (k197 : JP) (rec142 : Int32 → JP) (x4_142 : Int32) : JP :=
  jgetA 11 this 1 fun v145 =>
  jaldI 0 v145 (nI 1) fun v149 =>
  jif (v149 ≤ x4_142) (
    k197) (
    jex fun n156 => jit (FX11_laysAll_156 this x2_58 x4_142 (
        rec142 (x4_142 + (nI 1)))) (fun _ => jbot) n156 (nI 0))
def FX11_laysAll_76 (this : Nat) (x2_58 : Int32) (k104 : Int32 → JP) (rec76 : Int32 → JP) (x3_76 : Int32) : JP :=
  jif ((nI 1296) ≤ x3_76) (
    k104 x3_76) (
    jgetA 11 this 17 fun v84 =>
    jaldI 1 v84 (((nI 1296) * x2_58) + x3_76) fun v94 =>
    jif (v94 = (nI 0)) (
      rec76 (x3_76 + (nI 1))) (
      k104 x3_76))
def FX11_laysAll_58 (this : Nat) (p1 : Int32) (Qj : JP) (rec58 : Int32 → JP) (x2_58 : Int32) : JP :=
  jif (x2_58 < (nI 0)) (
    Qj) (
    jgetI 11 this 29 fun v63 =>
    jif (v63 = (nI 0)) (
      jgetA 11 this 31 fun v70 =>
      jaldI 0 v70 x2_58 fun v74 =>
      jex fun n76 => jit (FX11_laysAll_76 this x2_58 (fun (y3_104 : Int32) =>
          jif (y3_104 = (nI 1296)) (
            rec58 (x2_58 + (-1))) (
            jgetA 11 this 31 fun v118 =>
            jastI v118 x2_58 (y3_104 + (nI 1)) <|
            jgetA 11 this 21 fun v127 =>
            jastI v127 x2_58 y3_104 <|
            jobj 11 this <|
            JX11_makes this x2_58 y3_104 <|
            jex fun n142 => jit (FX11_laysAll_142 this x2_58 (
                jobj 11 this <|
                JX11_prices this (x2_58 + (nI 1)) <|
                jgetI 11 this 25 fun v205 =>
                jif (v205 ≤ p1) (
                  jobj 11 this <|
                  JX11_lays this (x2_58 + (nI 1)) p1 <|
                  rec58 (x2_58 + (nI 1))) (
                  rec58 x2_58))) (fun _ => jbot) n142 (nI 0)))) (fun _ => jbot) n76 v74) (
      Qj))
def FX11_laysAll_2 (this : Nat) (k31 : JP) (rec2 : Int32 → JP) (x2_2 : Int32) : JP :=
  jgetA 11 this 33 fun v4 =>
  jalen v4 fun v7 =>
  jif (v7 ≤ x2_2) (
    k31) (
    jgetA 11 this 33 fun v12 =>
    jastL v12 x2_2 (lN 0) <|
    jgetA 11 this 34 fun v19 =>
    jastL v19 x2_2 (lN 0) <|
    rec2 (x2_2 + (nI 1)))
def JX11_laysAll (this : Nat) (p1 : Int32) (Qj : JP) : JP :=
  jex fun n2 => jit (FX11_laysAll_2 this (
      jput 11 this 37 (.int (nI 0)) <|
      jput 11 this 28 (.int (nI 0)) <|
      jobj 11 this <|
      JX11_begins this <|
      jobj 11 this <|
      JX11_prices this (nI 0) <|
      jobj 11 this <|
      JX11_lays this (nI 0) p1 <|
      jex fun n58 => jit (FX11_laysAll_58 this p1 Qj) (fun _ => jbot) n58 (nI 0))) (fun _ => jbot) n2 (nI 0)
def FX11_asks_23 (this : Nat) (Qj : Int32 → JP) (rec23 : Int32 → JP) (x1_23 : Int32) : JP :=
  jif ((nI 20) < x1_23) (
    Qj (-1)) (
    jobj 11 this <|
    JX11_laysAll this x1_23 <|
    jgetI 11 this 29 fun v35 =>
    jif (v35 = (nI 0)) (
      jgetI 11 this 37 fun v45 =>
      jif (v45 ≤ (nI 0)) (
        rec23 (x1_23 + (nI 1))) (
        Qj x1_23)) (
      Qj (-2)))
def JX11_asks (this : Nat) (Qj : Int32 → JP) : JP :=
  jput 11 this 27 (.int (nI 0)) <|
  jputZ 11 this 29 (nI 0) <|
  jputZ 11 this 30 (nI 0) <|
  jput 11 this 35 (.int (nI 30)) <|
  jex fun n23 => jit (FX11_asks_23 this Qj) (fun _ => jbot) n23 (nI 0)
def JX11_asksWhole (this : Nat) (Qj : Int32 → JP) : JP :=
  jobj 11 this <|
  JX11_asksAll this <|
  jobj 11 this <|
  JX11_asks this fun v5 =>
  Qj v5
def JX11_least (this : Nat) (Qj : Int32 → JP) : JP :=
  jput 11 this 0 (.int (nI 0)) <|
  jobj 11 this <|
  JX11_asksWhole this fun v6 =>
  Qj v6
def JX1_many (this : Nat) (Qj : Int32 → JP) : JP :=
  jobj 1 this <|
  JX1_reads this fun v1 =>
  jif ((nI 0) ≤ v1) (
    jgetA 1 this 3 fun v15 =>
    jgetI 10 v15 15 fun v18 =>
    Qj v18) (
    jgetI 1 this 14 fun v8 =>
    Qj v8)
def JX11_many (this : Nat) (Qj : Int32 → JP) : JP :=
  jput 11 this 0 (.int (nI 0)) <|
  jobj 11 this <|
  JX11_asksWhole this fun v6 =>
  jif ((nI 0) ≤ v6) (
    jgetI 11 this 37 fun v19 =>
    Qj v19) (
    Qj v6)
def JX1_read (bc : Nat) (bs : Nat) (this : Nat) (p1 : Int32) (Ex : Nat → Nat → JP) (Qj : Int32 → JP) : JP :=
  jjoin (α := Int32 → JP) (fun (s0_10 : Int32) =>
    jbud bc bs fun mc10 ms10 =>
    JX1_must mc10 ms10 s0_10 Ex <|
    jobj 1 this <|
    JX1_reads this fun v14 =>
    jif ((nI 0) ≤ v14) (
      jif (p1 = (-1)) (
        jgetA 1 this 3 fun v31 =>
        jgetI 10 v31 16 fun v34 =>
        Qj v34) (
        jgetA 1 this 3 fun v42 =>
        jgetI 10 v42 16 fun v45 =>
        jif (v45 ≤ p1) (
          Qj (-3)) (
          jgetA 1 this 3 fun v52 =>
          jgetA 10 v52 6 fun v55 =>
          jaldI 0 v55 p1 fun v59 =>
          Qj v59))) (
      jgetI 1 this 14 fun v21 =>
      Qj v21)) fun k10 =>
  jif (p1 < (-1)) (
    k10 (nI 0)) (
    k10 (nI 1))
def JX0_read (bc : Nat) (bs : Nat) (p0 : Nat) (p1 : Int32) (p2 : Nat) (Qj : Int32 → JP) : JP :=
  jbud bc bs fun mc4 ms4 =>
  jobj 1 p0 <|
  JX1_read mc4 ms4 p0 p1 (fun (xx4 xq4 : Nat) =>
    jif (xx4 = 0) (
      Qj (nI 1)) <|
    jbot) fun v4 =>
  jastL p2 (nI 0) (Int32.toInt64 v4) <|
  Qj (nI 0)
def JX11_read (this : Nat) (p1 : Int32) (Qj : Int32 → JP) : JP :=
  jput 11 this 0 (.int (nI 0)) <|
  jjoin (α := Int32 → JP) (fun (s1_16 : Int32) =>
    jobj 11 this <|
    JX11_throwsIf this s1_16 (nI 1) fun v17 =>
    jif (v17 = (nI 0)) (
      jobj 11 this <|
      JX11_asksWhole this fun v26 =>
      jif ((nI 0) ≤ v26) (
        jif ((nI 0) ≤ p1) (
          jgetI 11 this 41 fun v51 =>
          jif (v51 ≤ p1) (
            Qj (-3)) (
            jgetA 11 this 38 fun v58 =>
            jaldI 0 v58 p1 fun v62 =>
            Qj v62)) (
          jgetI 11 this 41 fun v43 =>
          Qj v43)) (
        Qj v26)) (
      Qj (nI 0))) fun k16 =>
  jif ((-1) ≤ p1) (
    k16 (nI 0)) (
    k16 (nI 1))
def JX1_readNext (bc : Nat) (bs : Nat) (this : Nat) (p1 : Int32) (Ex : Nat → Nat → JP) (Qj : Int32 → JP) : JP :=
  jjoin (α := Int32 → JP) (fun (s0_10 : Int32) =>
    jbud bc bs fun mc10 ms10 =>
    JX1_must mc10 ms10 s0_10 Ex <|
    jobj 1 this <|
    JX1_reads this fun v14 =>
    jif ((nI 0) ≤ v14) (
      jgetA 1 this 3 fun v26 =>
      jgetI 10 v26 15 fun v29 =>
      jif ((nI 2) ≤ v29) (
        jif (p1 = (-1)) (
          jgetA 1 this 3 fun v45 =>
          jgetI 10 v45 17 fun v48 =>
          Qj v48) (
          jgetA 1 this 3 fun v56 =>
          jgetI 10 v56 17 fun v59 =>
          jif (v59 ≤ p1) (
            Qj (-3)) (
            jgetA 1 this 3 fun v66 =>
            jgetA 10 v66 7 fun v69 =>
            jaldI 0 v69 p1 fun v73 =>
            Qj v73))) (
        Qj (-3))) (
      jgetI 1 this 14 fun v21 =>
      Qj v21)) fun k10 =>
  jif (p1 < (-1)) (
    k10 (nI 0)) (
    k10 (nI 1))
def JX0_readNext (bc : Nat) (bs : Nat) (p0 : Nat) (p1 : Int32) (p2 : Nat) (Qj : Int32 → JP) : JP :=
  jbud bc bs fun mc4 ms4 =>
  jobj 1 p0 <|
  JX1_readNext mc4 ms4 p0 p1 (fun (xx4 xq4 : Nat) =>
    jif (xx4 = 0) (
      Qj (nI 1)) <|
    jbot) fun v4 =>
  jastL p2 (nI 0) (Int32.toInt64 v4) <|
  Qj (nI 0)
def JX11_readNext (this : Nat) (p1 : Int32) (Qj : Int32 → JP) : JP :=
  jput 11 this 0 (.int (nI 0)) <|
  jjoin (α := Int32 → JP) (fun (s1_16 : Int32) =>
    jobj 11 this <|
    JX11_throwsIf this s1_16 (nI 1) fun v17 =>
    jif (v17 = (nI 0)) (
      jobj 11 this <|
      JX11_asksWhole this fun v26 =>
      jif ((nI 0) ≤ v26) (
        jgetI 11 this 37 fun v39 =>
        jif ((nI 2) ≤ v39) (
          jif ((nI 0) ≤ p1) (
            jgetI 11 this 42 fun v64 =>
            jif (v64 ≤ p1) (
              Qj (-3)) (
              jgetA 11 this 39 fun v71 =>
              jaldI 0 v71 p1 fun v75 =>
              Qj v75)) (
            jgetI 11 this 42 fun v56 =>
            Qj v56)) (
          Qj (-3))) (
        Qj v26)) (
      Qj (nI 0))) fun k16 =>
  jif ((-1) ≤ p1) (
    k16 (nI 0)) (
    k16 (nI 1))
def JX1_slip (bc : Nat) (bs : Nat) (this : Nat) (p1 : Int32) (p2 : Int32) (Ex : Nat → Nat → JP) (Qj : Int32 → JP) : JP :=
  jbud bc bs fun mc3 ms3 =>
  jobj 1 this <|
  JX1_isNote mc3 ms3 this p1 p2 Ex <|
  jobj 1 this <|
  JX1_reads this fun v7 =>
  jif ((nI 0) ≤ v7) (
    jgetA 1 this 5 fun v21 =>
    jaldA 11 v21 p1 fun v25 =>
    jaldI 0 v25 p2 fun v27 =>
    Qj v27) (
    jgetI 1 this 14 fun v14 =>
    Qj v14)
def JX0_slip (bc : Nat) (bs : Nat) (p0 : Nat) (p1 : Int32) (p2 : Int32) (p3 : Nat) (Qj : Int32 → JP) : JP :=
  jbud bc bs fun mc5 ms5 =>
  jobj 1 p0 <|
  JX1_slip mc5 ms5 p0 p1 p2 (fun (xx5 xq5 : Nat) =>
    jif (xx5 = 2) (
      Qj (nI 1)) <|
    jbot) fun v5 =>
  jastL p3 (nI 0) (Int32.toInt64 v5) <|
  Qj (nI 0)
def FX11_follows_92 (this : Nat) (p1 : Int32) (Qj : JP) (rec92 : Int32 → Int32 → JP) (x2_92 : Int32) (x3_92 : Int32) : JP :=
  jif ((x2_92 + x3_92) ≤ (nI 0)) (
    Qj) (
    jgetA 11 this 24 fun v99 =>
    JX11_sumAt p1 x2_92 x3_92 fun v105 =>
    jaldI 0 v99 v105 fun v108 =>
    jobj 11 this <|
    JX11_ofMove this x2_92 x3_92 p1 fun v117 =>
    jjoin (α := Int32 → Int32 → JP) (fun (x2_192 : Int32) (x3_192 : Int32) =>
      rec92 x2_192 x3_192) fun k192 =>
    jif (v108 = v117) (
      jgetA 11 this 46 fun v130 =>
      jgetA 11 this 23 fun v135 =>
      JX11_fitAt (x2_92 + (-1)) p1 (x3_92 + (-1)) fun v141 =>
      jaldI 0 v135 v141 fun v144 =>
      jastI v130 (x3_92 + (-1)) v144 <|
      jgetA 11 this 47 fun v147 =>
      jastI v147 (x2_92 + (-1)) (x3_92 + (-1)) <|
      k192 (x2_92 + (-1)) (x3_92 + (-1))) (
      jobj 11 this <|
      JX11_ofLost this x2_92 x3_92 p1 fun v162 =>
      jif (v108 = v162) (
        jgetA 11 this 47 fun v172 =>
        jastI v172 (x2_92 + (-1)) (-1) <|
        k192 (x2_92 + (-1)) x3_92) (
        jgetA 11 this 46 fun v185 =>
        jastI v185 (x3_92 + (-1)) (nI 7) <|
        k192 x2_92 (x3_92 + (-1)))))
def FX11_follows_45 (this : Nat) (p1 : Int32) (x2_12 : Int32) (k67 : JP) (rec45 : Int32 → JP) (x3_45 : Int32) : JP :=
  jobj 11 this <|
  JX11_notes this p1 fun v48 =>
  jif (v48 ≤ x3_45) (
    k67) (
    jobj 11 this <|
    JX11_tries this x2_12 p1 x3_45 <|
    rec45 (x3_45 + (nI 1)))
def FX11_follows_12 (this : Nat) (p1 : Int32) (k81 : JP) (rec12 : Int32 → JP) (x2_12 : Int32) : JP :=
  jgetI 11 this 41 fun v14 =>
  jif (v14 ≤ x2_12) (
    k81) (
    jgetA 11 this 21 fun v21 =>
    jgetA 11 this 38 fun v26 =>
    jaldI 0 v26 x2_12 fun v30 =>
    jastI v21 x2_12 v30 <|
    jgetA 11 this 38 fun v35 =>
    jaldI 0 v35 x2_12 fun v39 =>
    jobj 11 this <|
    JX11_makes this x2_12 v39 <|
    jex fun n45 => jit (FX11_follows_45 this p1 x2_12 (
        jobj 11 this <|
        JX11_sums this p1 (x2_12 + (nI 1)) <|
        rec12 (x2_12 + (nI 1)))) (fun _ => jbot) n45 (nI 0))
def JX11_follows (this : Nat) (p1 : Int32) (Qj : JP) : JP :=
  jobj 11 this <|
  JX11_begins this <|
  jobj 11 this <|
  JX11_sums this p1 (nI 0) <|
  jex fun n12 => jit (FX11_follows_12 this p1 (
      jgetI 11 this 41 fun v82 =>
      jobj 11 this <|
      JX11_notes this p1 fun v88 =>
      jex fun n92 => jit (FX11_follows_92 this p1 Qj) (fun _ _ => jbot) n92 v82 v88)) (fun _ => jbot) n12 (nI 0)
def JX11_slip (this : Nat) (p1 : Int32) (p2 : Int32) (Qj : Int32 → JP) : JP :=
  jput 11 this 0 (.int (nI 0)) <|
  jobj 11 this <|
  JX11_noNote this p1 p2 fun v9 =>
  jobj 11 this <|
  JX11_throwsIf this v9 (nI 1) fun v13 =>
  jif (v13 = (nI 0)) (
    jobj 11 this <|
    JX11_asksWhole this fun v22 =>
    jif ((nI 0) ≤ v22) (
      jobj 11 this <|
      JX11_follows this p1 <|
      jgetA 11 this 46 fun v38 =>
      jaldI 0 v38 p2 fun v42 =>
      Qj v42) (
      Qj v22)) (
    Qj (nI 0))
def FX1_slips_41 (this : Nat) (p1 : Int32) (p2 : Int32) (Qj : Int32 → JP) (v2 : Nat) (rec41 : Int32 → Int32 → JP) (x4_41 : Int32) (x5_41 : Int32) : JP :=
  jgetI 9 v2 2 fun v44 =>
  jif (v44 ≤ x5_41) (
    Qj x4_41) (
    jgetA 1 this 5 fun v53 =>
    jaldA 11 v53 p1 fun v57 =>
    jaldI 0 v57 x5_41 fun v60 =>
    jjoin (α := Int32 → JP) (fun (s1_70 : Int32) =>
      rec41 (x4_41 + s1_70) (x5_41 + (nI 1))) fun k70 =>
    jif (v60 = p2) (
      k70 (nI 1)) (
      k70 (nI 0)))
def JX1_slips (bc : Nat) (bs : Nat) (this : Nat) (p1 : Int32) (p2 : Int32) (Ex : Nat → Nat → JP) (Qj : Int32 → JP) : JP :=
  jbud bc bs fun mc2 ms2 =>
  jobj 1 this <|
  JX1_bookAt mc2 ms2 this p1 Ex fun v2 =>
  jbud (bc - mc2) (bs - ms2) fun mc7 ms7 =>
  JX1_isSlip mc7 ms7 p2 Ex <|
  jobj 1 this <|
  JX1_reads this fun v11 =>
  jif ((nI 0) ≤ v11) (
    jif (p2 = (nI 6)) (
      jgetA 1 this 9 fun v29 =>
      jaldI 0 v29 p1 fun v33 =>
      Qj v33) (
      jex fun n41 => jit (FX1_slips_41 this p1 p2 Qj v2) (fun _ _ => jbot) n41 (nI 0) (nI 0))) (
    jgetI 1 this 14 fun v18 =>
    Qj v18)
def JX0_slips (bc : Nat) (bs : Nat) (p0 : Nat) (p1 : Int32) (p2 : Int32) (p3 : Nat) (Qj : Int32 → JP) : JP :=
  jbud bc bs fun mc5 ms5 =>
  jobj 1 p0 <|
  JX1_slips mc5 ms5 p0 p1 p2 (fun (xx5 xq5 : Nat) =>
    jif (xx5 = 2) (
      Qj (nI 1)) <|
    jbot) fun v5 =>
  jastL p3 (nI 0) (Int32.toInt64 v5) <|
  Qj (nI 0)
def FX11_slips_100 (this : Nat) (p2 : Int32) (Qj : Int32 → JP) (rec100 : Int32 → Int32 → JP) (x4_100 : Int32) (x5_100 : Int32) : JP :=
  jgetI 11 this 41 fun v103 =>
  jif (v103 ≤ x5_100) (
    Qj x4_100) (
    jif (p2 = (nI 6)) (
      jgetA 11 this 47 fun v118 =>
      jaldI 0 v118 x5_100 fun v123 =>
      jjoin (α := Int32 → JP) (fun (s1_132 : Int32) =>
        rec100 (x4_100 + s1_132) (x5_100 + (nI 1))) fun k132 =>
      jif ((nI 0) ≤ v123) (
        k132 (nI 0)) (
        k132 (nI 1))) (
      Qj x4_100))
def FX11_slips_60 (this : Nat) (p1 : Int32) (p2 : Int32) (k97 : Int32 → JP) (rec60 : Int32 → Int32 → JP) (x4_60 : Int32) (x5_60 : Int32) : JP :=
  jobj 11 this <|
  JX11_notes this p1 fun v64 =>
  jif (v64 ≤ x5_60) (
    k97 x4_60) (
    jgetA 11 this 46 fun v73 =>
    jaldI 0 v73 x5_60 fun v78 =>
    jjoin (α := Int32 → JP) (fun (s1_88 : Int32) =>
      rec60 (x4_60 + s1_88) (x5_60 + (nI 1))) fun k88 =>
    jif (v78 = p2) (
      k88 (nI 1)) (
      k88 (nI 0)))
def JX11_slips (this : Nat) (p1 : Int32) (p2 : Int32) (Qj : Int32 → JP) : JP :=
  jput 11 this 0 (.int (nI 0)) <|
  jobj 11 this <|
  JX11_noBook this p1 fun v8 =>
  jjoin (α := Int32 → JP) (fun (s1_29 : Int32) =>
    jobj 11 this <|
    JX11_throwsIf this s1_29 (nI 1) fun v30 =>
    jif (v30 = (nI 0)) (
      jobj 11 this <|
      JX11_asksWhole this fun v39 =>
      jif ((nI 0) ≤ v39) (
        jobj 11 this <|
        JX11_follows this p1 <|
        jex fun n60 => jit (FX11_slips_60 this p1 p2 (fun (y4_97 : Int32) =>
            jex fun n100 => jit (FX11_slips_100 this p2 Qj) (fun _ _ => jbot) n100 y4_97 (nI 0))) (fun _ _ => jbot) n60 (nI 0) (nI 0)) (
        Qj v39)) (
      Qj (nI 0))) fun k29 =>
  jjoin (α := JP) (
    k29 (nI 1)) fun k24 =>
  jif (v8 = (nI 0)) (
    JX11_in p2 (nI 1) (nI 7) fun v18 =>
    jif (v18 = (nI 0)) (
      k24) (
      k29 (nI 0))) (
    k24)
def JX10_lets (this : Nat) (p1 : Int32) (Qj : Int32 → JP) : JP :=
  jobj 10 this <|
  JX10_begins this (jshl (nI 1) p1) (nI 1) <|
  jobj 10 this <|
  JX10_walks this (nI 0) <|
  jgetI 10 this 26 fun v14 =>
  jif (v14 = (nI 0)) (
    jgetI 10 this 20 fun v26 =>
    Qj v26) (
    Qj (-2))
def JX1_breaks (bc : Nat) (bs : Nat) (this : Nat) (p1 : Int32) (Ex : Nat → Nat → JP) (Qj : Int32 → JP) : JP :=
  jbud bc bs fun mc2 ms2 =>
  jobj 1 this <|
  JX1_bookAt mc2 ms2 this p1 Ex fun v2 =>
  jgetA 1 this 4 fun v7 =>
  jobj 10 v7 <|
  JX10_lets v7 p1 fun v11 =>
  jgetI 9 v2 2 fun v17 =>
  jif (v11 = v17) (
    Qj (-3)) (
    Qj v11)
def JX0_breaks (bc : Nat) (bs : Nat) (p0 : Nat) (p1 : Int32) (p2 : Nat) (Qj : Int32 → JP) : JP :=
  jbud bc bs fun mc4 ms4 =>
  jobj 1 p0 <|
  JX1_breaks mc4 ms4 p0 p1 (fun (xx4 xq4 : Nat) =>
    jif (xx4 = 2) (
      Qj (nI 1)) <|
    jbot) fun v4 =>
  jastL p2 (nI 0) (Int32.toInt64 v4) <|
  Qj (nI 0)
def FX11_breaks_33 (this : Nat) (k52 : JP) (rec33 : Int32 → JP) (x2_33 : Int32) : JP :=
  jif ((nI 8) ≤ x2_33) (
    k52) (
    jgetA 11 this 20 fun v40 =>
    jastI v40 x2_33 (nI 0) <|
    rec33 (x2_33 + (nI 1)))
def JX11_breaks (this : Nat) (p1 : Int32) (Qj : Int32 → JP) : JP :=
  jput 11 this 0 (.int (nI 0)) <|
  jobj 11 this <|
  JX11_noBook this p1 fun v8 =>
  jobj 11 this <|
  JX11_throwsIf this v8 (nI 1) fun v12 =>
  jif (v12 = (nI 0)) (
    jobj 11 this <|
    JX11_asksAll this <|
    jput 11 this 18 (.int (jshl (nI 1) p1)) <|
    jex fun n33 => jit (FX11_breaks_33 this (
        jput 11 this 27 (.int (nI 0)) <|
        jputZ 11 this 29 (nI 0) <|
        jputZ 11 this 30 (nI 1) <|
        jput 11 this 35 (.int (nI 30)) <|
        jobj 11 this <|
        JX11_laysAll this (nI 0) <|
        jgetI 11 this 29 fun v79 =>
        jif (v79 = (nI 0)) (
          jgetI 11 this 28 fun v91 =>
          jobj 11 this <|
          JX11_notes this p1 fun v96 =>
          jif (v91 = v96) (
            Qj (-3)) (
            jgetI 11 this 28 fun v108 =>
            Qj v108)) (
          Qj (-2)))) (fun _ => jbot) n33 (nI 0)) (
    Qj (nI 0))
def FX1_brief_117 (this : Nat) (Qj : Int32 → JP) (v97 : Int32) (v109 : Int32) (rec117 : Int32 → Int32 → JP) (x4_117 : Int32) (x5_117 : Int32) : JP :=
  jif (v97 ≤ x5_117) (
    Qj x4_117) (
    jgetA 1 this 11 fun v126 =>
    jaldI 0 v126 x5_117 fun v131 =>
    jjoin (α := Int32 → JP) (fun (s1_180 : Int32) =>
      rec117 (x4_117 + s1_180) (x5_117 + (nI 1))) fun k180 =>
    jjoin (α := JP) (
      k180 (nI 0)) fun k179 =>
    jif ((jrem v131 (nI 36)) = (jrem v109 (nI 36))) (
      jgetA 1 this 12 fun v143 =>
      jgetA 8 v143 0 fun v146 =>
      jgetA 1 this 11 fun v150 =>
      jaldI 0 v150 x5_117 fun v155 =>
      jaldI 0 v146 (v155 / (nI 36)) fun v159 =>
      jgetA 1 this 12 fun v161 =>
      jgetA 8 v161 0 fun v164 =>
      jaldI 0 v164 (v109 / (nI 36)) fun v171 =>
      jif (v159 = v171) (
        k180 (nI 1)) (
        k179)) (
      k179))
def FX1_brief_54 (this : Nat) (p1 : Int32) (k82 : JP) (rec54 : Int32 → JP) (x2_54 : Int32) : JP :=
  jif (p1 ≤ x2_54) (
    k82) (
    jgetA 1 this 12 fun v60 =>
    jgetA 1 this 3 fun v64 =>
    jgetA 10 v64 6 fun v67 =>
    jaldI 0 v67 x2_54 fun v71 =>
    jobj 8 v60 <|
    JX8_goes v60 v71 fun v72 =>
    rec54 (x2_54 + (nI 1)))
def JX1_brief (bc : Nat) (bs : Nat) (this : Nat) (p1 : Int32) (Ex : Nat → Nat → JP) (Qj : Int32 → JP) : JP :=
  jjoin (α := Int32 → JP) (fun (s0_9 : Int32) =>
    jbud bc bs fun mc9 ms9 =>
    JX1_must mc9 ms9 s0_9 Ex <|
    jobj 1 this <|
    JX1_reads this fun v13 =>
    jif ((nI 0) ≤ v13) (
      jgetA 1 this 3 fun v26 =>
      jgetI 10 v26 16 fun v29 =>
      jif (p1 < v29) (
        jgetA 1 this 12 fun v39 =>
        jgetA 1 this 1 fun v43 =>
        jgetA 7 v43 1 fun v46 =>
        jobj 8 v39 <|
        JX8_be v39 v46 <|
        jex fun n54 => jit (FX1_brief_54 this p1 (
            jgetA 1 this 4 fun v83 =>
            jgetA 1 this 12 fun v87 =>
            jgetA 1 this 11 fun v94 =>
            jobj 10 v83 <|
            JX10_gathers v83 v87 (jrem p1 (nI 2)) v94 fun v97 =>
            jgetA 1 this 3 fun v102 =>
            jgetA 10 v102 6 fun v105 =>
            jaldI 0 v105 p1 fun v109 =>
            jex fun n117 => jit (FX1_brief_117 this Qj v97 v109) (fun _ _ => jbot) n117 (nI 0) (nI 0))) (fun _ => jbot) n54 (nI 0)) (
        Qj (-3))) (
      jgetI 1 this 14 fun v20 =>
      Qj v20)) fun k9 =>
  jif (p1 < (nI 0)) (
    k9 (nI 0)) (
    k9 (nI 1))
def JX0_brief (bc : Nat) (bs : Nat) (p0 : Nat) (p1 : Int32) (p2 : Nat) (Qj : Int32 → JP) : JP :=
  jbud bc bs fun mc4 ms4 =>
  jobj 1 p0 <|
  JX1_brief mc4 ms4 p0 p1 (fun (xx4 xq4 : Nat) =>
    jif (xx4 = 0) (
      Qj (nI 1)) <|
    jbot) fun v4 =>
  jastL p2 (nI 0) (Int32.toInt64 v4) <|
  Qj (nI 0)
def FX11_brief_105 (this : Nat) (p1 : Int32) (Qj : Int32 → JP) (v93 : Int32) (rec105 : Int32 → Int32 → JP) (x4_105 : Int32) (x5_105 : Int32) : JP :=
  jif ((nI 36) ≤ x5_105) (
    Qj x4_105) (
    jgetA 11 this 17 fun v115 =>
    jgetA 11 this 38 fun v130 =>
    jaldI 0 v130 p1 fun v134 =>
    jaldI 1 v115 ((((nI 1296) * p1) + ((nI 36) * x5_105)) + (jrem v134 (nI 36))) fun v139 =>
    jjoin (α := Int32 → JP) (fun (s1_161 : Int32) =>
      rec105 (x4_105 + s1_161) (x5_105 + (nI 1))) fun k161 =>
    jjoin (α := JP) (
      k161 (nI 0)) fun k160 =>
    jif (v139 = (nI 0)) (
      k160) (
      jobj 11 this <|
      JX11_at this p1 x5_105 fun v147 =>
      jif ((v147 / (nI 2)) = (v93 / (nI 2))) (
        k161 (nI 1)) (
        k160)))
def FX11_brief_52 (this : Nat) (p1 : Int32) (k74 : JP) (rec52 : Int32 → JP) (x3_52 : Int32) : JP :=
  jif (p1 ≤ x3_52) (
    k74) (
    jgetA 11 this 38 fun v60 =>
    jaldI 0 v60 x3_52 fun v64 =>
    jobj 11 this <|
    JX11_makes this x3_52 v64 <|
    rec52 (x3_52 + (nI 1)))
def JX11_brief (this : Nat) (p1 : Int32) (Qj : Int32 → JP) : JP :=
  jput 11 this 0 (.int (nI 0)) <|
  jjoin (α := Int32 → JP) (fun (s1_15 : Int32) =>
    jobj 11 this <|
    JX11_throwsIf this s1_15 (nI 1) fun v16 =>
    jif (v16 = (nI 0)) (
      jobj 11 this <|
      JX11_asksWhole this fun v25 =>
      jif ((nI 0) ≤ v25) (
        jgetI 11 this 41 fun v37 =>
        jif (p1 < v37) (
          jobj 11 this <|
          JX11_begins this <|
          jex fun n52 => jit (FX11_brief_52 this p1 (
              jobj 11 this <|
              JX11_finds this p1 (jrem p1 (nI 2)) <|
              jgetA 11 this 38 fun v85 =>
              jaldI 0 v85 p1 fun v89 =>
              jobj 11 this <|
              JX11_at this p1 (v89 / (nI 36)) fun v93 =>
              jex fun n105 => jit (FX11_brief_105 this p1 Qj v93) (fun _ _ => jbot) n105 (nI 0) (nI 0))) (fun _ => jbot) n52 (nI 0)) (
          Qj (-3))) (
        Qj v25)) (
      Qj (nI 0))) fun k15 =>
  jif ((nI 0) ≤ p1) (
    k15 (nI 0)) (
    k15 (nI 1))
def FX1_part_28 (this : Nat) (Qj : Int32 → JP) (rec28 : Int32 → JP) (x1_28 : Int32) : JP :=
  jgetA 1 this 3 fun v30 =>
  jgetI 10 v30 16 fun v33 =>
  jif (v33 ≤ x1_28) (
    Qj x1_28) (
    jgetA 1 this 3 fun v41 =>
    jgetI 10 v41 17 fun v44 =>
    jif (v44 ≤ x1_28) (
      Qj x1_28) (
      jgetA 1 this 3 fun v51 =>
      jgetA 10 v51 6 fun v54 =>
      jaldI 0 v54 x1_28 fun v58 =>
      jgetA 1 this 3 fun v60 =>
      jgetA 10 v60 7 fun v63 =>
      jaldI 0 v63 x1_28 fun v67 =>
      jif (v58 = v67) (
        rec28 (x1_28 + (nI 1))) (
        Qj x1_28)))
def JX1_part (this : Nat) (Qj : Int32 → JP) : JP :=
  jobj 1 this <|
  JX1_reads this fun v1 =>
  jif ((nI 0) ≤ v1) (
    jgetA 1 this 3 fun v13 =>
    jgetI 10 v13 15 fun v16 =>
    jif ((nI 2) ≤ v16) (
      jex fun n28 => jit (FX1_part_28 this Qj) (fun _ => jbot) n28 (nI 0)) (
      Qj (-3))) (
    jgetI 1 this 14 fun v8 =>
    Qj v8)
def FX11_part_29 (this : Nat) (Qj : Int32 → JP) (rec29 : Int32 → JP) (x2_29 : Int32) : JP :=
  jgetI 11 this 41 fun v31 =>
  jif (v31 ≤ x2_29) (
    Qj x2_29) (
    jgetI 11 this 42 fun v39 =>
    jif (v39 ≤ x2_29) (
      Qj x2_29) (
      jgetA 11 this 38 fun v46 =>
      jaldI 0 v46 x2_29 fun v50 =>
      jgetA 11 this 39 fun v52 =>
      jaldI 0 v52 x2_29 fun v56 =>
      jif (v50 = v56) (
        rec29 (x2_29 + (nI 1))) (
        Qj x2_29)))
def JX11_part (this : Nat) (Qj : Int32 → JP) : JP :=
  jput 11 this 0 (.int (nI 0)) <|
  jobj 11 this <|
  JX11_asksWhole this fun v6 =>
  jif ((nI 0) ≤ v6) (
    jgetI 11 this 37 fun v17 =>
    jif ((nI 2) ≤ v17) (
      jex fun n29 => jit (FX11_part_29 this Qj) (fun _ => jbot) n29 (nI 0)) (
      Qj (-3))) (
    Qj v6)
def JX1_best (bc : Nat) (bs : Nat) (this : Nat) (p1 : Int32) (Ex : Nat → Nat → JP) (Qj : Int32 → JP) : JP :=
  jjoin (α := Int32 → JP) (fun (s0_10 : Int32) =>
    jbud bc bs fun mc10 ms10 =>
    JX1_must mc10 ms10 s0_10 Ex <|
    jgetA 1 this 4 fun v14 =>
    jputZ 10 v14 29 (nI 1) <|
    jgetA 1 this 4 fun v22 =>
    jobj 1 this <|
    JX1_allBooks this fun v26 =>
    jobj 10 v22 <|
    JX10_least v22 v26 fun v29 =>
    jgetA 1 this 4 fun v34 =>
    jputZ 10 v34 29 (nI 0) <|
    jif ((nI 0) ≤ v29) (
      jif (p1 = (-1)) (
        jgetA 1 this 4 fun v53 =>
        jgetI 10 v53 19 fun v56 =>
        Qj v56) (
        jgetA 1 this 4 fun v64 =>
        jgetI 10 v64 18 fun v67 =>
        jif (v67 ≤ p1) (
          Qj (-3)) (
          jgetA 1 this 4 fun v74 =>
          jgetA 10 v74 8 fun v77 =>
          jaldI 0 v77 p1 fun v81 =>
          Qj v81))) (
      Qj v29)) fun k10 =>
  jif (p1 < (-1)) (
    k10 (nI 0)) (
    k10 (nI 1))
def JX0_best (bc : Nat) (bs : Nat) (p0 : Nat) (p1 : Int32) (p2 : Nat) (Qj : Int32 → JP) : JP :=
  jbud bc bs fun mc4 ms4 =>
  jobj 1 p0 <|
  JX1_best mc4 ms4 p0 p1 (fun (xx4 xq4 : Nat) =>
    jif (xx4 = 0) (
      Qj (nI 1)) <|
    jbot) fun v4 =>
  jastL p2 (nI 0) (Int32.toInt64 v4) <|
  Qj (nI 0)
def JX11_best (this : Nat) (p1 : Int32) (Qj : Int32 → JP) : JP :=
  jput 11 this 0 (.int (nI 0)) <|
  jjoin (α := Int32 → JP) (fun (s1_16 : Int32) =>
    jobj 11 this <|
    JX11_throwsIf this s1_16 (nI 1) fun v17 =>
    jif (v17 = (nI 0)) (
      jobj 11 this <|
      JX11_asksWhole this fun v26 =>
      jif ((nI 0) ≤ v26) (
        jif ((nI 0) ≤ p1) (
          jgetI 11 this 43 fun v51 =>
          jif (v51 ≤ p1) (
            Qj (-3)) (
            jgetA 11 this 40 fun v58 =>
            jaldI 0 v58 p1 fun v62 =>
            Qj v62)) (
          jgetI 11 this 44 fun v43 =>
          Qj v43)) (
        Qj v26)) (
      Qj (nI 0))) fun k16 =>
  jif ((-1) ≤ p1) (
    k16 (nI 0)) (
    k16 (nI 1))
def FX10_weigh_29 (this : Nat) (p2 : Int32) (p4 : Int32) (k82 : JP) (rec29 : Int32 → JP) (x5_29 : Int32) : JP :=
  jif ((p2 + p4) < x5_29) (
    k82) (
    jgetI 10 this 26 fun v39 =>
    jif (v39 = (nI 0)) (
      jjoin (α := Int64 → JP) (fun (s1_67 : Int64) =>
        jput 10 this 25 (.long s1_67) <|
        jobj 10 this <|
        JX10_walks this x5_29 <|
        rec29 (x5_29 + (nI 1))) fun k67 =>
      jif (p2 ≤ x5_29) (
        k67 (jlshl (lN 1) ((nI 2) * ((p2 + p4) - x5_29)))) (
        k67 (lN 0))) (
      k82))
def JX10_weigh (this : Nat) (p1 : Int32) (p2 : Int32) (p3 : Int32) (p4 : Int32) (Qj : Int32 → JP) : JP :=
  jobj 10 this <|
  JX10_begins this p1 (nI 0) <|
  jputZ 10 this 28 (nI 1) <|
  jput 10 this 21 (.int p3) <|
  jput 10 this 23 (.long (lN 0)) <|
  jput 10 this 24 (.long (lN 0)) <|
  jex fun n29 => jit (FX10_weigh_29 this p2 p4 (
      jputZ 10 this 28 (nI 0) <|
      jgetI 10 this 26 fun v88 =>
      jif (v88 = (nI 0)) (
        Qj (nI 1)) (
        Qj (nI 0)))) (fun _ => jbot) n29 (nI 0)
def FX1_common_6 (Qj : Int64 → JP) (rec6 : Int64 → Int64 → JP) (x4_6 : Int64) (x6_6 : Int64) : JP :=
  jif ((lg_cmp x6_6 (lN 0)) = (nI 0)) (
    Qj x4_6) (
    jand (¬ x6_6 = (lN 0)) <|
    rec6 x6_6 (jlrem x4_6 x6_6))
def JX1_common (p0 : Int64) (p2 : Int64) (Qj : Int64 → JP) : JP :=
  jex fun n6 => jit (FX1_common_6 Qj) (fun _ _ => jbot) n6 p0 p2
def JX1_odds (bc : Nat) (bs : Nat) (this : Nat) (p1 : Int32) (p2 : Int32) (p3 : Int32) (Ex : Nat → Nat → JP) (Qj : Int64 → JP) : JP :=
  jjoin (α := Int32 → JP) (fun (s0_18 : Int32) =>
    jbud bc bs fun mc18 ms18 =>
    JX1_must mc18 ms18 s0_18 Ex <|
    jobj 1 this <|
    JX1_reads this fun v22 =>
    jif ((nI 0) ≤ v22) (
      jgetA 1 this 3 fun v35 =>
      jgetA 10 v35 6 fun v38 =>
      jgetA 1 this 4 fun v43 =>
      jgetA 10 v43 6 fun v46 =>
      jgetA 1 this 3 fun v51 =>
      jgetI 10 v51 16 fun v54 =>
      jcpyI v38 (nI 0) v46 (nI 0) v54 <|
      jgetA 1 this 4 fun v61 =>
      jobj 1 this <|
      JX1_allBooks this fun v65 =>
      jgetI 1 this 14 fun v69 =>
      jobj 10 v61 <|
      JX10_weigh v61 v65 v69 p1 p2 fun v74 =>
      jif (v74 = (nI 0)) (
        Qj (-2)) (
        jgetA 1 this 3 fun v86 =>
        jgetI 10 v86 16 fun v89 =>
        jif (p1 < v89) (
          jgetA 1 this 4 fun v100 =>
          jgetL 10 v100 23 fun v103 =>
          jgetA 1 this 4 fun v107 =>
          jgetL 10 v107 24 fun v110 =>
          JX1_common v103 v110 fun v113 =>
          jif (p3 = (nI 0)) (
            jgetA 1 this 4 fun v136 =>
            jgetL 10 v136 23 fun v139 =>
            jand (¬ v113 = (lN 0)) <|
            Qj (v139 / v113)) (
            jgetA 1 this 4 fun v123 =>
            jgetL 10 v123 24 fun v126 =>
            jand (¬ v113 = (lN 0)) <|
            Qj (v126 / v113))) (
          Qj (-3)))) (
      jgetI 1 this 14 fun v29 =>
      Qj (Int32.toInt64 v29))) fun k18 =>
  jjoin (α := JP) (
    k18 (nI 0)) fun k17 =>
  jif (p1 < (nI 0)) (
    k17) (
    JX1_isIn p2 (nI 0) (nI 2) fun v7 =>
    jif (v7 = (nI 0)) (
      k17) (
      k18 (nI 1)))
def JX0_odds (bc : Nat) (bs : Nat) (p0 : Nat) (p1 : Int32) (p2 : Int32) (p3 : Int32) (p4 : Nat) (Qj : Int32 → JP) : JP :=
  jbud bc bs fun mc7 ms7 =>
  jobj 1 p0 <|
  JX1_odds mc7 ms7 p0 p1 p2 p3 (fun (xx7 xq7 : Nat) =>
    jif (xx7 = 0) (
      Qj (nI 1)) <|
    jbot) fun v7 =>
  jastL p4 (nI 0) v7 <|
  Qj (nI 0)
def FX11_common_6 (Qj : Int64 → JP) (rec6 : Int64 → Int64 → JP) (x4_6 : Int64) (x6_6 : Int64) : JP :=
  jif ((lg_cmp x6_6 (lN 0)) ≤ (nI 0)) (
    Qj x4_6) (
    jand (¬ x6_6 = (lN 0)) <|
    rec6 x6_6 (jlrem x4_6 x6_6))
def JX11_common (p0 : Int64) (p2 : Int64) (Qj : Int64 → JP) : JP :=
  jex fun n6 => jit (FX11_common_6 Qj) (fun _ _ => jbot) n6 p0 p2
def FX11_odds_152 (this : Nat) (p2 : Int32) (v34 : Int32) (k210 : Int64 → Int64 → JP) (rec152 : Int64 → Int64 → Int32 → JP) (x5_152 : Int64) (x7_152 : Int64) (x9_152 : Int32) : JP :=
  jif ((v34 + p2) < x9_152) (
    k210 x5_152 x7_152) (
    jgetA 11 this 34 fun v179 =>
    jaldL v179 x9_152 fun v184 =>
    jgetA 11 this 33 fun v194 =>
    jaldL v194 x9_152 fun v199 =>
    rec152 (x5_152 + ((jlshl (lN 1) ((nI 2) * ((v34 + p2) - x9_152))) * v184)) (x7_152 + ((jlshl (lN 1) ((nI 2) * ((v34 + p2) - x9_152))) * v199)) (x9_152 + (nI 1)))
def FX11_odds_99 (this : Nat) (p2 : Int32) (Qj : Int64 → JP) (v34 : Int32) (k131 : JP) (rec99 : Int32 → JP) (x5_99 : Int32) : JP :=
  jif ((v34 + p2) < x5_99) (
    k131) (
    jobj 11 this <|
    JX11_laysAll this x5_99 <|
    jgetI 11 this 29 fun v115 =>
    jif (v115 = (nI 0)) (
      rec99 (x5_99 + (nI 1))) (
      Qj (-2)))
def JX11_odds (this : Nat) (p1 : Int32) (p2 : Int32) (p3 : Int32) (Qj : Int64 → JP) : JP :=
  jput 11 this 0 (.int (nI 0)) <|
  jjoin (α := Int32 → JP) (fun (s1_24 : Int32) =>
    jobj 11 this <|
    JX11_throwsIf this s1_24 (nI 1) fun v25 =>
    jif (v25 = (nI 0)) (
      jobj 11 this <|
      JX11_asksWhole this fun v34 =>
      jif ((nI 0) ≤ v34) (
        jput 11 this 35 (.int p1) <|
        jgetI 11 this 41 fun v56 =>
        jjoin (α := Int32 → JP) (fun (s1_72 : Int32) =>
          jput 11 this 36 (.int s1_72) <|
          jjoin (α := JP) (
            jjoin (α := Int32 → JP) (fun (s0_97 : Int32) =>
              jex fun n99 => jit (FX11_odds_99 this p2 Qj v34 (
                  jgetI 11 this 36 fun v132 =>
                  jif ((nI 0) ≤ v132) (
                    jex fun n152 => jit (FX11_odds_152 this p2 v34 (fun (y5_210 : Int64) (y7_210 : Int64) =>
                        JX11_common y5_210 y7_210 fun v214 =>
                        jif (p3 = (nI 0)) (
                          jand (¬ v214 = (lN 0)) <|
                          Qj (y5_210 / v214)) (
                          jand (¬ v214 = (lN 0)) <|
                          Qj (y7_210 / v214)))) (fun _ _ _ => jbot) n152 (lN 0) (lN 0) v34) (
                    Qj (-3)))) (fun _ => jbot) n99 s0_97) fun k97 =>
            jif (p2 = (nI 0)) (
              k97 v34) (
              k97 (v34 + (nI 1)))) fun k84 =>
          jif (p2 = (nI 0)) (
            jput 11 this 27 (.int (nI 0)) <|
            k84) (
            k84)) fun k72 =>
        jif (v56 ≤ p1) (
          k72 (-1)) (
          jgetA 11 this 38 fun v63 =>
          jaldI 0 v63 p1 fun v67 =>
          k72 v67)) (
        Qj (Int32.toInt64 v34))) (
      Qj (lN 0))) fun k24 =>
  jjoin (α := JP) (
    k24 (nI 1)) fun k19 =>
  jif (p1 < (nI 0)) (
    k19) (
    JX11_in p2 (nI 0) (nI 2) fun v13 =>
    jif (v13 = (nI 0)) (
      k19) (
      k24 (nI 0)))
def FX1_shared_35 (this : Nat) (p1 : Int32) (p2 : Int32) (v2 : Nat) (v9 : Nat) (k181 : Int32 → Int32 → JP) (rec35 : Int32 → Int32 → Int32 → JP) (x6_35 : Int32) (x7_35 : Int32) (x8_35 : Int32) : JP :=
  jgetA 1 this 3 fun v38 =>
  jgetI 10 v38 16 fun v41 =>
  jif (v41 ≤ x8_35) (
    k181 x6_35 x7_35) (
    jgetA 1 this 6 fun v48 =>
    jaldA 11 v48 p1 fun v52 =>
    jaldI 0 v52 x8_35 fun v55 =>
    jgetA 1 this 6 fun v59 =>
    jaldA 11 v59 p2 fun v63 =>
    jaldI 0 v63 x8_35 fun v66 =>
    jjoin (α := Int32 → JP) (fun (s0_88 : Int32) =>
      jjoin (α := Int32 → JP) (fun (s0_109 : Int32) =>
        jjoin (α := Int32 → JP) (fun (s1_152 : Int32) =>
          jjoin (α := Int32 → JP) (fun (s1_172 : Int32) =>
            rec35 (x6_35 + s1_152) (x7_35 + s1_172) (x8_35 + (nI 1))) fun k172 =>
          jjoin (α := JP) (
            k172 (nI 0)) fun k171 =>
          jif (s0_109 ≤ (nI 0)) (
            k171) (
            jif (s0_88 = (nI 0)) (
              k172 (nI 1)) (
              k171))) fun k152 =>
        jjoin (α := JP) (
          k152 (nI 0)) fun k151 =>
        jif (s0_88 ≤ (nI 0)) (
          k151) (
          jif (s0_88 = s0_109) (
            jgetA 9 v2 0 fun v127 =>
            jaldA 10 v127 v55 fun v132 =>
            jgetA 9 v9 0 fun v135 =>
            jaldA 10 v135 v66 fun v140 =>
            jobj 23 v132 <|
            JX23_isNearly v132 v140 fun v141 =>
            jif (v141 = (nI 0)) (
              k151) (
              k152 (nI 1))) (
            k151))) fun k109 =>
      jif (v66 = (-1)) (
        k109 (nI 0)) (
        jgetA 1 this 5 fun v101 =>
        jaldA 11 v101 p2 fun v105 =>
        jaldI 0 v105 v66 fun v108 =>
        k109 v108)) fun k88 =>
    jif (v55 = (-1)) (
      k88 (nI 0)) (
      jgetA 1 this 5 fun v80 =>
      jaldA 11 v80 p1 fun v84 =>
      jaldI 0 v84 v55 fun v87 =>
      k88 v87))
def JX1_shared (bc : Nat) (bs : Nat) (this : Nat) (p1 : Int32) (p2 : Int32) (p3 : Int32) (Ex : Nat → Nat → JP) (Qj : Int32 → JP) : JP :=
  jbud bc bs fun mc2 ms2 =>
  jobj 1 this <|
  JX1_bookAt mc2 ms2 this p1 Ex fun v2 =>
  jbud (bc - mc2) (bs - ms2) fun mc9 ms9 =>
  jobj 1 this <|
  JX1_bookAt mc9 ms9 this p2 Ex fun v9 =>
  jobj 1 this <|
  JX1_reads this fun v15 =>
  jif ((nI 0) ≤ v15) (
    jex fun n35 => jit (FX1_shared_35 this p1 p2 v2 v9 (fun (y6_181 : Int32) (y7_181 : Int32) =>
        jif (p3 = (nI 0)) (
          Qj y6_181) (
          jif (y6_181 ≤ y7_181) (
            Qj (nI 0)) (
            Qj (nI 1))))) (fun _ _ _ => jbot) n35 (nI 0) (nI 0) (nI 0)) (
    jgetI 1 this 14 fun v22 =>
    Qj v22)
def JX0_shared (bc : Nat) (bs : Nat) (p0 : Nat) (p1 : Int32) (p2 : Int32) (p3 : Int32) (p4 : Nat) (Qj : Int32 → JP) : JP :=
  jbud bc bs fun mc7 ms7 =>
  jobj 1 p0 <|
  JX1_shared mc7 ms7 p0 p1 p2 p3 (fun (xx7 xq7 : Nat) =>
    jif (xx7 = 2) (
      Qj (nI 1)) <|
    jbot) fun v7 =>
  jastL p4 (nI 0) (Int32.toInt64 v7) <|
  Qj (nI 0)
def JX11_isSlip (p0 : Int32) (Qj : Int32 → JP) : JP :=
  JX11_in p0 (nI 1) (nI 5) fun v3 =>
  jand (v3 = nI 0 ∨ v3 = nI 1) (Qj v3)
def FX11_shared_134 (this : Nat) (p1 : Int32) (p2 : Int32) (k302 : Int32 → Int32 → JP) (rec134 : Int32 → Int32 → Int32 → JP) (x5_134 : Int32) (x6_134 : Int32) (x7_134 : Int32) : JP :=
  jgetI 11 this 41 fun v137 =>
  jif (v137 ≤ x7_134) (
    k302 x5_134 x6_134) (
    jgetA 11 this 49 fun v144 =>
    jaldI 0 v144 x7_134 fun v149 =>
    jgetA 11 this 47 fun v153 =>
    jaldI 0 v153 x7_134 fun v158 =>
    jjoin (α := Int32 → Int32 → JP) (fun (x5_296 : Int32) (x6_296 : Int32) =>
      rec134 x5_296 x6_296 (x7_134 + (nI 1))) fun k296 =>
    jif (v158 < (nI 0)) (
      k296 x5_134 x6_134) (
      jgetA 11 this 46 fun v167 =>
      jaldI 0 v167 v158 fun v172 =>
      JX11_isSlip v172 fun v173 =>
      jif (v173 = (nI 0)) (
        k296 x5_134 x6_134) (
        jjoin (α := Int32 → JP) (fun (s1_204 : Int32) =>
          jjoin (α := Int32 → JP) (fun (s1_293 : Int32) =>
            k296 (x5_134 + s1_293) (x6_134 + s1_204)) fun k293 =>
          jjoin (α := JP) (
            k293 (nI 0)) fun k292 =>
          jif (v149 < (nI 0)) (
            k292) (
            jgetA 11 this 48 fun v215 =>
            jaldI 0 v215 v149 fun v220 =>
            jgetA 11 this 46 fun v222 =>
            jaldI 0 v222 v158 fun v227 =>
            jif (v220 = v227) (
              jobj 11 this <|
              JX11_ofNote this p1 v149 (nI 0) fun v236 =>
              jobj 11 this <|
              JX11_ofNote this p2 v158 (nI 0) fun v244 =>
              jif (v236 = v244) (
                jobj 11 this <|
                JX11_ofNote this p1 v149 (nI 2) fun v255 =>
                jobj 11 this <|
                JX11_ofNote this p2 v158 (nI 2) fun v263 =>
                jif (v255 = v263) (
                  jobj 11 this <|
                  JX11_ofNote this p1 v149 (nI 3) fun v274 =>
                  jobj 11 this <|
                  JX11_ofNote this p2 v158 (nI 3) fun v282 =>
                  jif (v274 = v282) (
                    k293 (nI 1)) (
                    k292)) (
                  k292)) (
                k292)) (
              k292))) fun k204 =>
        jjoin (α := JP) (
          k204 (nI 1)) fun k199 =>
        jif (v149 < (nI 0)) (
          k199) (
          jgetA 11 this 48 fun v190 =>
          jaldI 0 v190 v149 fun v195 =>
          jif (v195 = (nI 0)) (
            k199) (
            k204 (nI 0))))))
def FX11_shared_91 (this : Nat) (k120 : JP) (rec91 : Int32 → JP) (x5_91 : Int32) : JP :=
  jgetI 11 this 41 fun v94 =>
  jif (v94 ≤ x5_91) (
    k120) (
    jgetA 11 this 49 fun v101 =>
    jgetA 11 this 47 fun v107 =>
    jaldI 0 v107 x5_91 fun v112 =>
    jastI v101 x5_91 v112 <|
    rec91 (x5_91 + (nI 1)))
def FX11_shared_58 (this : Nat) (p1 : Int32) (k88 : JP) (rec58 : Int32 → JP) (x5_58 : Int32) : JP :=
  jobj 11 this <|
  JX11_notes this p1 fun v62 =>
  jif (v62 ≤ x5_58) (
    k88) (
    jgetA 11 this 48 fun v69 =>
    jgetA 11 this 46 fun v75 =>
    jaldI 0 v75 x5_58 fun v80 =>
    jastI v69 x5_58 v80 <|
    rec58 (x5_58 + (nI 1)))
def JX11_shared (this : Nat) (p1 : Int32) (p2 : Int32) (p3 : Int32) (Qj : Int32 → JP) : JP :=
  jput 11 this 0 (.int (nI 0)) <|
  jobj 11 this <|
  JX11_noBook this p1 fun v8 =>
  jjoin (α := Int32 → JP) (fun (s1_27 : Int32) =>
    jobj 11 this <|
    JX11_throwsIf this s1_27 (nI 1) fun v28 =>
    jif (v28 = (nI 0)) (
      jobj 11 this <|
      JX11_asksWhole this fun v37 =>
      jif ((nI 0) ≤ v37) (
        jobj 11 this <|
        JX11_follows this p1 <|
        jex fun n58 => jit (FX11_shared_58 this p1 (
            jex fun n91 => jit (FX11_shared_91 this (
                jobj 11 this <|
                JX11_follows this p2 <|
                jex fun n134 => jit (FX11_shared_134 this p1 p2 (fun (y5_302 : Int32) (y6_302 : Int32) =>
                    jif (p3 = (nI 0)) (
                      Qj y5_302) (
                      jif (y5_302 ≤ y6_302) (
                        Qj (nI 0)) (
                        Qj (nI 1))))) (fun _ _ _ => jbot) n134 (nI 0) (nI 0) (nI 0))) (fun _ => jbot) n91 (nI 0))) (fun _ => jbot) n58 (nI 0)) (
        Qj v37)) (
      Qj (nI 0))) fun k27 =>
  jjoin (α := JP) (
    k27 (nI 1)) fun k22 =>
  jif (v8 = (nI 0)) (
    jobj 11 this <|
    JX11_noBook this p2 fun v16 =>
    jif (v16 = (nI 0)) (
      k27 (nI 0)) (
      k22)) (
    k22)
def FX1_alike_31 (this : Nat) (v2 : Nat) (v8 : Nat) (x5_19 : Int32) (k162 : JP) (rec31 : Int32 → JP) (x6_31 : Int32) : JP :=
  jif (x6_31 < (nI 0)) (
    k162) (
    jgetI 9 v2 2 fun v39 =>
    jjoin (α := JP) (
      rec31 (x6_31 + (-1))) fun k156 =>
    jjoin (α := JP) (
      jgetA 1 this 8 fun v56 =>
      jaldA 11 v56 x5_19 fun v61 =>
      jastI v61 x6_31 (nI 0) <|
      k156) fun k55 =>
    jif (x5_19 = v39) (
      k55) (
      jgetI 9 v8 2 fun v49 =>
      jif (x6_31 = v49) (
        k55) (
        jgetA 9 v2 0 fun v70 =>
        jaldA 10 v70 x5_19 fun v75 =>
        jgetA 9 v8 0 fun v78 =>
        jaldA 10 v78 x6_31 fun v83 =>
        jobj 23 v75 <|
        JX23_isLike v75 v83 fun v84 =>
        jif (v84 = (nI 0)) (
          jgetA 1 this 8 fun v120 =>
          jaldA 11 v120 x5_19 fun v125 =>
          jgetA 1 this 8 fun v129 =>
          jaldA 11 v129 (x5_19 + (nI 1)) fun v136 =>
          jaldI 0 v136 x6_31 fun v139 =>
          jgetA 1 this 8 fun v141 =>
          jaldA 11 v141 x5_19 fun v146 =>
          jaldI 0 v146 (x6_31 + (nI 1)) fun v151 =>
          jastI v125 x6_31 (jmax v139 v151) <|
          k156) (
          jgetA 1 this 8 fun v91 =>
          jaldA 11 v91 x5_19 fun v96 =>
          jgetA 1 this 8 fun v100 =>
          jaldA 11 v100 (x5_19 + (nI 1)) fun v107 =>
          jaldI 0 v107 (x6_31 + (nI 1)) fun v112 =>
          jastI v96 x6_31 (v112 + (nI 1)) <|
          k156))))
def FX1_alike_19 (this : Nat) (v2 : Nat) (v8 : Nat) (k168 : JP) (rec19 : Int32 → JP) (x5_19 : Int32) : JP :=
  jif (x5_19 < (nI 0)) (
    k168) (
    jgetI 9 v8 2 fun v26 =>
    jex fun n31 => jit (FX1_alike_31 this v2 v8 x5_19 (
        rec19 (x5_19 + (-1)))) (fun _ => jbot) n31 v26)
def JX1_alike (bc : Nat) (bs : Nat) (this : Nat) (p1 : Int32) (p2 : Int32) (Ex : Nat → Nat → JP) (Qj : Int32 → JP) : JP :=
  jbud bc bs fun mc2 ms2 =>
  jobj 1 this <|
  JX1_bookAt mc2 ms2 this p1 Ex fun v2 =>
  jbud (bc - mc2) (bs - ms2) fun mc8 ms8 =>
  jobj 1 this <|
  JX1_bookAt mc8 ms8 this p2 Ex fun v8 =>
  jgetI 9 v2 2 fun v14 =>
  jex fun n19 => jit (FX1_alike_19 this v2 v8 (
      jgetA 1 this 8 fun v169 =>
      jaldA 11 v169 (nI 0) fun v173 =>
      jaldI 0 v173 (nI 0) fun v175 =>
      Qj v175)) (fun _ => jbot) n19 v14
def JX0_alike (bc : Nat) (bs : Nat) (p0 : Nat) (p1 : Int32) (p2 : Int32) (p3 : Nat) (Qj : Int32 → JP) : JP :=
  jbud bc bs fun mc5 ms5 =>
  jobj 1 p0 <|
  JX1_alike mc5 ms5 p0 p1 p2 (fun (xx5 xq5 : Nat) =>
    jif (xx5 = 2) (
      Qj (nI 1)) <|
    jbot) fun v5 =>
  jastL p3 (nI 0) (Int32.toInt64 v5) <|
  Qj (nI 0)
def FX11_alike_84 (this : Nat) (p1 : Int32) (p2 : Int32) (x4_42 : Int32) (x5_55 : Int32) (k133 : Int32 → JP) (rec84 : Int32 → Int32 → JP) (x7_84 : Int32) (x8_84 : Int32) : JP :=
  jif ((nI 4) ≤ x8_84) (
    k133 x7_84) (
    jjoin (α := Int32 → JP) (fun (s0_125 : Int32) =>
      rec84 s0_125 (x8_84 + (nI 1))) fun k125 =>
    jjoin (α := JP) (
      k125 (nI 0)) fun k124 =>
    jif (x7_84 = (nI 0)) (
      k124) (
      jobj 11 this <|
      JX11_ofNote this p1 (x4_42 - (nI 1)) x8_84 fun v103 =>
      jobj 11 this <|
      JX11_ofNote this p2 (x5_55 - (nI 1)) x8_84 fun v114 =>
      jif (v103 = v114) (
        k125 (nI 1)) (
        k124)))
def FX11_alike_55 (this : Nat) (p1 : Int32) (p2 : Int32) (x4_42 : Int32) (k212 : JP) (rec55 : Int32 → JP) (x5_55 : Int32) : JP :=
  jobj 11 this <|
  JX11_notes this p2 fun v59 =>
  jif (v59 < x5_55) (
    k212) (
    jjoin (α := Int32 → JP) (fun (x6_192 : Int32) =>
      jgetA 11 this 50 fun v193 =>
      jastI v193 (((nI 25) * x4_42) + x5_55) x6_192 <|
      rec55 (x5_55 + (nI 1))) fun k192 =>
    jif (x4_42 ≤ (nI 0)) (
      k192 (nI 0)) (
      jif (x5_55 ≤ (nI 0)) (
        k192 (nI 0)) (
        jex fun n84 => jit (FX11_alike_84 this p1 p2 x4_42 x5_55 (fun (y7_133 : Int32) =>
            jjoin (α := Int32 → JP) (fun (s0_190 : Int32) =>
              k192 s0_190) fun k190 =>
            jif (y7_133 = (nI 0)) (
              jgetA 11 this 50 fun v160 =>
              jaldI 0 v160 (((nI 25) * (x4_42 - (nI 1))) + x5_55) fun v172 =>
              jgetA 11 this 50 fun v174 =>
              jaldI 0 v174 ((((nI 25) * x4_42) + x5_55) - (nI 1)) fun v186 =>
              k190 (jmax v172 v186)) (
              jgetA 11 this 50 fun v140 =>
              jaldI 0 v140 ((((nI 25) * (x4_42 - (nI 1))) + x5_55) - (nI 1)) fun v154 =>
              k190 ((nI 1) + v154)))) (fun _ _ => jbot) n84 (nI 1) (nI 0))))
def FX11_alike_42 (this : Nat) (p1 : Int32) (p2 : Int32) (k218 : JP) (rec42 : Int32 → JP) (x4_42 : Int32) : JP :=
  jobj 11 this <|
  JX11_notes this p1 fun v46 =>
  jif (v46 < x4_42) (
    k218) (
    jex fun n55 => jit (FX11_alike_55 this p1 p2 x4_42 (
        rec42 (x4_42 + (nI 1)))) (fun _ => jbot) n55 (nI 0))
def JX11_alike (this : Nat) (p1 : Int32) (p2 : Int32) (Qj : Int32 → JP) : JP :=
  jput 11 this 0 (.int (nI 0)) <|
  jobj 11 this <|
  JX11_noBook this p1 fun v8 =>
  jjoin (α := Int32 → JP) (fun (s1_27 : Int32) =>
    jobj 11 this <|
    JX11_throwsIf this s1_27 (nI 1) fun v28 =>
    jif (v28 = (nI 0)) (
      jex fun n42 => jit (FX11_alike_42 this p1 p2 (
          jgetA 11 this 50 fun v219 =>
          jobj 11 this <|
          JX11_notes this p1 fun v225 =>
          jobj 11 this <|
          JX11_notes this p2 fun v231 =>
          jaldI 0 v219 (((nI 25) * v225) + v231) fun v235 =>
          Qj v235)) (fun _ => jbot) n42 (nI 0)) (
      Qj (nI 0))) fun k27 =>
  jjoin (α := JP) (
    k27 (nI 1)) fun k22 =>
  jif (v8 = (nI 0)) (
    jobj 11 this <|
    JX11_noBook this p2 fun v16 =>
    jif (v16 = (nI 0)) (
      k27 (nI 0)) (
      k22)) (
    k22)
def JX1_way (bc : Nat) (bs : Nat) (this : Nat) (p1 : Int32) (Ex : Nat → Nat → JP) (Qj : Int32 → JP) : JP :=
  jbud bc bs fun mc2 ms2 =>
  jobj 1 this <|
  JX1_bookAt mc2 ms2 this p1 Ex fun v2 =>
  jgetI 9 v2 1 fun v7 =>
  jput 9 v2 1 (.int (nI 0)) <|
  jgetA 1 this 4 fun v17 =>
  jobj 10 v17 <|
  JX10_least v17 (jshl (nI 1) p1) fun v23 =>
  jput 9 v2 1 (.int (nI 1)) <|
  jgetA 1 this 4 fun v34 =>
  jobj 10 v34 <|
  JX10_least v34 (jshl (nI 1) p1) fun v40 =>
  jput 9 v2 1 (.int v7) <|
  jif (v23 = (-2)) (
    Qj (-2)) (
    jif (v40 = (-2)) (
      Qj (-2)) (
      jjoin (α := Int32 → JP) (fun (s0_81 : Int32) =>
        jjoin (α := Int32 → JP) (fun (s0_97 : Int32) =>
          jif (s0_81 = s0_97) (
            Qj (-3)) (
            jif (s0_97 ≤ s0_81) (
              Qj (nI 1)) (
              Qj (nI 0)))) fun k97 =>
        jif (v40 = (-1)) (
          k97 (nI 1000000)) (
          k97 v40)) fun k81 =>
      jif (v23 = (-1)) (
        k81 (nI 1000000)) (
        k81 v23)))
def JX0_way (bc : Nat) (bs : Nat) (p0 : Nat) (p1 : Int32) (p2 : Nat) (Qj : Int32 → JP) : JP :=
  jbud bc bs fun mc4 ms4 =>
  jobj 1 p0 <|
  JX1_way mc4 ms4 p0 p1 (fun (xx4 xq4 : Nat) =>
    jif (xx4 = 2) (
      Qj (nI 1)) <|
    jbot) fun v4 =>
  jastL p2 (nI 0) (Int32.toInt64 v4) <|
  Qj (nI 0)
def JX11_way (this : Nat) (p1 : Int32) (Qj : Int32 → JP) : JP :=
  jput 11 this 0 (.int (nI 0)) <|
  jobj 11 this <|
  JX11_noBook this p1 fun v8 =>
  jobj 11 this <|
  JX11_throwsIf this v8 (nI 1) fun v12 =>
  jif (v12 = (nI 0)) (
    jobj 11 this <|
    JX11_asksAll this <|
    jput 11 this 18 (.int (jshl (nI 1) p1)) <|
    jgetA 11 this 19 fun v32 =>
    jastI v32 p1 (nI 0) <|
    jobj 11 this <|
    JX11_asks this fun v39 =>
    jgetA 11 this 19 fun v44 =>
    jastI v44 p1 (nI 1) <|
    jobj 11 this <|
    JX11_asks this fun v51 =>
    jif (v39 = (-2)) (
      Qj (-2)) (
      jif (v51 = (-2)) (
        Qj (-2)) (
        jjoin (α := Int32 → JP) (fun (s0_81 : Int32) =>
          jjoin (α := Int32 → JP) (fun (s0_94 : Int32) =>
            jif (s0_94 ≤ s0_81) (
              jif (s0_81 ≤ s0_94) (
                Qj (-3)) (
                Qj (nI 1))) (
              Qj (nI 0))) fun k94 =>
          jif ((nI 0) ≤ v51) (
            k94 v51) (
            k94 (nI 1000))) fun k81 =>
        jif ((nI 0) ≤ v39) (
          k81 v39) (
          k81 (nI 1000))))) (
    Qj (nI 0))
def JX1_cheaper (bc : Nat) (bs : Nat) (this : Nat) (p1 : Int32) (Ex : Nat → Nat → JP) (Qj : Int32 → JP) : JP :=
  jbud bc bs fun mc1 ms1 =>
  JX1_isSlip mc1 ms1 p1 Ex <|
  jobj 1 this <|
  JX1_reads this fun v5 =>
  jif ((nI 0) ≤ v5) (
    jgetA 1 this 1 fun v17 =>
    jgetA 7 v17 4 fun v20 =>
    jaldI 0 v20 p1 fun v24 =>
    jif ((nI 2) ≤ v24) (
      jgetA 1 this 1 fun v34 =>
      jgetA 7 v34 4 fun v37 =>
      jastI v37 p1 (nI 1) <|
      jgetA 1 this 4 fun v44 =>
      jobj 1 this <|
      JX1_allBooks this fun v48 =>
      jobj 10 v44 <|
      JX10_least v44 v48 fun v51 =>
      jgetA 1 this 1 fun v56 =>
      jgetA 7 v56 4 fun v59 =>
      jastI v59 p1 v24 <|
      jif ((nI 0) ≤ v51) (
        jgetI 1 this 14 fun v74 =>
        Qj (v74 - v51)) (
        Qj v51)) (
      Qj (nI 0))) (
    jgetI 1 this 14 fun v12 =>
    Qj v12)
def JX0_cheaper (bc : Nat) (bs : Nat) (p0 : Nat) (p1 : Int32) (p2 : Nat) (Qj : Int32 → JP) : JP :=
  jbud bc bs fun mc4 ms4 =>
  jobj 1 p0 <|
  JX1_cheaper mc4 ms4 p0 p1 (fun (xx4 xq4 : Nat) =>
    jif (xx4 = 2) (
      Qj (nI 1)) <|
    jbot) fun v4 =>
  jastL p2 (nI 0) (Int32.toInt64 v4) <|
  Qj (nI 0)
def JX11_cheaper (this : Nat) (p1 : Int32) (Qj : Int32 → JP) : JP :=
  jput 11 this 0 (.int (nI 0)) <|
  JX11_in p1 (nI 1) (nI 7) fun v10 =>
  jjoin (α := Int32 → JP) (fun (s1_21 : Int32) =>
    jobj 11 this <|
    JX11_throwsIf this s1_21 (nI 1) fun v22 =>
    jif (v22 = (nI 0)) (
      jobj 11 this <|
      JX11_asksWhole this fun v31 =>
      jjoin (α := JP) (
        Qj (jmin (nI 0) v31)) fun k51 =>
      jif (v31 < (nI 0)) (
        k51) (
        jgetA 11 this 1 fun v40 =>
        jaldI 0 v40 ((nI 5) + p1) fun v46 =>
        jif ((nI 2) ≤ v46) (
          jgetA 11 this 20 fun v58 =>
          jastI v58 p1 (nI 1) <|
          jobj 11 this <|
          JX11_asks this fun v65 =>
          jif ((nI 0) ≤ v65) (
            Qj (v31 - v65)) (
            Qj v65)) (
          k51))) (
      Qj (nI 0))) fun k21 =>
  jif (v10 = (nI 0)) (
    k21 (nI 1)) (
    k21 (nI 0))
def JX9_be (this : Nat) (p1 : Nat) (Qj : JP) : JP :=
  jgetA 9 p1 0 fun v1 =>
  jgetA 9 this 0 fun v6 =>
  jcpyA 10 v1 (nI 0) v6 (nI 0) (nI 24) <|
  jgetI 9 p1 1 fun v17 =>
  jput 9 this 1 (.int v17) <|
  jgetI 9 p1 2 fun v25 =>
  jput 9 this 2 (.int v25) <|
  Qj
def FX7_be_27 (this : Nat) (p1 : Nat) (k53 : JP) (rec27 : Int32 → JP) (x2_27 : Int32) : JP :=
  jif ((nI 3) ≤ x2_27) (
    k53) (
    jgetA 7 this 2 fun v33 =>
    jaldA 8 v33 x2_27 fun v37 =>
    jgetA 7 p1 2 fun v39 =>
    jaldA 8 v39 x2_27 fun v43 =>
    jobj 9 v37 <|
    JX9_be v37 v43 <|
    rec27 (x2_27 + (nI 1)))
def JX7_be (this : Nat) (p1 : Nat) (Qj : JP) : JP :=
  jgetA 7 p1 0 fun v1 =>
  jgetA 7 this 0 fun v6 =>
  jcpyA 7 v1 (nI 0) v6 (nI 0) (nI 5) <|
  jgetA 7 this 1 fun v15 =>
  jgetA 7 p1 1 fun v19 =>
  jobj 8 v15 <|
  JX8_be v15 v19 <|
  jex fun n27 => jit (FX7_be_27 this p1 (
      jgetA 7 p1 3 fun v54 =>
      jgetA 7 this 3 fun v59 =>
      jcpyA 9 v54 (nI 0) v59 (nI 0) (nI 10) <|
      jgetA 7 p1 4 fun v69 =>
      jgetA 7 this 4 fun v74 =>
      jcpyI v69 (nI 0) v74 (nI 0) (nI 8) <|
      jgetO 7 p1 5 fun v85 =>
      jput 7 this 5 (va_rf v85) <|
      jgetI 7 p1 6 fun v93 =>
      jput 7 this 6 (.int v93) <|
      jgetI 7 p1 7 fun v101 =>
      jput 7 this 7 (.int v101) <|
      jgetI 7 p1 8 fun v109 =>
      jput 7 this 8 (.int v109) <|
      jgetI 7 p1 9 fun v117 =>
      jput 7 this 9 (.int v117) <|
      Qj)) (fun _ => jbot) n27 (nI 0)
def JX1_image (this : Nat) (Qj : JP) : JP :=
  jgetA 1 this 2 fun v1 =>
  jgetA 1 this 1 fun v5 =>
  jobj 7 v1 <|
  JX7_be v1 v5 <|
  jputZ 1 this 17 (nI 1) <|
  Qj
def FX11_image_7 (this : Nat) (k32 : JP) (rec7 : Int32 → JP) (x1_7 : Int32) : JP :=
  jif ((nI 1284) ≤ x1_7) (
    k32) (
    jgetA 11 this 2 fun v15 =>
    jgetA 11 this 1 fun v20 =>
    jaldI 0 v20 x1_7 fun v24 =>
    jastI v15 x1_7 v24 <|
    rec7 (x1_7 + (nI 1)))
def JX11_image (this : Nat) (Qj : JP) : JP :=
  jput 11 this 0 (.int (nI 0)) <|
  jex fun n7 => jit (FX11_image_7 this (
      jputZ 11 this 3 (nI 1) <|
      Qj)) (fun _ => jbot) n7 (nI 0)
def JX1_back (this : Nat) (Qj : Int32 → JP) : JP :=
  jgetI 1 this 17 fun v1 =>
  jif (v1 = (nI 0)) (
    Qj (nI 0)) (
    jgetA 1 this 1 fun v10 =>
    jgetA 1 this 2 fun v14 =>
    jobj 7 v10 <|
    JX7_be v10 v14 <|
    jputZ 1 this 16 (nI 0) <|
    Qj (nI 1))
def FX11_back_16 (this : Nat) (Qj : Int32 → JP) (rec16 : Int32 → JP) (x1_16 : Int32) : JP :=
  jif ((nI 1284) ≤ x1_16) (
    Qj (nI 1)) (
    jgetA 11 this 1 fun v24 =>
    jgetA 11 this 2 fun v29 =>
    jaldI 0 v29 x1_16 fun v33 =>
    jastI v24 x1_16 v33 <|
    rec16 (x1_16 + (nI 1)))
def JX11_back (this : Nat) (Qj : Int32 → JP) : JP :=
  jput 11 this 0 (.int (nI 0)) <|
  jgetI 11 this 3 fun v6 =>
  jif (v6 = (nI 0)) (
    Qj (nI 0)) (
    jex fun n16 => jit (FX11_back_16 this Qj) (fun _ => jbot) n16 (nI 0))
def FX1_count_90 (this : Nat) (Qj : Int32 → JP) (rec90 : Int32 → Int32 → JP) (x2_90 : Int32) (x3_90 : Int32) : JP :=
  jgetA 1 this 1 fun v92 =>
  jgetI 7 v92 7 fun v95 =>
  jif (v95 ≤ x3_90) (
    Qj x2_90) (
    jgetA 1 this 1 fun v103 =>
    jgetA 7 v103 2 fun v106 =>
    jaldA 8 v106 x3_90 fun v110 =>
    jgetI 9 v110 2 fun v111 =>
    rec90 (x2_90 + v111) (x3_90 + (nI 1)))
def FX1_count_164 (this : Nat) (Qj : Int32 → JP) (rec164 : Int32 → Int32 → JP) (x2_164 : Int32) (x3_164 : Int32) : JP :=
  jif ((nI 36) ≤ x3_164) (
    Qj x2_164) (
    jgetA 1 this 1 fun v172 =>
    jgetA 7 v172 1 fun v175 =>
    jgetA 8 v175 0 fun v178 =>
    jaldI 0 v178 x3_164 fun v182 =>
    jjoin (α := Int32 → JP) (fun (s1_214 : Int32) =>
      rec164 (x2_164 + s1_214) (x3_164 + (nI 1))) fun k214 =>
    jif (v182 = (-1)) (
      k214 (nI 0)) (
      jgetA 1 this 1 fun v192 =>
      jgetA 7 v192 0 fun v195 =>
      jgetA 1 this 1 fun v199 =>
      jgetA 7 v199 1 fun v202 =>
      jgetA 8 v202 0 fun v205 =>
      jaldI 0 v205 x3_164 fun v209 =>
      jaldA 7 v195 v209 fun v210 =>
      jgetI 12 v210 0 fun v211 =>
      k214 v211))
def JX1_count (this : Nat) (p1 : Int32) (Qj : Int32 → JP) : JP :=
  jif (p1 = (nI 0)) (
    jgetA 1 this 1 fun v49 =>
    jgetI 7 v49 6 fun v52 =>
    Qj v52) <|
  jif (p1 = (nI 1)) (
    jgetA 1 this 1 fun v57 =>
    jgetA 7 v57 1 fun v60 =>
    jobj 8 v60 <|
    JX8_men v60 (nI 0) fun v64 =>
    jgetA 1 this 1 fun v68 =>
    jgetA 7 v68 1 fun v71 =>
    jobj 8 v71 <|
    JX8_men v71 (nI 1) fun v75 =>
    Qj (v64 + v75)) <|
  jif (p1 = (nI 2)) (
    jgetA 1 this 1 fun v81 =>
    jgetI 7 v81 7 fun v84 =>
    Qj v84) <|
  jif (p1 = (nI 3)) (
    jex fun n90 => jit (FX1_count_90 this Qj) (fun _ _ => jbot) n90 (nI 0) (nI 0)) <|
  jif (p1 = (nI 4)) (
    jgetA 1 this 1 fun v125 =>
    jgetI 7 v125 8 fun v128 =>
    Qj v128) <|
  jif (p1 = (nI 5)) (
    jgetA 1 this 1 fun v133 =>
    jgetI 7 v133 9 fun v136 =>
    Qj v136) <|
  jif (p1 = (nI 6)) (
    jobj 1 this <|
    JX1_reads this fun v141 =>
    jif (v141 = (-2)) (
      Qj (-2)) (
      jgetA 1 this 3 fun v155 =>
      jgetI 10 v155 13 fun v158 =>
      Qj v158)) <|
  jif (p1 = (nI 7)) (
    jex fun n164 => jit (FX1_count_164 this Qj) (fun _ _ => jbot) n164 (nI 0) (nI 0)) <|
  Qj (-1)
def FX11_count_65 (this : Nat) (Qj : Int32 → JP) (rec65 : Int32 → Int32 → JP) (x2_65 : Int32) (x3_65 : Int32) : JP :=
  jif ((nI 36) ≤ x3_65) (
    Qj x2_65) (
    jgetA 11 this 1 fun v73 =>
    jaldI 0 v73 ((nI 13) + x3_65) fun v80 =>
    jjoin (α := Int32 → JP) (fun (s1_89 : Int32) =>
      rec65 (x2_65 + s1_89) (x3_65 + (nI 1))) fun k89 =>
    jif (v80 < (nI 0)) (
      k89 (nI 0)) (
      k89 (nI 1)))
def FX11_count_108 (this : Nat) (Qj : Int32 → JP) (rec108 : Int32 → Int32 → JP) (x2_108 : Int32) (x3_108 : Int32) : JP :=
  jgetA 11 this 1 fun v110 =>
  jaldI 0 v110 (nI 1) fun v114 =>
  jif (v114 ≤ x3_108) (
    Qj x2_108) (
    jobj 11 this <|
    JX11_notes this x3_108 fun v121 =>
    rec108 (x2_108 + v121) (x3_108 + (nI 1)))
def FX11_count_172 (this : Nat) (Qj : Int32 → JP) (rec172 : Int32 → Int32 → JP) (x2_172 : Int32) (x3_172 : Int32) : JP :=
  jif ((nI 36) ≤ x3_172) (
    Qj x2_172) (
    jgetA 11 this 1 fun v180 =>
    jaldI 0 v180 ((nI 13) + x3_172) fun v187 =>
    jjoin (α := Int32 → JP) (fun (s1_210 : Int32) =>
      rec172 (x2_172 + s1_210) (x3_172 + (nI 1))) fun k210 =>
    jif (v187 < (nI 0)) (
      k210 (nI 0)) (
      jgetA 11 this 1 fun v193 =>
      jaldI 0 v193 ((nI 13) + x3_172) fun v200 =>
      jobj 11 this <|
      JX11_valueOf this (v200 / (nI 2)) fun v203 =>
      k210 v203))
def JX11_count (this : Nat) (p1 : Int32) (Qj : Int32 → JP) : JP :=
  jput 11 this 0 (.int (nI 0)) <|
  jif (p1 = (nI 0)) (
    jgetA 11 this 1 fun v57 =>
    jaldI 0 v57 (nI 0) fun v61 =>
    Qj v61) <|
  jif (p1 = (nI 1)) (
    jex fun n65 => jit (FX11_count_65 this Qj) (fun _ _ => jbot) n65 (nI 0) (nI 0)) <|
  jif (p1 = (nI 2)) (
    jgetA 11 this 1 fun v100 =>
    jaldI 0 v100 (nI 1) fun v104 =>
    Qj v104) <|
  jif (p1 = (nI 3)) (
    jex fun n108 => jit (FX11_count_108 this Qj) (fun _ _ => jbot) n108 (nI 0) (nI 0)) <|
  jif (p1 = (nI 4)) (
    jgetA 11 this 1 fun v135 =>
    jaldI 0 v135 (nI 2) fun v139 =>
    Qj v139) <|
  jif (p1 = (nI 5)) (
    jgetA 11 this 1 fun v142 =>
    jaldI 0 v142 (nI 3) fun v146 =>
    Qj v146) <|
  jif (p1 = (nI 6)) (
    jobj 11 this <|
    JX11_asksWhole this fun v149 =>
    jgetI 11 this 29 fun v154 =>
    jif (v154 = (nI 0)) (
      jgetI 11 this 27 fun v166 =>
      Qj v166) (
      Qj (-2))) <|
  jif (p1 = (nI 7)) (
    jex fun n172 => jit (FX11_count_172 this Qj) (fun _ _ => jbot) n172 (nI 0) (nI 0)) <|
  Qj (-1)
def FL_law_23 (sK : Nat → Nat) (xs : Nat → Int32) (Ln : Nat) (Qj : Int32 → JP) (v0 : Nat) (v8 : Nat) (v17 : Nat) (rec23 : Int32 → Nat → Nat → JP) (x4_23 : Int32) (bc_23 : Nat) (bs_23 : Nat) : JP :=
  jif (((nI Ln) - (nI 7)) < x4_23) (
    Qj (nI 1)) (
    jscr Ln xs x4_23 fun v36 =>
    jjoin (α := Nat → Nat → JP) (fun (bc_2055 : Nat) (bs_2055 : Nat) =>
      rec23 (x4_23 + (nI 7)) bc_2055 bs_2055) fun k2055 =>
    jif ((v36 &&& (nI 63)) = (nI 0)) (
      jscr Ln xs (x4_23 + (nI 1)) fun v194 =>
      jscr Ln xs (x4_23 + (nI 2)) fun v200 =>
      jscr Ln xs (x4_23 + (nI 3)) fun v206 =>
      jscr Ln xs (x4_23 + (nI 4)) fun v212 =>
      jscr Ln xs (x4_23 + (nI 5)) fun v218 =>
      jobj 1 v0 <|
      JX1_feed v0 v194 v200 v206 v212 v218 fun v219 =>
      jscr Ln xs (x4_23 + (nI 1)) fun v228 =>
      jscr Ln xs (x4_23 + (nI 2)) fun v234 =>
      jscr Ln xs (x4_23 + (nI 3)) fun v240 =>
      jscr Ln xs (x4_23 + (nI 4)) fun v246 =>
      jscr Ln xs (x4_23 + (nI 5)) fun v252 =>
      jobj 11 v8 <|
      JX11_feed v8 v228 v234 v240 v246 v252 fun v253 =>
      jif (v219 = v253) (
        k2055 bc_23 bs_23) (
        Qj (nI 0))) <|
    jif ((v36 &&& (nI 63)) = (nI 1)) (
      jscr Ln xs (x4_23 + (nI 1)) fun v267 =>
      jobj 1 v0 <|
      JX1_end v0 v267 fun v268 =>
      jscr Ln xs (x4_23 + (nI 1)) fun v277 =>
      jobj 11 v8 <|
      JX11_end v8 v277 fun v278 =>
      jif (v268 = v278) (
        k2055 bc_23 bs_23) (
        Qj (nI 0))) <|
    jif ((v36 &&& (nI 63)) = (nI 2)) (
      jscr Ln xs (x4_23 + (nI 1)) fun v292 =>
      jbud bc_23 bs_23 fun mc294 ms294 =>
      JX0_kind sK mc294 ms294 v0 v292 v17 fun v294 =>
      jscr Ln xs (x4_23 + (nI 1)) fun v305 =>
      jobj 11 v8 <|
      JX11_kind sK v8 v305 fun v306 =>
      jobj 11 v8 <|
      JX11_thrown v8 fun v312 =>
      jif (v312 = v294) (
        jjoin (α := JP) (
          k2055 (bc_23 - mc294) (bs_23 - ms294)) fun k339 =>
        jif (v294 = (nI 0)) (
          jaldL v17 (nI 0) fun v329 =>
          jif ((lg_cmp v329 (Int32.toInt64 v306)) = (nI 0)) (
            k339) (
            Qj (nI 0))) (
          k339)) (
        Qj (nI 0))) <|
    jif ((v36 &&& (nI 63)) = (nI 3)) (
      jbud bc_23 bs_23 fun mc344 ms344 =>
      JX0_measure sK mc344 ms344 v0 v17 fun v344 =>
      jobj 11 v8 <|
      JX11_measure sK v8 fun v350 =>
      jobj 11 v8 <|
      JX11_thrown v8 fun v356 =>
      jif (v356 = v344) (
        jjoin (α := JP) (
          k2055 (bc_23 - mc344) (bs_23 - ms344)) fun k383 =>
        jif (v344 = (nI 0)) (
          jaldL v17 (nI 0) fun v373 =>
          jif ((lg_cmp v373 (Int32.toInt64 v350)) = (nI 0)) (
            k383) (
            Qj (nI 0))) (
          k383)) (
        Qj (nI 0))) <|
    jif ((v36 &&& (nI 63)) = (nI 4)) (
      jobj 1 v0 <|
      JX1_fault v0 fun v387 =>
      jobj 11 v8 <|
      JX11_fault v8 fun v391 =>
      jif (v387 = v391) (
        k2055 bc_23 bs_23) (
        Qj (nI 0))) <|
    jif ((v36 &&& (nI 63)) = (nI 5)) (
      jscr Ln xs (x4_23 + (nI 1)) fun v405 =>
      jscr Ln xs (x4_23 + (nI 2)) fun v411 =>
      jscr Ln xs (x4_23 + (nI 3)) fun v417 =>
      jbud bc_23 bs_23 fun mc418 ms418 =>
      JX0_put mc418 ms418 v0 v405 v411 v417 fun v418 =>
      jscr Ln xs (x4_23 + (nI 1)) fun v429 =>
      jscr Ln xs (x4_23 + (nI 2)) fun v435 =>
      jscr Ln xs (x4_23 + (nI 3)) fun v441 =>
      jobj 11 v8 <|
      JX11_put v8 v429 v435 v441 <|
      jobj 11 v8 <|
      JX11_thrown v8 fun v446 =>
      jif (v446 = v418) (
        k2055 (bc_23 - mc418) (bs_23 - ms418)) (
        Qj (nI 0))) <|
    jif ((v36 &&& (nI 63)) = (nI 6)) (
      jscr Ln xs (x4_23 + (nI 1)) fun v465 =>
      jscr Ln xs (x4_23 + (nI 2)) fun v471 =>
      jbud bc_23 bs_23 fun mc473 ms473 =>
      JX0_moves mc473 ms473 v0 v465 v471 v17 fun v473 =>
      jscr Ln xs (x4_23 + (nI 1)) fun v484 =>
      jscr Ln xs (x4_23 + (nI 2)) fun v490 =>
      jobj 11 v8 <|
      JX11_moves v8 v484 v490 fun v491 =>
      jobj 11 v8 <|
      JX11_thrown v8 fun v497 =>
      jif (v497 = v473) (
        jjoin (α := JP) (
          k2055 (bc_23 - mc473) (bs_23 - ms473)) fun k524 =>
        jif (v473 = (nI 0)) (
          jaldL v17 (nI 0) fun v514 =>
          jif ((lg_cmp v514 (Int32.toInt64 v491)) = (nI 0)) (
            k524) (
            Qj (nI 0))) (
          k524)) (
        Qj (nI 0))) <|
    jif ((v36 &&& (nI 63)) = (nI 7)) (
      jscr Ln xs (x4_23 + (nI 1)) fun v533 =>
      jbud bc_23 bs_23 fun mc535 ms535 =>
      JX0_book mc535 ms535 v0 v533 v17 fun v535 =>
      jscr Ln xs (x4_23 + (nI 1)) fun v546 =>
      jobj 11 v8 <|
      JX11_book v8 v546 fun v547 =>
      jobj 11 v8 <|
      JX11_thrown v8 fun v553 =>
      jif (v553 = v535) (
        jjoin (α := JP) (
          k2055 (bc_23 - mc535) (bs_23 - ms535)) fun k580 =>
        jif (v535 = (nI 0)) (
          jaldL v17 (nI 0) fun v570 =>
          jif ((lg_cmp v570 (Int32.toInt64 v547)) = (nI 0)) (
            k580) (
            Qj (nI 0))) (
          k580)) (
        Qj (nI 0))) <|
    jif ((v36 &&& (nI 63)) = (nI 8)) (
      jscr Ln xs (x4_23 + (nI 1)) fun v589 =>
      jscr Ln xs (x4_23 + (nI 2)) fun v595 =>
      jscr Ln xs (x4_23 + (nI 3)) fun v601 =>
      jscr Ln xs (x4_23 + (nI 4)) fun v607 =>
      jscr Ln xs (x4_23 + (nI 5)) fun v613 =>
      jbud bc_23 bs_23 fun mc615 ms615 =>
      JX0_note mc615 ms615 v0 v589 v595 v601 v607 v613 v17 fun v615 =>
      jscr Ln xs (x4_23 + (nI 1)) fun v626 =>
      jscr Ln xs (x4_23 + (nI 2)) fun v632 =>
      jscr Ln xs (x4_23 + (nI 3)) fun v638 =>
      jscr Ln xs (x4_23 + (nI 4)) fun v644 =>
      jscr Ln xs (x4_23 + (nI 5)) fun v650 =>
      jobj 11 v8 <|
      JX11_note v8 v626 v632 v638 v644 v650 fun v651 =>
      jobj 11 v8 <|
      JX11_thrown v8 fun v657 =>
      jif (v657 = v615) (
        jjoin (α := JP) (
          k2055 (bc_23 - mc615) (bs_23 - ms615)) fun k684 =>
        jif (v615 = (nI 0)) (
          jaldL v17 (nI 0) fun v674 =>
          jif ((lg_cmp v674 (Int32.toInt64 v651)) = (nI 0)) (
            k684) (
            Qj (nI 0))) (
          k684)) (
        Qj (nI 0))) <|
    jif ((v36 &&& (nI 63)) = (nI 9)) (
      jscr Ln xs (x4_23 + (nI 1)) fun v693 =>
      jscr Ln xs (x4_23 + (nI 2)) fun v699 =>
      jscr Ln xs (x4_23 + (nI 3)) fun v705 =>
      jscr Ln xs (x4_23 + (nI 4)) fun v711 =>
      jscr Ln xs (x4_23 + (nI 5)) fun v717 =>
      jscr Ln xs (x4_23 + (nI 6)) fun v724 =>
      jbud bc_23 bs_23 fun mc726 ms726 =>
      JX0_change mc726 ms726 v0 v693 v699 v705 v711 v717 v724 v17 fun v726 =>
      jscr Ln xs (x4_23 + (nI 1)) fun v737 =>
      jscr Ln xs (x4_23 + (nI 2)) fun v743 =>
      jscr Ln xs (x4_23 + (nI 3)) fun v749 =>
      jscr Ln xs (x4_23 + (nI 4)) fun v755 =>
      jscr Ln xs (x4_23 + (nI 5)) fun v761 =>
      jscr Ln xs (x4_23 + (nI 6)) fun v768 =>
      jobj 11 v8 <|
      JX11_change v8 v737 v743 v749 v755 v761 v768 fun v769 =>
      jobj 11 v8 <|
      JX11_thrown v8 fun v775 =>
      jif (v775 = v726) (
        jjoin (α := JP) (
          k2055 (bc_23 - mc726) (bs_23 - ms726)) fun k809 =>
        jif (v726 = (nI 0)) (
          jaldL v17 (nI 0) fun v792 =>
          jjoin (α := Int64 → JP) (fun (s1_803 : Int64) =>
            jif ((lg_cmp v792 s1_803) = (nI 0)) (
              k809) (
              Qj (nI 0))) fun k803 =>
          jif (v769 = (nI 0)) (
            k803 (lN 0)) (
            k803 (lN 1))) (
          k809)) (
        Qj (nI 0))) <|
    jif ((v36 &&& (nI 63)) = (nI 10)) (
      jscr Ln xs (x4_23 + (nI 1)) fun v818 =>
      jscr Ln xs (x4_23 + (nI 2)) fun v824 =>
      jscr Ln xs (x4_23 + (nI 3)) fun v830 =>
      jbud bc_23 bs_23 fun mc832 ms832 =>
      JX0_look mc832 ms832 v0 v818 v824 v830 v17 fun v832 =>
      jscr Ln xs (x4_23 + (nI 1)) fun v843 =>
      jscr Ln xs (x4_23 + (nI 2)) fun v849 =>
      jscr Ln xs (x4_23 + (nI 3)) fun v855 =>
      jobj 11 v8 <|
      JX11_look v8 v843 v849 v855 fun v856 =>
      jobj 11 v8 <|
      JX11_thrown v8 fun v862 =>
      jif (v862 = v832) (
        jjoin (α := JP) (
          k2055 (bc_23 - mc832) (bs_23 - ms832)) fun k889 =>
        jif (v832 = (nI 0)) (
          jaldL v17 (nI 0) fun v879 =>
          jif ((lg_cmp v879 (Int32.toInt64 v856)) = (nI 0)) (
            k889) (
            Qj (nI 0))) (
          k889)) (
        Qj (nI 0))) <|
    jif ((v36 &&& (nI 63)) = (nI 11)) (
      jscr Ln xs (x4_23 + (nI 1)) fun v898 =>
      jscr Ln xs (x4_23 + (nI 2)) fun v904 =>
      jscr Ln xs (x4_23 + (nI 3)) fun v910 =>
      jscr Ln xs (x4_23 + (nI 4)) fun v916 =>
      jbud bc_23 bs_23 fun mc918 ms918 =>
      JX0_write mc918 ms918 v0 v898 v904 v910 v916 v17 fun v918 =>
      jscr Ln xs (x4_23 + (nI 1)) fun v929 =>
      jscr Ln xs (x4_23 + (nI 2)) fun v935 =>
      jscr Ln xs (x4_23 + (nI 3)) fun v941 =>
      jscr Ln xs (x4_23 + (nI 4)) fun v947 =>
      jobj 11 v8 <|
      JX11_write v8 v929 v935 v941 v947 fun v948 =>
      jobj 11 v8 <|
      JX11_thrown v8 fun v954 =>
      jif (v954 = v918) (
        jjoin (α := JP) (
          k2055 (bc_23 - mc918) (bs_23 - ms918)) fun k981 =>
        jif (v918 = (nI 0)) (
          jaldL v17 (nI 0) fun v971 =>
          jif ((lg_cmp v971 (Int32.toInt64 v948)) = (nI 0)) (
            k981) (
            Qj (nI 0))) (
          k981)) (
        Qj (nI 0))) <|
    jif ((v36 &&& (nI 63)) = (nI 12)) (
      jscr Ln xs (x4_23 + (nI 1)) fun v990 =>
      jscr Ln xs (x4_23 + (nI 2)) fun v996 =>
      jbud bc_23 bs_23 fun mc998 ms998 =>
      JX0_price mc998 ms998 v0 v990 v996 v17 fun v998 =>
      jscr Ln xs (x4_23 + (nI 1)) fun v1009 =>
      jscr Ln xs (x4_23 + (nI 2)) fun v1015 =>
      jobj 11 v8 <|
      JX11_price v8 v1009 v1015 fun v1016 =>
      jobj 11 v8 <|
      JX11_thrown v8 fun v1022 =>
      jif (v1022 = v998) (
        jjoin (α := JP) (
          k2055 (bc_23 - mc998) (bs_23 - ms998)) fun k1049 =>
        jif (v998 = (nI 0)) (
          jaldL v17 (nI 0) fun v1039 =>
          jif ((lg_cmp v1039 (Int32.toInt64 v1016)) = (nI 0)) (
            k1049) (
            Qj (nI 0))) (
          k1049)) (
        Qj (nI 0))) <|
    jif ((v36 &&& (nI 63)) = (nI 13)) (
      jscr Ln xs (x4_23 + (nI 1)) fun v1058 =>
      jbud bc_23 bs_23 fun mc1059 ms1059 =>
      JX0_length mc1059 ms1059 v0 v1058 fun v1059 =>
      jscr Ln xs (x4_23 + (nI 1)) fun v1070 =>
      jobj 11 v8 <|
      JX11_length v8 v1070 <|
      jobj 11 v8 <|
      JX11_thrown v8 fun v1075 =>
      jif (v1075 = v1059) (
        k2055 (bc_23 - mc1059) (bs_23 - ms1059)) (
        Qj (nI 0))) <|
    jif ((v36 &&& (nI 63)) = (nI 14)) (
      jscr Ln xs (x4_23 + (nI 1)) fun v1094 =>
      jscr Ln xs (x4_23 + (nI 2)) fun v1100 =>
      jscr Ln xs (x4_23 + (nI 3)) fun v1106 =>
      jscr Ln xs (x4_23 + (nI 4)) fun v1112 =>
      jbud bc_23 bs_23 fun mc1114 ms1114 =>
      JX0_picture mc1114 ms1114 v0 v1094 v1100 v1106 v1112 v17 fun v1114 =>
      jscr Ln xs (x4_23 + (nI 1)) fun v1125 =>
      jscr Ln xs (x4_23 + (nI 2)) fun v1131 =>
      jscr Ln xs (x4_23 + (nI 3)) fun v1137 =>
      jscr Ln xs (x4_23 + (nI 4)) fun v1143 =>
      jobj 11 v8 <|
      JX11_picture v8 v1125 v1131 v1137 v1143 fun v1144 =>
      jobj 11 v8 <|
      JX11_thrown v8 fun v1150 =>
      jif (v1150 = v1114) (
        jjoin (α := JP) (
          k2055 (bc_23 - mc1114) (bs_23 - ms1114)) fun k1177 =>
        jif (v1114 = (nI 0)) (
          jaldL v17 (nI 0) fun v1167 =>
          jif ((lg_cmp v1167 (Int32.toInt64 v1144)) = (nI 0)) (
            k1177) (
            Qj (nI 0))) (
          k1177)) (
        Qj (nI 0))) <|
    jif ((v36 &&& (nI 63)) = (nI 15)) (
      jobj 1 v0 <|
      JX1_least v0 fun v1181 =>
      jobj 11 v8 <|
      JX11_least v8 fun v1185 =>
      jif (v1181 = v1185) (
        k2055 bc_23 bs_23) (
        Qj (nI 0))) <|
    jif ((v36 &&& (nI 63)) = (nI 16)) (
      jobj 1 v0 <|
      JX1_many v0 fun v1194 =>
      jobj 11 v8 <|
      JX11_many v8 fun v1198 =>
      jif (v1194 = v1198) (
        k2055 bc_23 bs_23) (
        Qj (nI 0))) <|
    jif ((v36 &&& (nI 63)) = (nI 17)) (
      jscr Ln xs (x4_23 + (nI 1)) fun v1212 =>
      jbud bc_23 bs_23 fun mc1214 ms1214 =>
      JX0_read mc1214 ms1214 v0 v1212 v17 fun v1214 =>
      jscr Ln xs (x4_23 + (nI 1)) fun v1225 =>
      jobj 11 v8 <|
      JX11_read v8 v1225 fun v1226 =>
      jobj 11 v8 <|
      JX11_thrown v8 fun v1232 =>
      jif (v1232 = v1214) (
        jjoin (α := JP) (
          k2055 (bc_23 - mc1214) (bs_23 - ms1214)) fun k1259 =>
        jif (v1214 = (nI 0)) (
          jaldL v17 (nI 0) fun v1249 =>
          jif ((lg_cmp v1249 (Int32.toInt64 v1226)) = (nI 0)) (
            k1259) (
            Qj (nI 0))) (
          k1259)) (
        Qj (nI 0))) <|
    jif ((v36 &&& (nI 63)) = (nI 18)) (
      jscr Ln xs (x4_23 + (nI 1)) fun v1268 =>
      jbud bc_23 bs_23 fun mc1270 ms1270 =>
      JX0_readNext mc1270 ms1270 v0 v1268 v17 fun v1270 =>
      jscr Ln xs (x4_23 + (nI 1)) fun v1281 =>
      jobj 11 v8 <|
      JX11_readNext v8 v1281 fun v1282 =>
      jobj 11 v8 <|
      JX11_thrown v8 fun v1288 =>
      jif (v1288 = v1270) (
        jjoin (α := JP) (
          k2055 (bc_23 - mc1270) (bs_23 - ms1270)) fun k1315 =>
        jif (v1270 = (nI 0)) (
          jaldL v17 (nI 0) fun v1305 =>
          jif ((lg_cmp v1305 (Int32.toInt64 v1282)) = (nI 0)) (
            k1315) (
            Qj (nI 0))) (
          k1315)) (
        Qj (nI 0))) <|
    jif ((v36 &&& (nI 63)) = (nI 19)) (
      jscr Ln xs (x4_23 + (nI 1)) fun v1324 =>
      jscr Ln xs (x4_23 + (nI 2)) fun v1330 =>
      jbud bc_23 bs_23 fun mc1332 ms1332 =>
      JX0_slip mc1332 ms1332 v0 v1324 v1330 v17 fun v1332 =>
      jscr Ln xs (x4_23 + (nI 1)) fun v1343 =>
      jscr Ln xs (x4_23 + (nI 2)) fun v1349 =>
      jobj 11 v8 <|
      JX11_slip v8 v1343 v1349 fun v1350 =>
      jobj 11 v8 <|
      JX11_thrown v8 fun v1356 =>
      jif (v1356 = v1332) (
        jjoin (α := JP) (
          k2055 (bc_23 - mc1332) (bs_23 - ms1332)) fun k1383 =>
        jif (v1332 = (nI 0)) (
          jaldL v17 (nI 0) fun v1373 =>
          jif ((lg_cmp v1373 (Int32.toInt64 v1350)) = (nI 0)) (
            k1383) (
            Qj (nI 0))) (
          k1383)) (
        Qj (nI 0))) <|
    jif ((v36 &&& (nI 63)) = (nI 20)) (
      jscr Ln xs (x4_23 + (nI 1)) fun v1392 =>
      jscr Ln xs (x4_23 + (nI 2)) fun v1398 =>
      jbud bc_23 bs_23 fun mc1400 ms1400 =>
      JX0_slips mc1400 ms1400 v0 v1392 v1398 v17 fun v1400 =>
      jscr Ln xs (x4_23 + (nI 1)) fun v1411 =>
      jscr Ln xs (x4_23 + (nI 2)) fun v1417 =>
      jobj 11 v8 <|
      JX11_slips v8 v1411 v1417 fun v1418 =>
      jobj 11 v8 <|
      JX11_thrown v8 fun v1424 =>
      jif (v1424 = v1400) (
        jjoin (α := JP) (
          k2055 (bc_23 - mc1400) (bs_23 - ms1400)) fun k1451 =>
        jif (v1400 = (nI 0)) (
          jaldL v17 (nI 0) fun v1441 =>
          jif ((lg_cmp v1441 (Int32.toInt64 v1418)) = (nI 0)) (
            k1451) (
            Qj (nI 0))) (
          k1451)) (
        Qj (nI 0))) <|
    jif ((v36 &&& (nI 63)) = (nI 21)) (
      jscr Ln xs (x4_23 + (nI 1)) fun v1460 =>
      jbud bc_23 bs_23 fun mc1462 ms1462 =>
      JX0_breaks mc1462 ms1462 v0 v1460 v17 fun v1462 =>
      jscr Ln xs (x4_23 + (nI 1)) fun v1473 =>
      jobj 11 v8 <|
      JX11_breaks v8 v1473 fun v1474 =>
      jobj 11 v8 <|
      JX11_thrown v8 fun v1480 =>
      jif (v1480 = v1462) (
        jjoin (α := JP) (
          k2055 (bc_23 - mc1462) (bs_23 - ms1462)) fun k1507 =>
        jif (v1462 = (nI 0)) (
          jaldL v17 (nI 0) fun v1497 =>
          jif ((lg_cmp v1497 (Int32.toInt64 v1474)) = (nI 0)) (
            k1507) (
            Qj (nI 0))) (
          k1507)) (
        Qj (nI 0))) <|
    jif ((v36 &&& (nI 63)) = (nI 22)) (
      jscr Ln xs (x4_23 + (nI 1)) fun v1516 =>
      jbud bc_23 bs_23 fun mc1518 ms1518 =>
      JX0_brief mc1518 ms1518 v0 v1516 v17 fun v1518 =>
      jscr Ln xs (x4_23 + (nI 1)) fun v1529 =>
      jobj 11 v8 <|
      JX11_brief v8 v1529 fun v1530 =>
      jobj 11 v8 <|
      JX11_thrown v8 fun v1536 =>
      jif (v1536 = v1518) (
        jjoin (α := JP) (
          k2055 (bc_23 - mc1518) (bs_23 - ms1518)) fun k1563 =>
        jif (v1518 = (nI 0)) (
          jaldL v17 (nI 0) fun v1553 =>
          jif ((lg_cmp v1553 (Int32.toInt64 v1530)) = (nI 0)) (
            k1563) (
            Qj (nI 0))) (
          k1563)) (
        Qj (nI 0))) <|
    jif ((v36 &&& (nI 63)) = (nI 23)) (
      jobj 1 v0 <|
      JX1_part v0 fun v1567 =>
      jobj 11 v8 <|
      JX11_part v8 fun v1571 =>
      jif (v1567 = v1571) (
        k2055 bc_23 bs_23) (
        Qj (nI 0))) <|
    jif ((v36 &&& (nI 63)) = (nI 24)) (
      jscr Ln xs (x4_23 + (nI 1)) fun v1585 =>
      jbud bc_23 bs_23 fun mc1587 ms1587 =>
      JX0_best mc1587 ms1587 v0 v1585 v17 fun v1587 =>
      jscr Ln xs (x4_23 + (nI 1)) fun v1598 =>
      jobj 11 v8 <|
      JX11_best v8 v1598 fun v1599 =>
      jobj 11 v8 <|
      JX11_thrown v8 fun v1605 =>
      jif (v1605 = v1587) (
        jjoin (α := JP) (
          k2055 (bc_23 - mc1587) (bs_23 - ms1587)) fun k1632 =>
        jif (v1587 = (nI 0)) (
          jaldL v17 (nI 0) fun v1622 =>
          jif ((lg_cmp v1622 (Int32.toInt64 v1599)) = (nI 0)) (
            k1632) (
            Qj (nI 0))) (
          k1632)) (
        Qj (nI 0))) <|
    jif ((v36 &&& (nI 63)) = (nI 25)) (
      jscr Ln xs (x4_23 + (nI 1)) fun v1641 =>
      jscr Ln xs (x4_23 + (nI 2)) fun v1647 =>
      jscr Ln xs (x4_23 + (nI 3)) fun v1653 =>
      jjoin (α := Int32 → JP) (fun (s3_1662 : Int32) =>
        jbud bc_23 bs_23 fun mc1663 ms1663 =>
        JX0_odds mc1663 ms1663 v0 v1641 v1647 s3_1662 v17 fun v1663 =>
        jscr Ln xs (x4_23 + (nI 1)) fun v1674 =>
        jscr Ln xs (x4_23 + (nI 2)) fun v1680 =>
        jscr Ln xs (x4_23 + (nI 3)) fun v1686 =>
        jjoin (α := Int32 → JP) (fun (s3_1695 : Int32) =>
          jobj 11 v8 <|
          JX11_odds v8 v1674 v1680 s3_1695 fun v1695 =>
          jobj 11 v8 <|
          JX11_thrown v8 fun v1701 =>
          jif (v1701 = v1663) (
            jjoin (α := JP) (
              k2055 (bc_23 - mc1663) (bs_23 - ms1663)) fun k1727 =>
            jif (v1663 = (nI 0)) (
              jaldL v17 (nI 0) fun v1718 =>
              jif ((lg_cmp v1718 v1695) = (nI 0)) (
                k1727) (
                Qj (nI 0))) (
              k1727)) (
            Qj (nI 0))) fun k1695 =>
        jif (v1686 = (nI 0)) (
          k1695 (nI 0)) (
          k1695 (nI 1))) fun k1662 =>
      jif (v1653 = (nI 0)) (
        k1662 (nI 0)) (
        k1662 (nI 1))) <|
    jif ((v36 &&& (nI 63)) = (nI 26)) (
      jscr Ln xs (x4_23 + (nI 1)) fun v1736 =>
      jscr Ln xs (x4_23 + (nI 2)) fun v1742 =>
      jscr Ln xs (x4_23 + (nI 3)) fun v1748 =>
      jjoin (α := Int32 → JP) (fun (s3_1757 : Int32) =>
        jbud bc_23 bs_23 fun mc1758 ms1758 =>
        JX0_shared mc1758 ms1758 v0 v1736 v1742 s3_1757 v17 fun v1758 =>
        jscr Ln xs (x4_23 + (nI 1)) fun v1769 =>
        jscr Ln xs (x4_23 + (nI 2)) fun v1775 =>
        jscr Ln xs (x4_23 + (nI 3)) fun v1781 =>
        jjoin (α := Int32 → JP) (fun (s3_1790 : Int32) =>
          jobj 11 v8 <|
          JX11_shared v8 v1769 v1775 s3_1790 fun v1790 =>
          jobj 11 v8 <|
          JX11_thrown v8 fun v1796 =>
          jif (v1796 = v1758) (
            jjoin (α := JP) (
              k2055 (bc_23 - mc1758) (bs_23 - ms1758)) fun k1823 =>
            jif (v1758 = (nI 0)) (
              jaldL v17 (nI 0) fun v1813 =>
              jif ((lg_cmp v1813 (Int32.toInt64 v1790)) = (nI 0)) (
                k1823) (
                Qj (nI 0))) (
              k1823)) (
            Qj (nI 0))) fun k1790 =>
        jif (v1781 = (nI 0)) (
          k1790 (nI 0)) (
          k1790 (nI 1))) fun k1757 =>
      jif (v1748 = (nI 0)) (
        k1757 (nI 0)) (
        k1757 (nI 1))) <|
    jif ((v36 &&& (nI 63)) = (nI 27)) (
      jscr Ln xs (x4_23 + (nI 1)) fun v1832 =>
      jscr Ln xs (x4_23 + (nI 2)) fun v1838 =>
      jbud bc_23 bs_23 fun mc1840 ms1840 =>
      JX0_alike mc1840 ms1840 v0 v1832 v1838 v17 fun v1840 =>
      jscr Ln xs (x4_23 + (nI 1)) fun v1851 =>
      jscr Ln xs (x4_23 + (nI 2)) fun v1857 =>
      jobj 11 v8 <|
      JX11_alike v8 v1851 v1857 fun v1858 =>
      jobj 11 v8 <|
      JX11_thrown v8 fun v1864 =>
      jif (v1864 = v1840) (
        jjoin (α := JP) (
          k2055 (bc_23 - mc1840) (bs_23 - ms1840)) fun k1891 =>
        jif (v1840 = (nI 0)) (
          jaldL v17 (nI 0) fun v1881 =>
          jif ((lg_cmp v1881 (Int32.toInt64 v1858)) = (nI 0)) (
            k1891) (
            Qj (nI 0))) (
          k1891)) (
        Qj (nI 0))) <|
    jif ((v36 &&& (nI 63)) = (nI 28)) (
      jscr Ln xs (x4_23 + (nI 1)) fun v1900 =>
      jbud bc_23 bs_23 fun mc1902 ms1902 =>
      JX0_way mc1902 ms1902 v0 v1900 v17 fun v1902 =>
      jscr Ln xs (x4_23 + (nI 1)) fun v1913 =>
      jobj 11 v8 <|
      JX11_way v8 v1913 fun v1914 =>
      jobj 11 v8 <|
      JX11_thrown v8 fun v1920 =>
      jif (v1920 = v1902) (
        jjoin (α := JP) (
          k2055 (bc_23 - mc1902) (bs_23 - ms1902)) fun k1947 =>
        jif (v1902 = (nI 0)) (
          jaldL v17 (nI 0) fun v1937 =>
          jif ((lg_cmp v1937 (Int32.toInt64 v1914)) = (nI 0)) (
            k1947) (
            Qj (nI 0))) (
          k1947)) (
        Qj (nI 0))) <|
    jif ((v36 &&& (nI 63)) = (nI 29)) (
      jscr Ln xs (x4_23 + (nI 1)) fun v1956 =>
      jbud bc_23 bs_23 fun mc1958 ms1958 =>
      JX0_cheaper mc1958 ms1958 v0 v1956 v17 fun v1958 =>
      jscr Ln xs (x4_23 + (nI 1)) fun v1969 =>
      jobj 11 v8 <|
      JX11_cheaper v8 v1969 fun v1970 =>
      jobj 11 v8 <|
      JX11_thrown v8 fun v1976 =>
      jif (v1976 = v1958) (
        jjoin (α := JP) (
          k2055 (bc_23 - mc1958) (bs_23 - ms1958)) fun k2003 =>
        jif (v1958 = (nI 0)) (
          jaldL v17 (nI 0) fun v1993 =>
          jif ((lg_cmp v1993 (Int32.toInt64 v1970)) = (nI 0)) (
            k2003) (
            Qj (nI 0))) (
          k2003)) (
        Qj (nI 0))) <|
    jif ((v36 &&& (nI 63)) = (nI 30)) (
      jobj 1 v0 <|
      JX1_image v0 <|
      jobj 11 v8 <|
      JX11_image v8 <|
      k2055 bc_23 bs_23) <|
    jif ((v36 &&& (nI 63)) = (nI 31)) (
      jobj 1 v0 <|
      JX1_back v0 fun v2018 =>
      jobj 11 v8 <|
      JX11_back v8 fun v2022 =>
      jif (v2018 = v2022) (
        k2055 bc_23 bs_23) (
        Qj (nI 0))) <|
    jif ((v36 &&& (nI 63)) = (nI 32)) (
      jscr Ln xs (x4_23 + (nI 1)) fun v2036 =>
      jobj 1 v0 <|
      JX1_count v0 v2036 fun v2037 =>
      jscr Ln xs (x4_23 + (nI 1)) fun v2046 =>
      jobj 11 v8 <|
      JX11_count v8 v2046 fun v2047 =>
      jif (v2037 = v2047) (
        k2055 bc_23 bs_23) (
        Qj (nI 0))) <|
    k2055 bc_23 bs_23)
def JL_law (sK : Nat → Nat) (bc : Nat) (bs : Nat) (p0 : Nat) (xs : Nat → Int32) (Ln : Nat) (Qj : Int32 → JP) : JP :=
  jnew 1 18 df1 bc bs fun v0 =>
  jbud (bc - 1) (bs - 18) fun mc4 ms4 =>
  JX1_init sK mc4 ms4 v0 <|
  jnew 11 52 df11 ((bc - 1) - mc4) ((bs - 18) - ms4) fun v8 =>
  jbud (((bc - 1) - mc4) - 1) (((bs - 18) - ms4) - 52) fun mc12 ms12 =>
  JX11_init mc12 ms12 v8 <|
  jnewL (nI 1) ((((bc - 1) - mc4) - 1) - mc12) ((((bs - 18) - ms4) - 52) - ms12) fun v17 =>
  jex fun n23 => jit (FL_law_23 sK xs Ln Qj v0 v8 v17) (fun _ _ _ => jbot) n23 (nI 0) (((((bc - 1) - mc4) - 1) - mc12) - 1) (((((bs - 18) - ms4) - 52) - ms12) - (nI 1).toNatClampNeg)
