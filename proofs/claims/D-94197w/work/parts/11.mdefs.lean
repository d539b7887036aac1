set_option maxRecDepth 100000
def MJ0_init_2 (this : Nat) (p1 : Option Nat) (p2 : Option Nat) (p3 : Int) (p4 : Int) (Qj : MP) : MP :=
  mputR 6 this 0 (some this) <|
  many' fun v10 =>
  mputR 6 this 1 v10 <|
  many' fun v17 =>
  mputR 6 this 2 v17 <|
  mjoin (α := MP) (
    mputR 6 this 3 p1 <|
    mputR 6 this 0 p2 <|
    mif (p3 = 0) (
      mputR 6 this 2 none <|
      Qj
    ) (
      Qj
    )
  ) fun k41 =>
  mif (p4 = 0) (
    mputR 6 this 1 none <|
    k41
  ) (
    mbot
  )
def MJ1_init (this : Nat) (p1 : Option Nat) (p2 : Option Nat) (p3 : Int) (p4 : Int) (Qj : MP) : MP :=
  MJ0_init_2 this p1 p2 p3 p4 Qj
def MJ13_bitCount (p0 : Int) (Qj : Int → MP) : MP :=
  Qj (mand32 (w32 ((w32 ((mand32 (w32 ((w32 ((mand32 (w32 (p0 - (mand32 (mushr p0 1) 1431655765))) 858993459) + (mand32 (mushr (w32 (p0 - (mand32 (mushr p0 1) 1431655765))) 2) 858993459))) + (mushr (w32 ((mand32 (w32 (p0 - (mand32 (mushr p0 1) 1431655765))) 858993459) + (mand32 (mushr (w32 (p0 - (mand32 (mushr p0 1) 1431655765))) 2) 858993459))) 4))) 252645135) + (mushr (mand32 (w32 ((w32 ((mand32 (w32 (p0 - (mand32 (mushr p0 1) 1431655765))) 858993459) + (mand32 (mushr (w32 (p0 - (mand32 (mushr p0 1) 1431655765))) 2) 858993459))) + (mushr (w32 ((mand32 (w32 (p0 - (mand32 (mushr p0 1) 1431655765))) 858993459) + (mand32 (mushr (w32 (p0 - (mand32 (mushr p0 1) 1431655765))) 2) 858993459))) 4))) 252645135) 8))) + (mushr (w32 ((mand32 (w32 ((w32 ((mand32 (w32 (p0 - (mand32 (mushr p0 1) 1431655765))) 858993459) + (mand32 (mushr (w32 (p0 - (mand32 (mushr p0 1) 1431655765))) 2) 858993459))) + (mushr (w32 ((mand32 (w32 (p0 - (mand32 (mushr p0 1) 1431655765))) 858993459) + (mand32 (mushr (w32 (p0 - (mand32 (mushr p0 1) 1431655765))) 2) 858993459))) 4))) 252645135) + (mushr (mand32 (w32 ((w32 ((mand32 (w32 (p0 - (mand32 (mushr p0 1) 1431655765))) 858993459) + (mand32 (mushr (w32 (p0 - (mand32 (mushr p0 1) 1431655765))) 2) 858993459))) + (mushr (w32 ((mand32 (w32 (p0 - (mand32 (mushr p0 1) 1431655765))) 858993459) + (mand32 (mushr (w32 (p0 - (mand32 (mushr p0 1) 1431655765))) 2) 858993459))) 4))) 252645135) 8))) 16))) 63)
def MJ13_numberOfTrailingZeros (p0 : Int) (Qj : Int → MP) : MP :=
  mif ((0 : Int) < (mand32 (mxor32 p0 (-1)) (w32 (p0 - 1)))) (
    mjoin (α := Int → Int → MP) (fun (x0_34 : Int) (x1_34 : Int) =>
      mjoin (α := Int → Int → MP) (fun (x0_49 : Int) (x1_49 : Int) =>
        mjoin (α := Int → Int → MP) (fun (x0_62 : Int) (x1_62 : Int) =>
          mjoin (α := Int → Int → MP) (fun (x0_74 : Int) (x1_74 : Int) =>
            Qj (w32 (x1_74 + (mushr x0_74 1)))
          ) fun k74 =>
          mif (x0_62 ≤ 4) (
            k74 x0_62 x1_62
          ) (
            k74 (mushr x0_62 2) (w32 (x1_62 + 2))
          )
        ) fun k62 =>
        mif (x0_49 ≤ 16) (
          k62 x0_49 x1_49
        ) (
          k62 (mushr x0_49 4) (w32 (x1_49 + 4))
        )
      ) fun k49 =>
      mif (x0_34 ≤ 256) (
        k49 x0_34 x1_34
      ) (
        k49 (mushr x0_34 8) (w32 (x1_34 + 8))
      )
    ) fun k34 =>
    mif ((mand32 (mxor32 p0 (-1)) (w32 (p0 - 1))) ≤ 65536) (
      k34 (mand32 (mxor32 p0 (-1)) (w32 (p0 - 1))) 1
    ) (
      k34 (mushr (mand32 (mxor32 p0 (-1)) (w32 (p0 - 1))) 16) (w32 (1 + 16))
    )
  ) (
    Qj (mand32 (mand32 (mxor32 p0 (-1)) (w32 (p0 - 1))) 32)
  )
def MJ2_init (this : Nat) (p1 : Option Nat) (p2 : Option Nat) (p3 : Int) (p4 : Int) (Qj : MP) : MP :=
  MJ1_init this p1 p2 p3 p4 Qj
def MJ3_coder (sK : Nat → Nat) (this : Nat) (Qj : Int → MP) : MP :=
  mif ((1 : Int) = 0) (
    mand (mnar .byte 1) (
      Qj 1
    )
  ) (
    mscod sK this <|
    mand (mnar .byte 0) (
      Qj 0
    )
  )
def MJ3_length (sK : Nat → Nat) (this : Nat) (Qj : Int → MP) : MP :=
  msval sK this fun v1 =>
  mslen sK v1 fun v4 =>
  msobj sK this <|
  MJ3_coder sK this fun v6 =>
  Qj (mshr v4 v6)
def MJ3_isLatin1 (sK : Nat → Nat) (this : Nat) (Qj : Int → MP) : MP :=
  mjoin (α := MP) (
    Qj 0
  ) fun k17 =>
  mif ((1 : Int) = 0) (
    k17
  ) (
    mscod sK this <|
    mif ((0 : Int) = 0) (
      Qj 1
    ) (
      k17
    )
  )
def MJ5_checkIndex (p0 : Int) (p1 : Int) (p2 : Option Nat) (Qj : Int → MP) : MP :=
  mjoin (α := MP) (
    mbot
  ) fun k9 =>
  mif (p0 < 0) (
    k9
  ) (
    mif (p0 < p1) (
      Qj p0
    ) (
      k9
    )
  )
def MJ3_checkIndex (sK : Nat → Nat) (p0 : Int) (p1 : Int) (Qj : MP) : MP :=
  many' fun v2 =>
  MJ5_checkIndex p0 p1 v2 fun v5 =>
  Qj
def MJ4_charAt (sK : Nat → Nat) (p0 : Nat) (p1 : Int) (Qj : Int → MP) : MP :=
  mslen sK p0 fun v2 =>
  MJ3_checkIndex sK p1 v2 <|
  mschr sK p0 p1 fun v8 =>
  mand (mnar .char (mi2c (mand32 v8 255))) (
    Qj (mi2c (mand32 v8 255))
  )
def MJ3_charAt (sK : Nat → Nat) (this : Nat) (p1 : Int) (Qj : Int → MP) : MP :=
  msobj sK this <|
  MJ3_isLatin1 sK this fun v1 =>
  mif (v1 = 0) (
    msval sK this fun v17 =>
    mbot
  ) (
    msval sK this fun v8 =>
    MJ4_charAt sK v8 p1 fun v12 =>
    mand (mnar .char v12) (
      Qj v12
    )
  )
def MX3_init (this : Nat) (Qj : MP) : MP :=
  Qj
def MX4_init (this : Nat) (Qj : MP) : MP :=
  MX3_init this Qj
def MX5_init (this : Nat) (Qj : MP) : MP :=
  MX3_init this Qj
def MX6_init (this : Nat) (Qj : MP) : MP :=
  MJ2_init this none none 0 0 Qj
def MX2_init (sK : Nat → Nat) (bc : Nat) (bs : Nat) (this : Nat) (Qj : MP) : MP :=
  mnewT 2 400 bc bs fun v8 =>
  mputR 2 this 0 (some v8) <|
  mnewT 4 4 (bc - 1) (bs - (nI 400).toNatClampNeg) fun v15 =>
  mastS sK v15 0 (sK 0) <|
  mastS sK v15 1 (sK 1) <|
  mastS sK v15 2 (sK 2) <|
  mastS sK v15 3 (sK 3) <|
  mputR 2 this 1 (some v15) <|
  mnewT 5 6 ((bc - 1) - 1) ((bs - (nI 400).toNatClampNeg) - (nI 4).toNatClampNeg) fun v44 =>
  mputR 2 this 2 (some v44) <|
  mnewT 6 10 (((bc - 1) - 1) - 1) (((bs - (nI 400).toNatClampNeg) - (nI 4).toNatClampNeg) - (nI 6).toNatClampNeg) fun v53 =>
  mputR 2 this 3 (some v53) <|
  mnew 4 0 ((((bc - 1) - 1) - 1) - 1) ((((bs - (nI 400).toNatClampNeg) - (nI 4).toNatClampNeg) - (nI 6).toNatClampNeg) - (nI 10).toNatClampNeg) fun v60 =>
  MX4_init v60 <|
  mputR 2 this 4 (some v60) <|
  mnew 5 0 (((((bc - 1) - 1) - 1) - 1) - 1) (((((bs - (nI 400).toNatClampNeg) - (nI 4).toNatClampNeg) - (nI 6).toNatClampNeg) - (nI 10).toNatClampNeg) - 0) fun v71 =>
  MX5_init v71 <|
  mputR 2 this 5 (some v71) <|
  mnew 6 7 ((((((bc - 1) - 1) - 1) - 1) - 1) - 1) ((((((bs - (nI 400).toNatClampNeg) - (nI 4).toNatClampNeg) - (nI 6).toNatClampNeg) - (nI 10).toNatClampNeg) - 0) - 0) fun v82 =>
  MX6_init v82 <|
  mputR 2 this 6 (some v82) <|
  Qj
def GX8_init_22 (this : Nat) (Qj : MP) (rec22 : Int → MP) (x1_22 : Int) : MP :=
  mif ((36 : Int) ≤ x1_22) (
    Qj
  ) (
    mgetA 8 this 0 fun v29 =>
    mastI v29 x1_22 (-1) <|
    rec22 (w32 (x1_22 + 1))
  )
def MX8_init (bc : Nat) (bs : Nat) (this : Nat) (Qj : MP) : MP :=
  mnewT 0 36 bc bs fun v7 =>
  mputR 8 this 0 (some v7) <|
  mnewT 0 36 (bc - 1) (bs - (nI 36).toNatClampNeg) fun v15 =>
  mputR 8 this 1 (some v15) <|
  mex fun n22 => jit (GX8_init_22 this Qj) (fun _ => mbot) n22 0
def MX9_init (bc : Nat) (bs : Nat) (this : Nat) (Qj : MP) : MP :=
  mnewT 10 24 bc bs fun v7 =>
  mputR 9 this 0 (some v7) <|
  Qj
def GX7_init_55 (this : Nat) (Qj : MP) (rec55 : Int → Nat → Nat → MP) (x1_55 : Int) (bc_55 : Nat) (bs_55 : Nat) : MP :=
  mif ((3 : Int) ≤ x1_55) (
    Qj
  ) (
    mgetA 7 this 2 fun v61 =>
    mnew 9 3 bc_55 bs_55 fun v65 =>
    mbud (bc_55 - 1) (bs_55 - 3) fun mc69 ms69 =>
    MX9_init mc69 ms69 v65 <|
    mastA 8 9 v61 x1_55 v65 <|
    rec55 (w32 (x1_55 + 1)) ((bc_55 - 1) - mc69) ((bs_55 - 3) - ms69)
  )
def MX7_init (bc : Nat) (bs : Nat) (this : Nat) (Qj : MP) : MP :=
  mnewT 7 5 bc bs fun v6 =>
  mputR 7 this 0 (some v6) <|
  mnew 8 2 (bc - 1) (bs - (nI 5).toNatClampNeg) fun v13 =>
  mbud ((bc - 1) - 1) ((bs - (nI 5).toNatClampNeg) - 2) fun mc17 ms17 =>
  MX8_init mc17 ms17 v13 <|
  mputR 7 this 1 (some v13) <|
  mnewT 8 3 (((bc - 1) - 1) - mc17) (((bs - (nI 5).toNatClampNeg) - 2) - ms17) fun v25 =>
  mputR 7 this 2 (some v25) <|
  mnewT 9 10 ((((bc - 1) - 1) - mc17) - 1) ((((bs - (nI 5).toNatClampNeg) - 2) - ms17) - (nI 3).toNatClampNeg) fun v34 =>
  mputR 7 this 3 (some v34) <|
  mnewT 0 8 (((((bc - 1) - 1) - mc17) - 1) - 1) (((((bs - (nI 5).toNatClampNeg) - 2) - ms17) - (nI 3).toNatClampNeg) - (nI 10).toNatClampNeg) fun v43 =>
  mputR 7 this 4 (some v43) <|
  mputI 7 this 9 (-1) <|
  mex fun n55 => jit (GX7_init_55 this Qj) (fun _ _ _ => mbot) n55 0 ((((((bc - 1) - 1) - mc17) - 1) - 1) - 1) ((((((bs - (nI 5).toNatClampNeg) - 2) - ms17) - (nI 3).toNatClampNeg) - (nI 10).toNatClampNeg) - (nI 8).toNatClampNeg)
def MX10_init (bc : Nat) (bs : Nat) (this : Nat) (p1 : Nat) (Qj : MP) : MP :=
  mnew 8 2 bc bs fun v5 =>
  mbud (bc - 1) (bs - 2) fun mc9 ms9 =>
  MX8_init mc9 ms9 v5 <|
  mputR 10 this 1 (some v5) <|
  mnewT 1 36 ((bc - 1) - mc9) ((bs - 2) - ms9) fun v18 =>
  mputR 10 this 2 (some v18) <|
  mnewM2 31 1296 (((bc - 1) - mc9) - 1) (((bs - 2) - ms9) - (nI 36).toNatClampNeg) fun v29 =>
  mputR 10 this 3 (some v29) <|
  mnewM3 3 31 25 ((((bc - 1) - mc9) - 1) - (1 + 31)) ((((bs - 2) - ms9) - (nI 36).toNatClampNeg) - (31 + (31 * 1296))) fun v42 =>
  mputR 10 this 4 (some v42) <|
  mnewT 0 30 (((((bc - 1) - mc9) - 1) - (1 + 31)) - (1 + (3 * (1 + 31)))) (((((bs - 2) - ms9) - (nI 36).toNatClampNeg) - (31 + (31 * 1296))) - (3 + (3 * (31 + (31 * 25))))) fun v52 =>
  mputR 10 this 5 (some v52) <|
  mnewT 0 30 ((((((bc - 1) - mc9) - 1) - (1 + 31)) - (1 + (3 * (1 + 31)))) - 1) ((((((bs - 2) - ms9) - (nI 36).toNatClampNeg) - (31 + (31 * 1296))) - (3 + (3 * (31 + (31 * 25))))) - (nI 30).toNatClampNeg) fun v60 =>
  mputR 10 this 6 (some v60) <|
  mnewT 0 30 (((((((bc - 1) - mc9) - 1) - (1 + 31)) - (1 + (3 * (1 + 31)))) - 1) - 1) (((((((bs - 2) - ms9) - (nI 36).toNatClampNeg) - (31 + (31 * 1296))) - (3 + (3 * (31 + (31 * 25))))) - (nI 30).toNatClampNeg) - (nI 30).toNatClampNeg) fun v68 =>
  mputR 10 this 7 (some v68) <|
  mnewT 0 30 ((((((((bc - 1) - mc9) - 1) - (1 + 31)) - (1 + (3 * (1 + 31)))) - 1) - 1) - 1) ((((((((bs - 2) - ms9) - (nI 36).toNatClampNeg) - (31 + (31 * 1296))) - (3 + (3 * (31 + (31 * 25))))) - (nI 30).toNatClampNeg) - (nI 30).toNatClampNeg) - (nI 30).toNatClampNeg) fun v76 =>
  mputR 10 this 8 (some v76) <|
  mnewT 0 8 (((((((((bc - 1) - mc9) - 1) - (1 + 31)) - (1 + (3 * (1 + 31)))) - 1) - 1) - 1) - 1) (((((((((bs - 2) - ms9) - (nI 36).toNatClampNeg) - (31 + (31 * 1296))) - (3 + (3 * (31 + (31 * 25))))) - (nI 30).toNatClampNeg) - (nI 30).toNatClampNeg) - (nI 30).toNatClampNeg) - (nI 30).toNatClampNeg) fun v84 =>
  mputR 10 this 9 (some v84) <|
  mnewT 0 6 ((((((((((bc - 1) - mc9) - 1) - (1 + 31)) - (1 + (3 * (1 + 31)))) - 1) - 1) - 1) - 1) - 1) ((((((((((bs - 2) - ms9) - (nI 36).toNatClampNeg) - (31 + (31 * 1296))) - (3 + (3 * (31 + (31 * 25))))) - (nI 30).toNatClampNeg) - (nI 30).toNatClampNeg) - (nI 30).toNatClampNeg) - (nI 30).toNatClampNeg) - (nI 8).toNatClampNeg) fun v92 =>
  mputR 10 this 10 (some v92) <|
  mnew 8 2 (((((((((((bc - 1) - mc9) - 1) - (1 + 31)) - (1 + (3 * (1 + 31)))) - 1) - 1) - 1) - 1) - 1) - 1) (((((((((((bs - 2) - ms9) - (nI 36).toNatClampNeg) - (31 + (31 * 1296))) - (3 + (3 * (31 + (31 * 25))))) - (nI 30).toNatClampNeg) - (nI 30).toNatClampNeg) - (nI 30).toNatClampNeg) - (nI 30).toNatClampNeg) - (nI 8).toNatClampNeg) - (nI 6).toNatClampNeg) fun v98 =>
  mbud ((((((((((((bc - 1) - mc9) - 1) - (1 + 31)) - (1 + (3 * (1 + 31)))) - 1) - 1) - 1) - 1) - 1) - 1) - 1) ((((((((((((bs - 2) - ms9) - (nI 36).toNatClampNeg) - (31 + (31 * 1296))) - (3 + (3 * (31 + (31 * 25))))) - (nI 30).toNatClampNeg) - (nI 30).toNatClampNeg) - (nI 30).toNatClampNeg) - (nI 30).toNatClampNeg) - (nI 8).toNatClampNeg) - (nI 6).toNatClampNeg) - 2) fun mc102 ms102 =>
  MX8_init mc102 ms102 v98 <|
  mputR 10 this 11 (some v98) <|
  mputR 10 this 0 (some p1) <|
  Qj
def MX1_init (sK : Nat → Nat) (bc : Nat) (bs : Nat) (this : Nat) (Qj : MP) : MP :=
  mnew 2 11 bc bs fun v5 =>
  mbud (bc - 1) (bs - 11) fun mc9 ms9 =>
  MX2_init sK mc9 ms9 v5 <|
  mputR 1 this 0 (some v5) <|
  mnew 7 10 ((bc - 1) - mc9) ((bs - 11) - ms9) fun v16 =>
  mbud (((bc - 1) - mc9) - 1) (((bs - 11) - ms9) - 10) fun mc20 ms20 =>
  MX7_init mc20 ms20 v16 <|
  mputR 1 this 1 (some v16) <|
  mnew 7 10 ((((bc - 1) - mc9) - 1) - mc20) ((((bs - 11) - ms9) - 10) - ms20) fun v27 =>
  mbud (((((bc - 1) - mc9) - 1) - mc20) - 1) (((((bs - 11) - ms9) - 10) - ms20) - 10) fun mc31 ms31 =>
  MX7_init mc31 ms31 v27 <|
  mputR 1 this 2 (some v27) <|
  mnew 10 30 ((((((bc - 1) - mc9) - 1) - mc20) - 1) - mc31) ((((((bs - 11) - ms9) - 10) - ms20) - 10) - ms31) fun v38 =>
  mgetA 1 this 1 fun v43 =>
  mbud (((((((bc - 1) - mc9) - 1) - mc20) - 1) - mc31) - 1) (((((((bs - 11) - ms9) - 10) - ms20) - 10) - ms31) - 30) fun mc46 ms46 =>
  MX10_init mc46 ms46 v38 v43 <|
  mputR 1 this 3 (some v38) <|
  mnew 10 30 ((((((((bc - 1) - mc9) - 1) - mc20) - 1) - mc31) - 1) - mc46) ((((((((bs - 11) - ms9) - 10) - ms20) - 10) - ms31) - 30) - ms46) fun v53 =>
  mgetA 1 this 1 fun v58 =>
  mbud (((((((((bc - 1) - mc9) - 1) - mc20) - 1) - mc31) - 1) - mc46) - 1) (((((((((bs - 11) - ms9) - 10) - ms20) - 10) - ms31) - 30) - ms46) - 30) fun mc61 ms61 =>
  MX10_init mc61 ms61 v53 v58 <|
  mputR 1 this 4 (some v53) <|
  mnewM2 3 24 ((((((((((bc - 1) - mc9) - 1) - mc20) - 1) - mc31) - 1) - mc46) - 1) - mc61) ((((((((((bs - 11) - ms9) - 10) - ms20) - 10) - ms31) - 30) - ms46) - 30) - ms61) fun v71 =>
  mputR 1 this 5 (some v71) <|
  mnewM2 3 30 (((((((((((bc - 1) - mc9) - 1) - mc20) - 1) - mc31) - 1) - mc46) - 1) - mc61) - (1 + 3)) (((((((((((bs - 11) - ms9) - 10) - ms20) - 10) - ms31) - 30) - ms46) - 30) - ms61) - (3 + (3 * 24))) fun v82 =>
  mputR 1 this 6 (some v82) <|
  mnewM2 31 25 ((((((((((((bc - 1) - mc9) - 1) - mc20) - 1) - mc31) - 1) - mc46) - 1) - mc61) - (1 + 3)) - (1 + 3)) ((((((((((((bs - 11) - ms9) - 10) - ms20) - 10) - ms31) - 30) - ms46) - 30) - ms61) - (3 + (3 * 24))) - (3 + (3 * 30))) fun v94 =>
  mputR 1 this 7 (some v94) <|
  mnewM2 25 25 (((((((((((((bc - 1) - mc9) - 1) - mc20) - 1) - mc31) - 1) - mc46) - 1) - mc61) - (1 + 3)) - (1 + 3)) - (1 + 31)) (((((((((((((bs - 11) - ms9) - 10) - ms20) - 10) - ms31) - 30) - ms46) - 30) - ms61) - (3 + (3 * 24))) - (3 + (3 * 30))) - (31 + (31 * 25))) fun v106 =>
  mputR 1 this 8 (some v106) <|
  mnewT 0 3 ((((((((((((((bc - 1) - mc9) - 1) - mc20) - 1) - mc31) - 1) - mc46) - 1) - mc61) - (1 + 3)) - (1 + 3)) - (1 + 31)) - (1 + 25)) ((((((((((((((bs - 11) - ms9) - 10) - ms20) - 10) - ms31) - 30) - ms46) - 30) - ms61) - (3 + (3 * 24))) - (3 + (3 * 30))) - (31 + (31 * 25))) - (25 + (25 * 25))) fun v115 =>
  mputR 1 this 9 (some v115) <|
  mnewT 0 30 (((((((((((((((bc - 1) - mc9) - 1) - mc20) - 1) - mc31) - 1) - mc46) - 1) - mc61) - (1 + 3)) - (1 + 3)) - (1 + 31)) - (1 + 25)) - 1) (((((((((((((((bs - 11) - ms9) - 10) - ms20) - 10) - ms31) - 30) - ms46) - 30) - ms61) - (3 + (3 * 24))) - (3 + (3 * 30))) - (31 + (31 * 25))) - (25 + (25 * 25))) - (nI 3).toNatClampNeg) fun v123 =>
  mputR 1 this 10 (some v123) <|
  mnewT 0 1296 ((((((((((((((((bc - 1) - mc9) - 1) - mc20) - 1) - mc31) - 1) - mc46) - 1) - mc61) - (1 + 3)) - (1 + 3)) - (1 + 31)) - (1 + 25)) - 1) - 1) ((((((((((((((((bs - 11) - ms9) - 10) - ms20) - 10) - ms31) - 30) - ms46) - 30) - ms61) - (3 + (3 * 24))) - (3 + (3 * 30))) - (31 + (31 * 25))) - (25 + (25 * 25))) - (nI 3).toNatClampNeg) - (nI 30).toNatClampNeg) fun v132 =>
  mputR 1 this 11 (some v132) <|
  mnew 8 2 (((((((((((((((((bc - 1) - mc9) - 1) - mc20) - 1) - mc31) - 1) - mc46) - 1) - mc61) - (1 + 3)) - (1 + 3)) - (1 + 31)) - (1 + 25)) - 1) - 1) - 1) (((((((((((((((((bs - 11) - ms9) - 10) - ms20) - 10) - ms31) - 30) - ms46) - 30) - ms61) - (3 + (3 * 24))) - (3 + (3 * 30))) - (31 + (31 * 25))) - (25 + (25 * 25))) - (nI 3).toNatClampNeg) - (nI 30).toNatClampNeg) - (nI 1296).toNatClampNeg) fun v138 =>
  mbud ((((((((((((((((((bc - 1) - mc9) - 1) - mc20) - 1) - mc31) - 1) - mc46) - 1) - mc61) - (1 + 3)) - (1 + 3)) - (1 + 31)) - (1 + 25)) - 1) - 1) - 1) - 1) ((((((((((((((((((bs - 11) - ms9) - 10) - ms20) - 10) - ms31) - 30) - ms46) - 30) - ms61) - (3 + (3 * 24))) - (3 + (3 * 30))) - (31 + (31 * 25))) - (25 + (25 * 25))) - (nI 3).toNatClampNeg) - (nI 30).toNatClampNeg) - (nI 1296).toNatClampNeg) - 2) fun mc142 ms142 =>
  MX8_init mc142 ms142 v138 <|
  mputR 1 this 12 (some v138) <|
  mputI 1 this 13 (-1) <|
  Qj
def GX11_init_241 (this : Nat) (Qj : MP) (rec241 : Int → MP) (x1_241 : Int) : MP :=
  mif ((36 : Int) ≤ x1_241) (
    Qj
  ) (
    mgetA 11 this 1 fun v248 =>
    mastI v248 (w32 (13 + x1_241)) (-1) <|
    rec241 (w32 (x1_241 + 1))
  )
def MX11_init (bc : Nat) (bs : Nat) (this : Nat) (Qj : MP) : MP :=
  mnewT 0 2125 bc bs fun v8 =>
  mputR 11 this 1 (some v8) <|
  mnewT 0 1284 (bc - 1) (bs - (nI 2125).toNatClampNeg) fun v17 =>
  mputR 11 this 2 (some v17) <|
  mnewT 2 400 ((bc - 1) - 1) ((bs - (nI 2125).toNatClampNeg) - (nI 1284).toNatClampNeg) fun v26 =>
  mputR 11 this 4 (some v26) <|
  mputI 11 this 10 (-1) <|
  mnewT 0 5 (((bc - 1) - 1) - 1) (((bs - (nI 2125).toNatClampNeg) - (nI 1284).toNatClampNeg) - (nI 400).toNatClampNeg) fun v38 =>
  mputR 11 this 11 (some v38) <|
  mnewT 0 12 ((((bc - 1) - 1) - 1) - 1) ((((bs - (nI 2125).toNatClampNeg) - (nI 1284).toNatClampNeg) - (nI 400).toNatClampNeg) - (nI 5).toNatClampNeg) fun v46 =>
  mputR 11 this 13 (some v46) <|
  mnewT 0 6 (((((bc - 1) - 1) - 1) - 1) - 1) (((((bs - (nI 2125).toNatClampNeg) - (nI 1284).toNatClampNeg) - (nI 400).toNatClampNeg) - (nI 5).toNatClampNeg) - (nI 12).toNatClampNeg) fun v54 =>
  mputR 11 this 14 (some v54) <|
  mnewT 0 400 ((((((bc - 1) - 1) - 1) - 1) - 1) - 1) ((((((bs - (nI 2125).toNatClampNeg) - (nI 1284).toNatClampNeg) - (nI 400).toNatClampNeg) - (nI 5).toNatClampNeg) - (nI 12).toNatClampNeg) - (nI 6).toNatClampNeg) fun v63 =>
  mputR 11 this 15 (some v63) <|
  mnewT 0 1116 (((((((bc - 1) - 1) - 1) - 1) - 1) - 1) - 1) (((((((bs - (nI 2125).toNatClampNeg) - (nI 1284).toNatClampNeg) - (nI 400).toNatClampNeg) - (nI 5).toNatClampNeg) - (nI 12).toNatClampNeg) - (nI 6).toNatClampNeg) - (nI 400).toNatClampNeg) fun v72 =>
  mputR 11 this 16 (some v72) <|
  mnewT 1 40176 ((((((((bc - 1) - 1) - 1) - 1) - 1) - 1) - 1) - 1) ((((((((bs - (nI 2125).toNatClampNeg) - (nI 1284).toNatClampNeg) - (nI 400).toNatClampNeg) - (nI 5).toNatClampNeg) - (nI 12).toNatClampNeg) - (nI 6).toNatClampNeg) - (nI 400).toNatClampNeg) - (nI 1116).toNatClampNeg) fun v80 =>
  mputR 11 this 17 (some v80) <|
  mnewT 0 3 (((((((((bc - 1) - 1) - 1) - 1) - 1) - 1) - 1) - 1) - 1) (((((((((bs - (nI 2125).toNatClampNeg) - (nI 1284).toNatClampNeg) - (nI 400).toNatClampNeg) - (nI 5).toNatClampNeg) - (nI 12).toNatClampNeg) - (nI 6).toNatClampNeg) - (nI 400).toNatClampNeg) - (nI 1116).toNatClampNeg) - (nI 40176).toNatClampNeg) fun v87 =>
  mputR 11 this 19 (some v87) <|
  mnewT 0 8 ((((((((((bc - 1) - 1) - 1) - 1) - 1) - 1) - 1) - 1) - 1) - 1) ((((((((((bs - (nI 2125).toNatClampNeg) - (nI 1284).toNatClampNeg) - (nI 400).toNatClampNeg) - (nI 5).toNatClampNeg) - (nI 12).toNatClampNeg) - (nI 6).toNatClampNeg) - (nI 400).toNatClampNeg) - (nI 1116).toNatClampNeg) - (nI 40176).toNatClampNeg) - (nI 3).toNatClampNeg) fun v95 =>
  mputR 11 this 20 (some v95) <|
  mnewT 0 31 (((((((((((bc - 1) - 1) - 1) - 1) - 1) - 1) - 1) - 1) - 1) - 1) - 1) (((((((((((bs - (nI 2125).toNatClampNeg) - (nI 1284).toNatClampNeg) - (nI 400).toNatClampNeg) - (nI 5).toNatClampNeg) - (nI 12).toNatClampNeg) - (nI 6).toNatClampNeg) - (nI 400).toNatClampNeg) - (nI 1116).toNatClampNeg) - (nI 40176).toNatClampNeg) - (nI 3).toNatClampNeg) - (nI 8).toNatClampNeg) fun v103 =>
  mputR 11 this 21 (some v103) <|
  mnewT 0 2232 ((((((((((((bc - 1) - 1) - 1) - 1) - 1) - 1) - 1) - 1) - 1) - 1) - 1) - 1) ((((((((((((bs - (nI 2125).toNatClampNeg) - (nI 1284).toNatClampNeg) - (nI 400).toNatClampNeg) - (nI 5).toNatClampNeg) - (nI 12).toNatClampNeg) - (nI 6).toNatClampNeg) - (nI 400).toNatClampNeg) - (nI 1116).toNatClampNeg) - (nI 40176).toNatClampNeg) - (nI 3).toNatClampNeg) - (nI 8).toNatClampNeg) - (nI 31).toNatClampNeg) fun v112 =>
  mputR 11 this 22 (some v112) <|
  mnewT 0 2232 (((((((((((((bc - 1) - 1) - 1) - 1) - 1) - 1) - 1) - 1) - 1) - 1) - 1) - 1) - 1) (((((((((((((bs - (nI 2125).toNatClampNeg) - (nI 1284).toNatClampNeg) - (nI 400).toNatClampNeg) - (nI 5).toNatClampNeg) - (nI 12).toNatClampNeg) - (nI 6).toNatClampNeg) - (nI 400).toNatClampNeg) - (nI 1116).toNatClampNeg) - (nI 40176).toNatClampNeg) - (nI 3).toNatClampNeg) - (nI 8).toNatClampNeg) - (nI 31).toNatClampNeg) - (nI 2232).toNatClampNeg) fun v121 =>
  mputR 11 this 23 (some v121) <|
  mnewT 0 2325 ((((((((((((((bc - 1) - 1) - 1) - 1) - 1) - 1) - 1) - 1) - 1) - 1) - 1) - 1) - 1) - 1) ((((((((((((((bs - (nI 2125).toNatClampNeg) - (nI 1284).toNatClampNeg) - (nI 400).toNatClampNeg) - (nI 5).toNatClampNeg) - (nI 12).toNatClampNeg) - (nI 6).toNatClampNeg) - (nI 400).toNatClampNeg) - (nI 1116).toNatClampNeg) - (nI 40176).toNatClampNeg) - (nI 3).toNatClampNeg) - (nI 8).toNatClampNeg) - (nI 31).toNatClampNeg) - (nI 2232).toNatClampNeg) - (nI 2232).toNatClampNeg) fun v130 =>
  mputR 11 this 24 (some v130) <|
  mnewT 0 31 (((((((((((((((bc - 1) - 1) - 1) - 1) - 1) - 1) - 1) - 1) - 1) - 1) - 1) - 1) - 1) - 1) - 1) (((((((((((((((bs - (nI 2125).toNatClampNeg) - (nI 1284).toNatClampNeg) - (nI 400).toNatClampNeg) - (nI 5).toNatClampNeg) - (nI 12).toNatClampNeg) - (nI 6).toNatClampNeg) - (nI 400).toNatClampNeg) - (nI 1116).toNatClampNeg) - (nI 40176).toNatClampNeg) - (nI 3).toNatClampNeg) - (nI 8).toNatClampNeg) - (nI 31).toNatClampNeg) - (nI 2232).toNatClampNeg) - (nI 2232).toNatClampNeg) - (nI 2325).toNatClampNeg) fun v138 =>
  mputR 11 this 31 (some v138) <|
  mnewT 3 24 ((((((((((((((((bc - 1) - 1) - 1) - 1) - 1) - 1) - 1) - 1) - 1) - 1) - 1) - 1) - 1) - 1) - 1) - 1) ((((((((((((((((bs - (nI 2125).toNatClampNeg) - (nI 1284).toNatClampNeg) - (nI 400).toNatClampNeg) - (nI 5).toNatClampNeg) - (nI 12).toNatClampNeg) - (nI 6).toNatClampNeg) - (nI 400).toNatClampNeg) - (nI 1116).toNatClampNeg) - (nI 40176).toNatClampNeg) - (nI 3).toNatClampNeg) - (nI 8).toNatClampNeg) - (nI 31).toNatClampNeg) - (nI 2232).toNatClampNeg) - (nI 2232).toNatClampNeg) - (nI 2325).toNatClampNeg) - (nI 31).toNatClampNeg) fun v146 =>
  mputR 11 this 33 (some v146) <|
  mnewT 3 24 (((((((((((((((((bc - 1) - 1) - 1) - 1) - 1) - 1) - 1) - 1) - 1) - 1) - 1) - 1) - 1) - 1) - 1) - 1) - 1) (((((((((((((((((bs - (nI 2125).toNatClampNeg) - (nI 1284).toNatClampNeg) - (nI 400).toNatClampNeg) - (nI 5).toNatClampNeg) - (nI 12).toNatClampNeg) - (nI 6).toNatClampNeg) - (nI 400).toNatClampNeg) - (nI 1116).toNatClampNeg) - (nI 40176).toNatClampNeg) - (nI 3).toNatClampNeg) - (nI 8).toNatClampNeg) - (nI 31).toNatClampNeg) - (nI 2232).toNatClampNeg) - (nI 2232).toNatClampNeg) - (nI 2325).toNatClampNeg) - (nI 31).toNatClampNeg) - (nI 24).toNatClampNeg) fun v154 =>
  mputR 11 this 34 (some v154) <|
  mnewT 0 30 ((((((((((((((((((bc - 1) - 1) - 1) - 1) - 1) - 1) - 1) - 1) - 1) - 1) - 1) - 1) - 1) - 1) - 1) - 1) - 1) - 1) ((((((((((((((((((bs - (nI 2125).toNatClampNeg) - (nI 1284).toNatClampNeg) - (nI 400).toNatClampNeg) - (nI 5).toNatClampNeg) - (nI 12).toNatClampNeg) - (nI 6).toNatClampNeg) - (nI 400).toNatClampNeg) - (nI 1116).toNatClampNeg) - (nI 40176).toNatClampNeg) - (nI 3).toNatClampNeg) - (nI 8).toNatClampNeg) - (nI 31).toNatClampNeg) - (nI 2232).toNatClampNeg) - (nI 2232).toNatClampNeg) - (nI 2325).toNatClampNeg) - (nI 31).toNatClampNeg) - (nI 24).toNatClampNeg) - (nI 24).toNatClampNeg) fun v162 =>
  mputR 11 this 38 (some v162) <|
  mnewT 0 30 (((((((((((((((((((bc - 1) - 1) - 1) - 1) - 1) - 1) - 1) - 1) - 1) - 1) - 1) - 1) - 1) - 1) - 1) - 1) - 1) - 1) - 1) (((((((((((((((((((bs - (nI 2125).toNatClampNeg) - (nI 1284).toNatClampNeg) - (nI 400).toNatClampNeg) - (nI 5).toNatClampNeg) - (nI 12).toNatClampNeg) - (nI 6).toNatClampNeg) - (nI 400).toNatClampNeg) - (nI 1116).toNatClampNeg) - (nI 40176).toNatClampNeg) - (nI 3).toNatClampNeg) - (nI 8).toNatClampNeg) - (nI 31).toNatClampNeg) - (nI 2232).toNatClampNeg) - (nI 2232).toNatClampNeg) - (nI 2325).toNatClampNeg) - (nI 31).toNatClampNeg) - (nI 24).toNatClampNeg) - (nI 24).toNatClampNeg) - (nI 30).toNatClampNeg) fun v170 =>
  mputR 11 this 39 (some v170) <|
  mnewT 0 30 ((((((((((((((((((((bc - 1) - 1) - 1) - 1) - 1) - 1) - 1) - 1) - 1) - 1) - 1) - 1) - 1) - 1) - 1) - 1) - 1) - 1) - 1) - 1) ((((((((((((((((((((bs - (nI 2125).toNatClampNeg) - (nI 1284).toNatClampNeg) - (nI 400).toNatClampNeg) - (nI 5).toNatClampNeg) - (nI 12).toNatClampNeg) - (nI 6).toNatClampNeg) - (nI 400).toNatClampNeg) - (nI 1116).toNatClampNeg) - (nI 40176).toNatClampNeg) - (nI 3).toNatClampNeg) - (nI 8).toNatClampNeg) - (nI 31).toNatClampNeg) - (nI 2232).toNatClampNeg) - (nI 2232).toNatClampNeg) - (nI 2325).toNatClampNeg) - (nI 31).toNatClampNeg) - (nI 24).toNatClampNeg) - (nI 24).toNatClampNeg) - (nI 30).toNatClampNeg) - (nI 30).toNatClampNeg) fun v178 =>
  mputR 11 this 40 (some v178) <|
  mnewT 0 31 (((((((((((((((((((((bc - 1) - 1) - 1) - 1) - 1) - 1) - 1) - 1) - 1) - 1) - 1) - 1) - 1) - 1) - 1) - 1) - 1) - 1) - 1) - 1) - 1) (((((((((((((((((((((bs - (nI 2125).toNatClampNeg) - (nI 1284).toNatClampNeg) - (nI 400).toNatClampNeg) - (nI 5).toNatClampNeg) - (nI 12).toNatClampNeg) - (nI 6).toNatClampNeg) - (nI 400).toNatClampNeg) - (nI 1116).toNatClampNeg) - (nI 40176).toNatClampNeg) - (nI 3).toNatClampNeg) - (nI 8).toNatClampNeg) - (nI 31).toNatClampNeg) - (nI 2232).toNatClampNeg) - (nI 2232).toNatClampNeg) - (nI 2325).toNatClampNeg) - (nI 31).toNatClampNeg) - (nI 24).toNatClampNeg) - (nI 24).toNatClampNeg) - (nI 30).toNatClampNeg) - (nI 30).toNatClampNeg) - (nI 30).toNatClampNeg) fun v186 =>
  mputR 11 this 45 (some v186) <|
  mnewT 0 24 ((((((((((((((((((((((bc - 1) - 1) - 1) - 1) - 1) - 1) - 1) - 1) - 1) - 1) - 1) - 1) - 1) - 1) - 1) - 1) - 1) - 1) - 1) - 1) - 1) - 1) ((((((((((((((((((((((bs - (nI 2125).toNatClampNeg) - (nI 1284).toNatClampNeg) - (nI 400).toNatClampNeg) - (nI 5).toNatClampNeg) - (nI 12).toNatClampNeg) - (nI 6).toNatClampNeg) - (nI 400).toNatClampNeg) - (nI 1116).toNatClampNeg) - (nI 40176).toNatClampNeg) - (nI 3).toNatClampNeg) - (nI 8).toNatClampNeg) - (nI 31).toNatClampNeg) - (nI 2232).toNatClampNeg) - (nI 2232).toNatClampNeg) - (nI 2325).toNatClampNeg) - (nI 31).toNatClampNeg) - (nI 24).toNatClampNeg) - (nI 24).toNatClampNeg) - (nI 30).toNatClampNeg) - (nI 30).toNatClampNeg) - (nI 30).toNatClampNeg) - (nI 31).toNatClampNeg) fun v194 =>
  mputR 11 this 46 (some v194) <|
  mnewT 0 30 (((((((((((((((((((((((bc - 1) - 1) - 1) - 1) - 1) - 1) - 1) - 1) - 1) - 1) - 1) - 1) - 1) - 1) - 1) - 1) - 1) - 1) - 1) - 1) - 1) - 1) - 1) (((((((((((((((((((((((bs - (nI 2125).toNatClampNeg) - (nI 1284).toNatClampNeg) - (nI 400).toNatClampNeg) - (nI 5).toNatClampNeg) - (nI 12).toNatClampNeg) - (nI 6).toNatClampNeg) - (nI 400).toNatClampNeg) - (nI 1116).toNatClampNeg) - (nI 40176).toNatClampNeg) - (nI 3).toNatClampNeg) - (nI 8).toNatClampNeg) - (nI 31).toNatClampNeg) - (nI 2232).toNatClampNeg) - (nI 2232).toNatClampNeg) - (nI 2325).toNatClampNeg) - (nI 31).toNatClampNeg) - (nI 24).toNatClampNeg) - (nI 24).toNatClampNeg) - (nI 30).toNatClampNeg) - (nI 30).toNatClampNeg) - (nI 30).toNatClampNeg) - (nI 31).toNatClampNeg) - (nI 24).toNatClampNeg) fun v202 =>
  mputR 11 this 47 (some v202) <|
  mnewT 0 24 ((((((((((((((((((((((((bc - 1) - 1) - 1) - 1) - 1) - 1) - 1) - 1) - 1) - 1) - 1) - 1) - 1) - 1) - 1) - 1) - 1) - 1) - 1) - 1) - 1) - 1) - 1) - 1) ((((((((((((((((((((((((bs - (nI 2125).toNatClampNeg) - (nI 1284).toNatClampNeg) - (nI 400).toNatClampNeg) - (nI 5).toNatClampNeg) - (nI 12).toNatClampNeg) - (nI 6).toNatClampNeg) - (nI 400).toNatClampNeg) - (nI 1116).toNatClampNeg) - (nI 40176).toNatClampNeg) - (nI 3).toNatClampNeg) - (nI 8).toNatClampNeg) - (nI 31).toNatClampNeg) - (nI 2232).toNatClampNeg) - (nI 2232).toNatClampNeg) - (nI 2325).toNatClampNeg) - (nI 31).toNatClampNeg) - (nI 24).toNatClampNeg) - (nI 24).toNatClampNeg) - (nI 30).toNatClampNeg) - (nI 30).toNatClampNeg) - (nI 30).toNatClampNeg) - (nI 31).toNatClampNeg) - (nI 24).toNatClampNeg) - (nI 30).toNatClampNeg) fun v210 =>
  mputR 11 this 48 (some v210) <|
  mnewT 0 30 (((((((((((((((((((((((((bc - 1) - 1) - 1) - 1) - 1) - 1) - 1) - 1) - 1) - 1) - 1) - 1) - 1) - 1) - 1) - 1) - 1) - 1) - 1) - 1) - 1) - 1) - 1) - 1) - 1) (((((((((((((((((((((((((bs - (nI 2125).toNatClampNeg) - (nI 1284).toNatClampNeg) - (nI 400).toNatClampNeg) - (nI 5).toNatClampNeg) - (nI 12).toNatClampNeg) - (nI 6).toNatClampNeg) - (nI 400).toNatClampNeg) - (nI 1116).toNatClampNeg) - (nI 40176).toNatClampNeg) - (nI 3).toNatClampNeg) - (nI 8).toNatClampNeg) - (nI 31).toNatClampNeg) - (nI 2232).toNatClampNeg) - (nI 2232).toNatClampNeg) - (nI 2325).toNatClampNeg) - (nI 31).toNatClampNeg) - (nI 24).toNatClampNeg) - (nI 24).toNatClampNeg) - (nI 30).toNatClampNeg) - (nI 30).toNatClampNeg) - (nI 30).toNatClampNeg) - (nI 31).toNatClampNeg) - (nI 24).toNatClampNeg) - (nI 30).toNatClampNeg) - (nI 24).toNatClampNeg) fun v218 =>
  mputR 11 this 49 (some v218) <|
  mnewT 0 625 ((((((((((((((((((((((((((bc - 1) - 1) - 1) - 1) - 1) - 1) - 1) - 1) - 1) - 1) - 1) - 1) - 1) - 1) - 1) - 1) - 1) - 1) - 1) - 1) - 1) - 1) - 1) - 1) - 1) - 1) ((((((((((((((((((((((((((bs - (nI 2125).toNatClampNeg) - (nI 1284).toNatClampNeg) - (nI 400).toNatClampNeg) - (nI 5).toNatClampNeg) - (nI 12).toNatClampNeg) - (nI 6).toNatClampNeg) - (nI 400).toNatClampNeg) - (nI 1116).toNatClampNeg) - (nI 40176).toNatClampNeg) - (nI 3).toNatClampNeg) - (nI 8).toNatClampNeg) - (nI 31).toNatClampNeg) - (nI 2232).toNatClampNeg) - (nI 2232).toNatClampNeg) - (nI 2325).toNatClampNeg) - (nI 31).toNatClampNeg) - (nI 24).toNatClampNeg) - (nI 24).toNatClampNeg) - (nI 30).toNatClampNeg) - (nI 30).toNatClampNeg) - (nI 30).toNatClampNeg) - (nI 31).toNatClampNeg) - (nI 24).toNatClampNeg) - (nI 30).toNatClampNeg) - (nI 24).toNatClampNeg) - (nI 30).toNatClampNeg) fun v227 =>
  mputR 11 this 50 (some v227) <|
  mgetA 11 this 1 fun v233 =>
  mastI v233 3 (-1) <|
  mex fun n241 => jit (GX11_init_241 this Qj) (fun _ => mbot) n241 0
def GX1_four_3 (this : Nat) (p1 : Int) (Qj : MP) (rec3 : Int → MP) (x2_3 : Int) : MP :=
  mif (x2_3 < 0) (
    Qj
  ) (
    mgetA 1 this 0 fun v8 =>
    mgetA 2 v8 0 fun v11 =>
    mgetA 1 this 0 fun v15 =>
    mgetI 2 v15 7 fun v18 =>
    mastB v11 v18 (mi2b (mshr p1 x2_3)) <|
    mgetA 1 this 0 fun v27 =>
    mgetI 2 v27 7 fun v31 =>
    mputI 2 v27 7 (w32 (v31 + 1)) <|
    rec3 (w32 (x2_3 + (-8)))
  )
def MX1_four (this : Nat) (p1 : Int) (Qj : MP) : MP :=
  mex fun n3 => jit (GX1_four_3 this p1 Qj) (fun _ => mbot) n3 24
def MX1_feed (this : Nat) (p1 : Int) (p2 : Int) (p3 : Int) (p4 : Int) (p5 : Int) (Qj : Int → MP) : MP :=
  mgetA 1 this 0 fun v1 =>
  mgetI 2 v1 7 fun v4 =>
  mif ((w32 (v4 + 20)) ≤ 400) (
    mobj 1 this <|
    MX1_four this p1 <|
    mobj 1 this <|
    MX1_four this p2 <|
    mobj 1 this <|
    MX1_four this p3 <|
    mobj 1 this <|
    MX1_four this p4 <|
    mobj 1 this <|
    MX1_four this p5 <|
    mgetA 1 this 0 fun v46 =>
    mgetI 2 v46 7 fun v49 =>
    Qj v49
  ) (
    Qj (-1)
  )
def GX11_feed_60 (this : Nat) (k106 : MP) (rec60 : Int → MP) (x6_60 : Int) : MP :=
  mif ((20 : Int) ≤ x6_60) (
    k106
  ) (
    mgetA 11 this 4 fun v68 =>
    mgetI 11 this 5 fun v72 =>
    mgetA 11 this 11 fun v79 =>
    maldI 0 v79 (w32 (Int.tdiv x6_60 4)) fun v86 =>
    mastB v68 (w32 (v72 + x6_60)) (mi2b (mshr v86 (w32 (24 - (w32 (8 * (Int.tmod x6_60 4))))))) <|
    rec60 (w32 (x6_60 + 1))
  )
def MX11_feed (this : Nat) (p1 : Int) (p2 : Int) (p3 : Int) (p4 : Int) (p5 : Int) (Qj : Int → MP) : MP :=
  mputI 11 this 0 0 <|
  mgetI 11 this 5 fun v6 =>
  mif ((w32 (v6 + 20)) ≤ 400) (
    mgetA 11 this 11 fun v21 =>
    mastI v21 0 p1 <|
    mgetA 11 this 11 fun v28 =>
    mastI v28 1 p2 <|
    mgetA 11 this 11 fun v35 =>
    mastI v35 2 p3 <|
    mgetA 11 this 11 fun v42 =>
    mastI v42 3 p4 <|
    mgetA 11 this 11 fun v50 =>
    mastI v50 4 p5 <|
    mex fun n60 => jit (GX11_feed_60 this (mgetI 11 this 5 fun v108 => mputI 11 this 5 (w32 (v108 + 20)) <| mgetI 11 this 5 fun v118 => Qj v118)) (fun _ => mbot) n60 0
  ) (
    Qj (-1)
  )
def MX1_isIn (p0 : Int) (p1 : Int) (p2 : Int) (Qj : Int → MP) : MP :=
  mjoin (α := MP) (
    Qj 0
  ) fun k14 =>
  mif (p0 < p1) (
    k14
  ) (
    mif (p2 < p0) (
      k14
    ) (
      Qj 1
    )
  )
def MX1_end (this : Nat) (p1 : Int) (Qj : Int → MP) : MP :=
  mgetA 1 this 0 fun v3 =>
  mgetI 2 v3 7 fun v6 =>
  MX1_isIn p1 0 v6 fun v9 =>
  mif (v9 = 0) (
    Qj 0
  ) (
    mgetA 1 this 0 fun v18 =>
    mputI 2 v18 7 p1 <|
    Qj 1
  )
def MX11_end (this : Nat) (p1 : Int) (Qj : Int → MP) : MP :=
  mputI 11 this 0 0 <|
  mif (p1 < 0) (
    Qj 0
  ) (
    mgetI 11 this 5 fun v11 =>
    mif (p1 ≤ v11) (
      mputI 11 this 5 p1 <|
      Qj 1
    ) (
      Qj 0
    )
  )
def MX1_use (this : Nat) (Qj : Int → MP) : MP :=
  mgetA 1 this 0 fun v1 =>
  mgetI 2 v1 7 fun v4 =>
  mgetA 1 this 0 fun v9 =>
  mputI 2 v9 7 0 <|
  mputI 1 this 13 (-1) <|
  Qj v4
def GX2_sign_0 (this : Nat) (k38 : MP) (rec0 : MP) : MP :=
  mgetI 2 this 9 fun v1 =>
  mgetI 2 this 8 fun v5 =>
  mif (v5 ≤ v1) (
    k38
  ) (
    mgetA 2 this 0 fun v12 =>
    mgetI 2 this 9 fun v16 =>
    maldI 2 v12 v16 fun v19 =>
    mif (v19 = 32) (
      mgetI 2 this 9 fun v27 =>
      mputI 2 this 9 (w32 (v27 + 1)) <|
      rec0
    ) (
      k38
    )
  )
def MX2_sign (this : Nat) (Qj : Int → MP) : MP :=
  mex fun n0 => jit (GX2_sign_0 this (mgetI 2 this 9 fun v39 => mgetI 2 this 8 fun v43 => mif (v43 ≤ v39) (   Qj (-1) ) (   mgetA 2 this 0 fun v50 =>   mgetI 2 this 9 fun v54 =>   maldI 2 v50 v54 fun v57 =>   Qj (mand32 v57 255) ))) mbot n0
def MX2_fail (this : Nat) (p1 : Int) (Ex : Nat → Nat → MP) (Qj : MP) : MP :=
  mgetA 2 this 6 fun v1 =>
  mputI 6 v1 6 p1 <|
  mgetA 2 this 6 fun v9 =>
  mthrowO 4 v9 Ex
def GX2_takes_69 (sK : Nat → Nat) (this : Nat) (p1 : Nat) (k117 : Int → MP) (rec69 : Int → Int → MP) (x4_69 : Int) (x5_69 : Int) : MP :=
  msobj sK p1 <|
  MJ3_length sK p1 fun v72 =>
  mif (v72 ≤ x5_69) (
    k117 x4_69
  ) (
    mif (x4_69 = 0) (
      k117 x4_69
    ) (
      mgetA 2 this 0 fun v84 =>
      mgetI 2 this 9 fun v88 =>
      maldI 2 v84 (w32 (v88 + x5_69)) fun v94 =>
      msobj sK p1 <|
      MJ3_charAt sK p1 x5_69 fun v98 =>
      mjoin (α := Int → MP) (fun (s0_109 : Int) =>
        rec69 s0_109 (w32 (x5_69 + 1))
      ) fun k109 =>
      mif (v94 = v98) (
        k109 1
      ) (
        k109 0
      )
    )
  )
def GX2_takes_10 (this : Nat) (k46 : Int → MP) (rec10 : Int → MP) (x3_10 : Int) : MP :=
  mgetI 2 this 8 fun v12 =>
  mif (v12 ≤ x3_10) (
    k46 x3_10
  ) (
    mgetA 2 this 0 fun v19 =>
    maldI 2 v19 x3_10 fun v23 =>
    mif (v23 < 97) (
      k46 x3_10
    ) (
      mgetA 2 this 0 fun v30 =>
      maldI 2 v30 x3_10 fun v34 =>
      mif ((122 : Int) < v34) (
        k46 x3_10
      ) (
        rec10 (w32 (x3_10 + 1))
      )
    )
  )
def MX2_takes (sK : Nat → Nat) (this : Nat) (p1 : Nat) (Qj : Int → MP) : MP :=
  mobj 2 this <|
  MX2_sign this fun v1 =>
  mgetI 2 this 9 fun v6 =>
  mex fun n10 => jit (GX2_takes_10 this (fun (y3_46 : Int) => mgetI 2 this 9 fun v48 => msobj sK p1 <| MJ3_length sK p1 fun v53 => mjoin (α := Int → MP) (fun (s0_64 : Int) =>   mex fun n69 => jit (GX2_takes_69 sK this p1 (fun (y4_117 : Int) => mif (y4_117 = 0) (   mand (y4_117 = 0 ∨ y4_117 = 1) (     Qj y4_117   ) ) (   mputI 2 this 9 y3_46 <|   mand (y4_117 = 0 ∨ y4_117 = 1) (     Qj y4_117   ) ))) (fun _ _ => mbot) n69 s0_64 0 ) fun k64 => mif ((w32 (y3_46 - v48)) = v53) (   k64 1 ) (   k64 0 ))) (fun _ => mbot) n10 v6
def GX2_number_14 (this : Nat) (Ex : Nat → Nat → MP) (v6 : Int) (k103 : Int → MP) (rec14 : Int → MP) (x5_14 : Int) : MP :=
  mgetI 2 this 9 fun v15 =>
  mgetI 2 this 8 fun v19 =>
  mif (v19 ≤ v15) (
    k103 x5_14
  ) (
    mgetA 2 this 0 fun v26 =>
    mgetI 2 this 9 fun v30 =>
    maldI 2 v26 v30 fun v33 =>
    mif (v33 < 48) (
      k103 x5_14
    ) (
      mgetA 2 this 0 fun v40 =>
      mgetI 2 this 9 fun v44 =>
      maldI 2 v40 v44 fun v47 =>
      mif ((57 : Int) < v47) (
        k103 x5_14
      ) (
        mgetI 2 this 9 fun v54 =>
        mjoin (α := MP) (
          mgetA 2 this 0 fun v76 =>
          mgetI 2 this 9 fun v80 =>
          maldI 2 v76 v80 fun v83 =>
          mgetI 2 this 9 fun v92 =>
          mputI 2 this 9 (w32 (v92 + 1)) <|
          rec14 (w32 ((w32 ((w32 (10 * x5_14)) + v83)) - 48))
        ) fun k70 =>
        mif ((w32 (v54 - v6)) = 3) (
          mobj 2 this <|
          MX2_fail this v6 Ex k70
        ) (
          k70
        )
      )
    )
  )
def MX2_number (this : Nat) (p1 : Int) (p2 : Int) (Ex : Nat → Nat → MP) (Qj : Int → MP) : MP :=
  mobj 2 this <|
  MX2_sign this fun v1 =>
  mgetI 2 this 9 fun v6 =>
  mex fun n14 => jit (GX2_number_14 this Ex v6 (fun (y5_103 : Int) => mgetI 2 this 9 fun v104 => mjoin (α := MP) (   mobj 2 this <|   MX2_fail this v6 Ex <|   Qj y5_103 ) fun k124 => mif (v104 = v6) (   k124 ) (   mif (y5_103 < p1) (     k124   ) (     mif (y5_103 ≤ p2) (       Qj y5_103     ) (       k124     )   ) ))) (fun _ => mbot) n14 0
def MX13_init (this : Nat) (p1 : Int) (Qj : MP) : MP :=
  MX3_init this <|
  mputI 13 this 0 p1 <|
  Qj
def MX14_init (this : Nat) (p1 : Int) (Qj : MP) : MP :=
  MX3_init this <|
  mputI 14 this 0 p1 <|
  Qj
def MX15_init (this : Nat) (p1 : Int) (Qj : MP) : MP :=
  MX3_init this <|
  mputI 15 this 0 p1 <|
  Qj
def MX2_going (sK : Nat → Nat) (bc : Nat) (bs : Nat) (this : Nat) (Ex : Nat → Nat → MP) (Qj : Nat → MP) : MP :=
  mobj 2 this <|
  MX2_takes sK this (sK 4) fun v3 =>
  mif (v3 = 0) (
    mobj 2 this <|
    MX2_takes sK this (sK 5) fun v26 =>
    mif (v26 = 0) (
      mobj 2 this <|
      MX2_takes sK this (sK 6) fun v49 =>
      mif (v49 = 0) (
        mobj 2 this <|
        MX2_takes sK this (sK 7) fun v72 =>
        mif (v72 = 0) (
          mobj 2 this <|
          MX2_takes sK this (sK 8) fun v86 =>
          mjoin (α := MP) (
            mgetA 2 this 5 fun v101 =>
            Qj v101
          ) fun k100 =>
          mif (v86 = 0) (
            mgetI 2 this 9 fun v94 =>
            mobj 2 this <|
            MX2_fail this v94 Ex k100
          ) (
            k100
          )
        ) (
          mgetA 2 this 4 fun v79 =>
          Qj v79
        )
      ) (
        mnew 15 1 bc bs fun v55 =>
        mobj 2 this <|
        MX2_number this 1 5 Ex fun v62 =>
        MX15_init v55 v62 <|
        Qj v55
      )
    ) (
      mnew 14 1 bc bs fun v32 =>
      mobj 2 this <|
      MX2_number this 1 5 Ex fun v39 =>
      MX14_init v32 v39 <|
      Qj v32
    )
  ) (
    mnew 13 1 bc bs fun v9 =>
    mobj 2 this <|
    MX2_number this 1 5 Ex fun v16 =>
    MX13_init v9 v16 <|
    Qj v9
  )
def GX2_fact_2 (sK : Nat → Nat) (this : Nat) (Qj : Int → MP) (k28 : MP) (rec2 : Int → MP) (x1_2 : Int) : MP :=
  mif ((4 : Int) ≤ x1_2) (
    k28
  ) (
    mgetA 2 this 1 fun v9 =>
    maldA 4 v9 x1_2 fun v13 =>
    mobj 2 this <|
    MX2_takes sK this v13 fun v14 =>
    mif (v14 = 0) (
      rec2 (w32 (x1_2 + 1))
    ) (
      Qj x1_2
    )
  )
def MX2_fact (sK : Nat → Nat) (this : Nat) (Ex : Nat → Nat → MP) (Qj : Int → MP) : MP :=
  mex fun n2 => jit (GX2_fact_2 sK this Qj (mgetI 2 this 9 fun v30 => mobj 2 this <| MX2_fail this v30 Ex <| Qj (-1))) (fun _ => mbot) n2 0
def MX18_init (this : Nat) (p1 : Int) (Qj : MP) : MP :=
  mputI 18 this 0 p1 <|
  Qj
def MX19_init (bc : Nat) (bs : Nat) (this : Nat) (Qj : MP) : MP :=
  mnewT 0 4 bc bs fun v6 =>
  mputR 19 this 0 (some v6) <|
  Qj
def MX2_part (sK : Nat → Nat) (this : Nat) (p1 : Nat) (Ex : Nat → Nat → MP) (Qj : MP) : MP :=
  mobj 2 this <|
  MX2_sign this fun v1 =>
  mjoin (α := MP) (
    mgetA 19 p1 0 fun v38 =>
    mobj 2 this <|
    MX2_fact sK this Ex fun v42 =>
    maldI 0 v38 v42 fun v46 =>
    mastI v38 v42 (w32 (v46 + 1)) <|
    Qj
  ) fun k37 =>
  mif (v1 < 48) (
    k37
  ) (
    mif ((57 : Int) < v1) (
      k37
    ) (
      mgetI 19 p1 1 fun v19 =>
      mobj 2 this <|
      MX2_number this 0 999 Ex fun v27 =>
      mputI 19 p1 1 (w32 (v19 + v27)) <|
      Qj
    )
  )
def GX2_sum_13 (sK : Nat → Nat) (this : Nat) (Ex : Nat → Nat → MP) (Qj : Nat → MP) (v0 : Nat) (rec13 : MP) : MP :=
  mobj 2 this <|
  MX2_sign this fun v14 =>
  mif (v14 = 43) (
    mgetI 2 this 9 fun v24 =>
    mputI 2 this 9 (w32 (v24 + 1)) <|
    mobj 2 this <|
    MX2_part sK this v0 Ex rec13
  ) (
    Qj v0
  )
def MX2_sum (sK : Nat → Nat) (bc : Nat) (bs : Nat) (this : Nat) (Ex : Nat → Nat → MP) (Qj : Nat → MP) : MP :=
  mnew 19 2 bc bs fun v0 =>
  mbud (bc - 1) (bs - 2) fun mc4 ms4 =>
  MX19_init mc4 ms4 v0 <|
  mobj 2 this <|
  MX2_part sK this v0 Ex <|
  mex fun n13 => jit (GX2_sum_13 sK this Ex Qj v0) mbot n13
def MX20_init (this : Nat) (p1 : Nat) (p2 : Nat) (Qj : MP) : MP :=
  mputR 20 this 0 (some p1) <|
  mputR 20 this 1 (some p2) <|
  Qj
def MX2_tag (sK : Nat → Nat) (bc : Nat) (bs : Nat) (this : Nat) (Ex : Nat → Nat → MP) (Qj : Nat → MP) : MP :=
  mobj 2 this <|
  MX2_takes sK this (sK 14) fun v3 =>
  mif (v3 = 0) (
    mobj 2 this <|
    MX2_takes sK this (sK 15) fun v21 =>
    mif (v21 = 0) (
      mbud bc bs fun mc37 ms37 =>
      mobj 2 this <|
      MX2_sum sK mc37 ms37 this Ex fun v37 =>
      mobj 2 this <|
      MX2_sign this fun v42 =>
      mjoin (α := MP) (
        mgetI 2 this 9 fun v68 =>
        mputI 2 this 9 (w32 (v68 + 1)) <|
        mbud (bc - mc37) (bs - ms37) fun mc77 ms77 =>
        mobj 2 this <|
        MX2_sum sK mc77 ms77 this Ex fun v77 =>
        mif (v42 = 60) (
          mnew 20 2 ((bc - mc37) - mc77) ((bs - ms37) - ms77) fun v87 =>
          MX20_init v87 v37 v77 <|
          Qj v87
        ) (
          mnew 20 2 ((bc - mc37) - mc77) ((bs - ms37) - ms77) fun v99 =>
          MX20_init v99 v77 v37 <|
          Qj v99
        )
      ) fun k66 =>
      mif (v42 = 60) (
        k66
      ) (
        mif (v42 = 62) (
          k66
        ) (
          mgetI 2 this 9 fun v60 =>
          mobj 2 this <|
          MX2_fail this v60 Ex k66
        )
      )
    ) (
      mnew 18 1 bc bs fun v27 =>
      MX18_init v27 5 <|
      Qj v27
    )
  ) (
    mnew 18 1 bc bs fun v9 =>
    MX18_init v9 4 <|
    Qj v9
  )
def MX21_init (this : Nat) (p1 : Nat) (Qj : MP) : MP :=
  mputR 21 this 0 (some p1) <|
  Qj
def MX17_init (this : Nat) (p1 : Nat) (p2 : Int) (Qj : MP) : MP :=
  mputR 17 this 0 (some p1) <|
  mputZ 17 this 1 p2 <|
  Qj
def MX2_atomF (sK : Nat → Nat) (rJX2_atom : Nat → Nat → Nat → (Nat → Nat → MP) → (Nat → MP) → MP) (rJX2_row : Nat → Nat → Nat → Int → (Nat → Nat → MP) → (Nat → MP) → MP) (bc : Nat) (bs : Nat) (this : Nat) (Ex : Nat → Nat → MP) (Qj : Nat → MP) : MP :=
  mobj 2 this <|
  MX2_sign this fun v1 =>
  mgetI 2 this 9 fun v6 =>
  mobj 2 this <|
  MX2_takes sK this (sK 13) fun v13 =>
  mjoin (α := MP) (
    mgetI 2 this 10 fun v33 =>
    mjoin (α := MP) (
      mgetI 2 this 10 fun v48 =>
      mputI 2 this 10 (w32 (v48 + 1)) <|
      mjoin (α := Nat → Nat → Nat → MP) (fun (x4_120 : Nat) (bc_120 : Nat) (bs_120 : Nat) =>
        mgetI 2 this 10 fun v122 =>
        mputI 2 this 10 (w32 (v122 - 1)) <|
        Qj x4_120
      ) fun k120 =>
      mif (v13 = 0) (
        mgetI 2 this 9 fun v78 =>
        mputI 2 this 9 (w32 (v78 + 1)) <|
        mbud bc bs fun mc88 ms88 =>
        mobj 2 this <|
        rJX2_row mc88 ms88 this 0 Ex fun v88 =>
        mobj 2 this <|
        MX2_sign this fun v94 =>
        mjoin (α := MP) (
          mgetI 2 this 9 fun v112 =>
          mputI 2 this 9 (w32 (v112 + 1)) <|
          k120 v88 (bc - mc88) (bs - ms88)
        ) fun k110 =>
        mif (v94 = 41) (
          k110
        ) (
          mgetI 2 this 9 fun v104 =>
          mobj 2 this <|
          MX2_fail this v104 Ex k110
        )
      ) (
        mnew 21 1 bc bs fun v60 =>
        mbud (bc - 1) (bs - 1) fun mc65 ms65 =>
        mobj 2 this <|
        rJX2_atom mc65 ms65 this Ex fun v65 =>
        MX21_init v60 v65 <|
        k120 v60 ((bc - 1) - mc65) ((bs - 1) - ms65)
      )
    ) fun k46 =>
    mif (v33 = 6) (
      mobj 2 this <|
      MX2_fail this v6 Ex k46
    ) (
      k46
    )
  ) fun k32 =>
  mif (v13 = 0) (
    mif (v1 = 40) (
      k32
    ) (
      mbud bc bs fun mc28 ms28 =>
      mobj 2 this <|
      MX2_tag sK mc28 ms28 this Ex fun v28 =>
      Qj v28
    )
  ) (
    k32
  )
def GX2_row_27 (sK : Nat → Nat) (rJX2_atom : Nat → Nat → Nat → (Nat → Nat → MP) → (Nat → MP) → MP) (rJX2_row : Nat → Nat → Nat → Int → (Nat → Nat → MP) → (Nat → MP) → MP) (this : Nat) (p1 : Int) (Ex : Nat → Nat → MP) (Qj : Nat → MP) (v0 : Nat) (rec27 : Option Nat → Nat → Nat → MP) (x3_27 : Option Nat) (bc_27 : Nat) (bs_27 : Nat) : MP :=
  mjoin (α := Nat → MP) (fun (s1_39 : Nat) =>
    mobj 2 this <|
    MX2_takes sK this s1_39 fun v39 =>
    mif (v39 = 0) (
      Qj v0
    ) (
      mnew 17 3 bc_27 bs_27 fun v46 =>
      mjoin (α := Nat → Nat → Nat → MP) (fun (s3_66 : Nat) (bc_66 : Nat) (bs_66 : Nat) =>
        MX17_init v46 s3_66 p1 <|
        msome x3_27 fun u70 =>
        mputR 17 u70 2 (some v46) <|
        mgetO 17 u70 2 fun v74 =>
        rec27 v74 bc_66 bs_66
      ) fun k66 =>
      mif (p1 = 0) (
        mbud (bc_27 - 1) (bs_27 - 3) fun mc63 ms63 =>
        mobj 2 this <|
        rJX2_row mc63 ms63 this 1 Ex fun v63 =>
        k66 v63 ((bc_27 - 1) - mc63) ((bs_27 - 3) - ms63)
      ) (
        mbud (bc_27 - 1) (bs_27 - 3) fun mc55 ms55 =>
        mobj 2 this <|
        rJX2_atom mc55 ms55 this Ex fun v55 =>
        k66 v55 ((bc_27 - 1) - mc55) ((bs_27 - 3) - ms55)
      )
    )
  ) fun k39 =>
  mif (p1 = 0) (
    k39 (sK 12)
  ) (
    k39 (sK 11)
  )
def MX2_rowF (sK : Nat → Nat) (rJX2_atom : Nat → Nat → Nat → (Nat → Nat → MP) → (Nat → MP) → MP) (rJX2_row : Nat → Nat → Nat → Int → (Nat → Nat → MP) → (Nat → MP) → MP) (bc : Nat) (bs : Nat) (this : Nat) (p1 : Int) (Ex : Nat → Nat → MP) (Qj : Nat → MP) : MP :=
  mnew 17 3 bc bs fun v0 =>
  mjoin (α := Nat → Nat → Nat → MP) (fun (s2_20 : Nat) (bc_20 : Nat) (bs_20 : Nat) =>
    MX17_init v0 s2_20 p1 <|
    mex fun n27 => jit (GX2_row_27 sK rJX2_atom rJX2_row this p1 Ex Qj v0) (fun _ _ _ => mbot) n27 (some v0) bc_20 bs_20
  ) fun k20 =>
  mif (p1 = 0) (
    mbud (bc - 1) (bs - 3) fun mc17 ms17 =>
    mobj 2 this <|
    rJX2_row mc17 ms17 this 1 Ex fun v17 =>
    k20 v17 ((bc - 1) - mc17) ((bs - 3) - ms17)
  ) (
    mbud (bc - 1) (bs - 3) fun mc9 ms9 =>
    mobj 2 this <|
    rJX2_atom mc9 ms9 this Ex fun v9 =>
    k20 v9 ((bc - 1) - mc9) ((bs - 3) - ms9)
  )
def MX2_atomR (sK : Nat → Nat) : Nat → (Nat → Nat → Nat → (Nat → Nat → MP) → (Nat → MP) → MP) × (Nat → Nat → Nat → Int → (Nat → Nat → MP) → (Nat → MP) → MP)
  | 0 => ((fun _ _ _ _ _ => mbot), (fun _ _ _ _ _ _ => mbot))
  | n + 1 => (MX2_atomF sK (MX2_atomR sK n).1 (MX2_atomR sK n).2, MX2_rowF sK (MX2_atomR sK n).1 (MX2_atomR sK n).2)
def MX2_atom (sK : Nat → Nat) (n : Nat) : Nat → Nat → Nat → (Nat → Nat → MP) → (Nat → MP) → MP := (MX2_atomR sK n).1
def MX2_row (sK : Nat → Nat) (n : Nat) : Nat → Nat → Nat → Int → (Nat → Nat → MP) → (Nat → MP) → MP := (MX2_atomR sK n).2
def MX16_init (this : Nat) (p1 : Int) (p2 : Int) (p3 : Option Nat) (Qj : MP) : MP :=
  mputI 16 this 0 p1 <|
  mputI 16 this 1 p2 <|
  mputR 16 this 2 p3 <|
  Qj
def MX2_playLine (sK : Nat → Nat) (bc : Nat) (bs : Nat) (this : Nat) (Ex : Nat → Nat → MP) (Qj : Nat → MP) : MP :=
  mobj 2 this <|
  MX2_takes sK this (sK 9) fun v3 =>
  mjoin (α := MP) (
    mobj 2 this <|
    MX2_number this 0 999 Ex fun v22 =>
    mobj 2 this <|
    MX2_sign this fun v29 =>
    mjoin (α := Int → MP) (fun (x2_52 : Int) =>
      mnew 16 3 bc bs fun v52 =>
      mobj 2 this <|
      MX2_takes sK this (sK 10) fun v61 =>
      mif (v61 = 0) (
        MX16_init v52 v22 x2_52 none <|
        Qj v52
      ) (
        mbud (bc - 1) (bs - 3) fun mc69 ms69 =>
        mobj 2 this <|
        MX2_row sK 40 mc69 ms69 this 0 Ex fun v69 =>
        MX16_init v52 v22 x2_52 (some v69) <|
        Qj v52
      )
    ) fun k52 =>
    mif (v29 = 42) (
      mgetI 2 this 9 fun v39 =>
      mputI 2 this 9 (w32 (v39 + 1)) <|
      mobj 2 this <|
      MX2_fact sK this Ex fun v48 =>
      k52 v48
    ) (
      k52 (-1)
    )
  ) fun k17 =>
  mif (v3 = 0) (
    mgetI 2 this 9 fun v11 =>
    mobj 2 this <|
    MX2_fail this v11 Ex k17
  ) (
    k17
  )
def GX2_lines_32 (sK : Nat → Nat) (this : Nat) (p2 : Int) (Ex : Nat → Nat → MP) (Qj : Int → MP) (rec32 : Int → Int → Nat → Nat → MP) (x3_32 : Int) (x4_32 : Int) (bc_32 : Nat) (bs_32 : Nat) : MP :=
  mif (x4_32 = 0) (
    Qj x3_32
  ) (
    mobj 2 this <|
    MX2_sign this fun v38 =>
    mjoin (α := Int → MP) (fun (s1_55 : Int) =>
      mjoin (α := MP) (
        mjoin (α := Nat → Nat → MP) (fun (bc_93 : Nat) (bs_93 : Nat) =>
          mobj 2 this <|
          MX2_sign this fun v97 =>
          mjoin (α := Int → MP) (fun (s0_110 : Int) =>
            mjoin (α := MP) (
              rec32 (w32 (x3_32 + 1)) s0_110 bc_93 bs_93
            ) fun k146 =>
            mif (s0_110 = 0) (
              mobj 2 this <|
              MX2_sign this fun v131 =>
              mif (v131 = (-1)) (
                k146
              ) (
                mgetI 2 this 9 fun v140 =>
                mobj 2 this <|
                MX2_fail this v140 Ex k146
              )
            ) (
              mgetI 2 this 9 fun v119 =>
              mputI 2 this 9 (w32 (v119 + 1)) <|
              k146
            )
          ) fun k110 =>
          mif (v97 = 59) (
            k110 1
          ) (
            k110 0
          )
        ) fun k93 =>
        mif (p2 = 0) (
          mgetA 2 this 3 fun v84 =>
          mbud bc_32 bs_32 fun mc89 ms89 =>
          mobj 2 this <|
          MX2_playLine sK mc89 ms89 this Ex fun v89 =>
          mastA 6 16 v84 x3_32 v89 <|
          k93 (bc_32 - mc89) (bs_32 - ms89)
        ) (
          mgetA 2 this 2 fun v71 =>
          mbud bc_32 bs_32 fun mc76 ms76 =>
          mobj 2 this <|
          MX2_going sK mc76 ms76 this Ex fun v76 =>
          mastX 5 v71 x3_32 v76 <|
          k93 (bc_32 - mc76) (bs_32 - ms76)
        )
      ) fun k66 =>
      mif (x3_32 = s1_55) (
        mgetI 2 this 9 fun v60 =>
        mobj 2 this <|
        MX2_fail this v60 Ex k66
      ) (
        k66
      )
    ) fun k55 =>
    mif (p2 = 0) (
      k55 10
    ) (
      k55 6
    )
  )
def MX2_lines (sK : Nat → Nat) (bc : Nat) (bs : Nat) (this : Nat) (p1 : Int) (p2 : Int) (Ex : Nat → Nat → MP) (Qj : Int → MP) : MP :=
  mputI 2 this 8 p1 <|
  mputI 2 this 9 0 <|
  mputI 2 this 10 0 <|
  mobj 2 this <|
  MX2_sign this fun v18 =>
  mjoin (α := Int → MP) (fun (s0_30 : Int) =>
    mex fun n32 => jit (GX2_lines_32 sK this p2 Ex Qj) (fun _ _ _ _ => mbot) n32 0 s0_30 bc bs
  ) fun k30 =>
  mif (v18 = (-1)) (
    k30 0
  ) (
    k30 1
  )
def MX12_init (bc : Nat) (bs : Nat) (this : Nat) (p1 : Int) (p2 : Nat) (p3 : Int) (Qj : MP) : MP :=
  mputI 12 this 0 p1 <|
  mnewT 5 p3 bc bs fun v11 =>
  mputR 12 this 1 (some v11) <|
  mgetA 12 this 1 fun v20 =>
  mcpyA 5 p2 0 v20 0 p3 <|
  Qj
def MX2_kind (sK : Nat → Nat) (bc : Nat) (bs : Nat) (this : Nat) (p1 : Int) (p2 : Int) (Ex : Nat → Nat → MP) (Qj : Nat → MP) : MP :=
  mnew 12 2 bc bs fun v0 =>
  mgetA 2 this 2 fun v6 =>
  mbud (bc - 1) (bs - 2) fun mc12 ms12 =>
  mobj 2 this <|
  MX2_lines sK mc12 ms12 this p1 1 Ex fun v12 =>
  mbud ((bc - 1) - mc12) ((bs - 2) - ms12) fun mc15 ms15 =>
  MX12_init mc15 ms15 v0 p2 v6 v12 <|
  Qj v0
def MX1_must (bc : Nat) (bs : Nat) (p0 : Int) (Ex : Nat → Nat → MP) (Qj : MP) : MP :=
  mif (p0 = 0) (
    mthrow 0 bc bs Ex
  ) (
    Qj
  )
def MX1_mayBe (bc : Nat) (bs : Nat) (p0 : Int) (Ex : Nat → Nat → MP) (Qj : MP) : MP :=
  mif (p0 = 0) (
    mthrow 1 bc bs Ex
  ) (
    Qj
  )
def MX1_kind (sK : Nat → Nat) (bc : Nat) (bs : Nat) (this : Nat) (p1 : Int) (Ex : Nat → Nat → MP) (Qj : Int → MP) : MP :=
  mobj 1 this <|
  MX1_use this fun v1 =>
  mgetA 1 this 0 fun v6 =>
  mbud bc bs fun mc11 ms11 =>
  mobj 2 v6 <|
  MX2_kind sK mc11 ms11 v6 v1 p1 (fun (xx11 xq11 : Nat) => mif (xx11 = 4) (   mgetI 6 xq11 6 fun v23 =>   mputI 1 this 13 v23 <|   mthrow 0 (bc - mc11) (bs - ms11) Ex ) (   mbot )) fun v11 =>
  MX1_isIn p1 0 20 fun v41 =>
  mbud (bc - mc11) (bs - ms11) fun mc44 ms44 =>
  MX1_must mc44 ms44 v41 Ex <|
  mgetA 1 this 1 fun v48 =>
  mgetI 7 v48 6 fun v51 =>
  mjoin (α := Int → MP) (fun (s0_63 : Int) =>
    mbud ((bc - mc11) - mc44) ((bs - ms11) - ms44) fun mc63 ms63 =>
    MX1_mayBe mc63 ms63 s0_63 Ex <|
    mgetA 1 this 1 fun v67 =>
    mgetA 7 v67 0 fun v70 =>
    mgetA 1 this 1 fun v74 =>
    mgetI 7 v74 6 fun v77 =>
    mastA 7 12 v70 v77 v11 <|
    mgetA 1 this 1 fun v83 =>
    mgetI 7 v83 6 fun v87 =>
    mputI 7 v83 6 (w32 (v87 + 1)) <|
    mgetA 1 this 1 fun v96 =>
    mgetI 7 v96 6 fun v99 =>
    Qj (w32 (v99 - 1))
  ) fun k63 =>
  mif ((5 : Int) ≤ v51) (
    k63 0
  ) (
    k63 1
  )
def MX0_kind (sK : Nat → Nat) (bc : Nat) (bs : Nat) (p0 : Nat) (p1 : Int) (p2 : Nat) (Qj : Int → MP) : MP :=
  mbud bc bs fun mc4 ms4 =>
  mobj 1 p0 <|
  MX1_kind sK mc4 ms4 p0 p1 (fun (xx4 xq4 : Nat) => mif (xx4 = 0) (   Qj 1 ) (   mif (xx4 = 1) (     Qj 2   ) (     mbot   ) )) fun v4 =>
  mastL p2 0 v4 <|
  Qj 0
def MX11_isAt (this : Nat) (p1 : Int) (p2 : Int) (Qj : Int → MP) : MP :=
  mgetI 11 this 6 fun v1 =>
  mgetI 11 this 7 fun v5 =>
  mjoin (α := MP) (
    Qj 0
  ) fun k41 =>
  mif (v5 ≤ v1) (
    k41
  ) (
    mgetA 11 this 4 fun v12 =>
    mgetI 11 this 6 fun v16 =>
    maldI 2 v12 v16 fun v19 =>
    mif (v19 < p1) (
      k41
    ) (
      mgetA 11 this 4 fun v25 =>
      mgetI 11 this 6 fun v29 =>
      maldI 2 v25 v29 fun v32 =>
      mif (p2 < v32) (
        k41
      ) (
        Qj 1
      )
    )
  )
def GX11_blanks_0 (this : Nat) (k24 : MP) (rec0 : MP) : MP :=
  mobj 11 this <|
  MX11_isAt this 32 32 fun v5 =>
  mif (v5 = 0) (
    k24
  ) (
    mgetI 11 this 6 fun v13 =>
    mputI 11 this 6 (w32 (v13 + 1)) <|
    rec0
  )
def MX11_blanks (this : Nat) (Qj : MP) : MP :=
  mex fun n0 => jit (GX11_blanks_0 this (mgetI 11 this 6 fun v26 => mputI 11 this 8 v26 <| Qj)) mbot n0
def GX11_letters_4 (this : Nat) (Qj : MP) (rec4 : MP) : MP :=
  mobj 11 this <|
  MX11_isAt this 97 122 fun v9 =>
  mif (v9 = 0) (
    Qj
  ) (
    mgetI 11 this 6 fun v17 =>
    mputI 11 this 6 (w32 (v17 + 1)) <|
    rec4
  )
def MX11_letters (this : Nat) (Qj : MP) : MP :=
  mobj 11 this <|
  MX11_blanks this <|
  mex fun n4 => jit (GX11_letters_4 this Qj) mbot n4
def GX11_isWord_24 (sK : Nat → Nat) (this : Nat) (p1 : Nat) (Qj : Int → MP) (rec24 : Int → Int → MP) (x2_24 : Int) (x3_24 : Int) : MP :=
  mif (x2_24 = 0) (
    mand (x2_24 = 0 ∨ x2_24 = 1) (
      Qj x2_24
    )
  ) (
    msobj sK p1 <|
    MJ3_length sK p1 fun v30 =>
    mif (v30 ≤ x3_24) (
      mand (x2_24 = 0 ∨ x2_24 = 1) (
        Qj x2_24
      )
    ) (
      mgetA 11 this 4 fun v37 =>
      mgetI 11 this 8 fun v41 =>
      maldI 2 v37 (w32 (v41 + x3_24)) fun v46 =>
      msobj sK p1 <|
      MJ3_charAt sK p1 x3_24 fun v49 =>
      mjoin (α := Int → MP) (fun (s0_60 : Int) =>
        rec24 s0_60 (w32 (x3_24 + 1))
      ) fun k60 =>
      mif (v46 = v49) (
        k60 1
      ) (
        k60 0
      )
    )
  )
def MX11_isWord (sK : Nat → Nat) (this : Nat) (p1 : Nat) (Qj : Int → MP) : MP :=
  mgetI 11 this 6 fun v1 =>
  mgetI 11 this 8 fun v5 =>
  msobj sK p1 <|
  MJ3_length sK p1 fun v10 =>
  mjoin (α := Int → MP) (fun (s0_21 : Int) =>
    mex fun n24 => jit (GX11_isWord_24 sK this p1 Qj) (fun _ _ => mbot) n24 s0_21 0
  ) fun k21 =>
  mif ((w32 (v1 - v5)) = v10) (
    k21 1
  ) (
    k21 0
  )
def GX11_number_6 (this : Nat) (k65 : Int → MP) (rec6 : Int → MP) (x3_6 : Int) : MP :=
  mobj 11 this <|
  MX11_isAt this 48 57 fun v11 =>
  mif (v11 = 0) (
    k65 x3_6
  ) (
    mgetI 11 this 6 fun v18 =>
    mgetI 11 this 8 fun v22 =>
    mjoin (α := Int → MP) (fun (s0_51 : Int) =>
      mgetI 11 this 6 fun v54 =>
      mputI 11 this 6 (w32 (v54 + 1)) <|
      rec6 s0_51
    ) fun k51 =>
    mif ((3 : Int) ≤ (w32 (v18 - v22))) (
      k51 x3_6
    ) (
      mgetA 11 this 4 fun v35 =>
      mgetI 11 this 6 fun v39 =>
      maldI 2 v35 v39 fun v42 =>
      k51 (w32 ((w32 ((w32 (10 * x3_6)) + v42)) - 48))
    )
  )
def MX11_number (this : Nat) (p1 : Int) (p2 : Int) (Qj : Int → MP) : MP :=
  mobj 11 this <|
  MX11_blanks this <|
  mex fun n6 => jit (GX11_number_6 this (fun (y3_65 : Int) => mgetI 11 this 6 fun v66 => mgetI 11 this 8 fun v70 => mjoin (α := MP) (   Qj (-1) ) fun k99 => mif (v66 = v70) (   k99 ) (   mgetI 11 this 6 fun v77 =>   mgetI 11 this 8 fun v81 =>   mif ((3 : Int) < (w32 (v77 - v81))) (     k99   ) (     mif (y3_65 < p1) (       k99     ) (       mif (y3_65 ≤ p2) (         Qj y3_65       ) (         k99       )     )   ) ))) (fun _ => mbot) n6 0
def MX11_readKindLine (sK : Nat → Nat) (this : Nat) (p1 : Int) (Qj : Int → MP) : MP :=
  mobj 11 this <|
  MX11_isWord sK this (sK 4) fun v3 =>
  mjoin (α := Int → MP) (fun (s0_66 : Int) =>
    mgetA 11 this 13 fun v68 =>
    mastI v68 (w32 (2 * p1)) s0_66 <|
    mgetA 11 this 13 fun v77 =>
    mjoin (α := Int → MP) (fun (s2_104 : Int) =>
      mastI v77 (w32 ((w32 (2 * p1)) + 1)) s2_104 <|
      mjoin (α := MP) (
        Qj 0
      ) fun k126 =>
      mif (s0_66 < 0) (
        k126
      ) (
        mgetA 11 this 13 fun v110 =>
        maldI 0 v110 (w32 ((w32 (2 * p1)) + 1)) fun v118 =>
        mif (v118 < 0) (
          k126
        ) (
          Qj 1
        )
      )
    ) fun k104 =>
    mjoin (α := MP) (
      k104 0
    ) fun k103 =>
    mif (s0_66 < 0) (
      k103
    ) (
      mif ((3 : Int) ≤ s0_66) (
        k103
      ) (
        mobj 11 this <|
        MX11_number this 1 5 fun v97 =>
        k104 v97
      )
    )
  ) fun k66 =>
  mif (v3 = 0) (
    mobj 11 this <|
    MX11_isWord sK this (sK 5) fun v16 =>
    mif (v16 = 0) (
      mobj 11 this <|
      MX11_isWord sK this (sK 6) fun v29 =>
      mif (v29 = 0) (
        mobj 11 this <|
        MX11_isWord sK this (sK 7) fun v42 =>
        mif (v42 = 0) (
          mobj 11 this <|
          MX11_isWord sK this (sK 8) fun v55 =>
          mif (v55 = 0) (
            k66 (-1)
          ) (
            k66 4
          )
        ) (
          k66 3
        )
      ) (
        k66 2
      )
    ) (
      k66 1
    )
  ) (
    k66 0
  )
def MX11_keepsAt (this : Nat) (p1 : Int) (p2 : Int) (Qj : Int → MP) : MP :=
  mgetA 11 this 1 fun v1 =>
  mastI v1 p1 p2 <|
  mif (p2 < 0) (
    Qj 0
  ) (
    Qj 1
  )
def MX11_sign (this : Nat) (p1 : Int) (Qj : Int → MP) : MP :=
  mobj 11 this <|
  MX11_blanks this <|
  mobj 11 this <|
  MX11_isAt this p1 p1 fun v7 =>
  mif (v7 = 0) (
    Qj 0
  ) (
    mgetI 11 this 6 fun v17 =>
    mputI 11 this 6 (w32 (v17 + 1)) <|
    Qj 1
  )
def MX11_factAt (sK : Nat → Nat) (this : Nat) (Qj : Int → MP) : MP :=
  mobj 11 this <|
  MX11_isWord sK this (sK 0) fun v3 =>
  mif (v3 = 0) (
    mobj 11 this <|
    MX11_isWord sK this (sK 1) fun v16 =>
    mif (v16 = 0) (
      mobj 11 this <|
      MX11_isWord sK this (sK 2) fun v29 =>
      mif (v29 = 0) (
        mobj 11 this <|
        MX11_isWord sK this (sK 3) fun v42 =>
        mif (v42 = 0) (
          Qj (-1)
        ) (
          Qj 3
        )
      ) (
        Qj 2
      )
    ) (
      Qj 1
    )
  ) (
    Qj 0
  )
def MX11_passes (sK : Nat → Nat) (this : Nat) (p1 : Nat) (Qj : Int → MP) : MP :=
  mobj 11 this <|
  MX11_letters this <|
  mobj 11 this <|
  MX11_isWord sK this p1 fun v6 =>
  mif (v6 = 0) (
    mgetI 11 this 8 fun v16 =>
    mputI 11 this 6 v16 <|
    Qj 0
  ) (
    Qj 1
  )
def MX11_emits (this : Nat) (p1 : Int) (p2 : Int) (Qj : MP) : MP :=
  mgetI 11 this 12 fun v5 =>
  mgetA 11 this 1 fun v12 =>
  mastI v12 (w32 (1325 + (w32 (2 * v5)))) p1 <|
  mgetA 11 this 1 fun v19 =>
  mastI v19 (w32 ((w32 (1325 + (w32 (2 * v5)))) + 1)) p2 <|
  mgetI 11 this 12 fun v29 =>
  mputI 11 this 12 (w32 (v29 + 1)) <|
  Qj
def MX11_readPart (sK : Nat → Nat) (this : Nat) (Qj : Int → MP) : MP :=
  mobj 11 this <|
  MX11_letters this <|
  mgetI 11 this 6 fun v7 =>
  mgetI 11 this 8 fun v11 =>
  mjoin (α := Int → MP) (fun (x1_47 : Int) =>
    mif (x1_47 < 0) (
      Qj 0
    ) (
      Qj 1
    )
  ) fun k47 =>
  mif (v7 ≤ v11) (
    mobj 11 this <|
    MX11_number this 0 999 fun v36 =>
    mobj 11 this <|
    MX11_emits this 6 v36 <|
    k47 v36
  ) (
    mobj 11 this <|
    MX11_factAt sK this fun v18 =>
    mobj 11 this <|
    MX11_emits this v18 0 <|
    k47 v18
  )
def GX11_readSum_9 (sK : Nat → Nat) (this : Nat) (Qj : Int → MP) (rec9 : MP) : MP :=
  mobj 11 this <|
  MX11_sign this 43 fun v12 =>
  mif (v12 = 0) (
    Qj 1
  ) (
    mobj 11 this <|
    MX11_readPart sK this fun v19 =>
    mif (v19 = 0) (
      Qj 0
    ) (
      mobj 11 this <|
      MX11_emits this 7 0 rec9
    )
  )
def MX11_readSum (sK : Nat → Nat) (this : Nat) (Qj : Int → MP) : MP :=
  mobj 11 this <|
  MX11_readPart sK this fun v1 =>
  mif (v1 = 0) (
    Qj 0
  ) (
    mex fun n9 => jit (GX11_readSum_9 sK this Qj) mbot n9
  )
def GX11_readAllOf_9 (sK : Nat → Nat) (rJX11_readAtom : Nat → (Int → MP) → MP) (this : Nat) (Qj : Int → MP) (rec9 : MP) : MP :=
  mobj 11 this <|
  MX11_passes sK this (sK 11) fun v12 =>
  mif (v12 = 0) (
    Qj 1
  ) (
    mobj 11 this <|
    rJX11_readAtom this fun v19 =>
    mif (v19 = 0) (
      Qj 0
    ) (
      mobj 11 this <|
      MX11_emits this 11 0 rec9
    )
  )
def MX11_readAllOfF (sK : Nat → Nat) (rJX11_readAllOf : Nat → (Int → MP) → MP) (rJX11_readAtom : Nat → (Int → MP) → MP) (rJX11_readCond : Nat → (Int → MP) → MP) (this : Nat) (Qj : Int → MP) : MP :=
  mobj 11 this <|
  rJX11_readAtom this fun v1 =>
  mif (v1 = 0) (
    Qj 0
  ) (
    mex fun n9 => jit (GX11_readAllOf_9 sK rJX11_readAtom this Qj) mbot n9
  )
def MX11_readAtomF (sK : Nat → Nat) (rJX11_readAllOf : Nat → (Int → MP) → MP) (rJX11_readAtom : Nat → (Int → MP) → MP) (rJX11_readCond : Nat → (Int → MP) → MP) (this : Nat) (Qj : Int → MP) : MP :=
  mobj 11 this <|
  MX11_sign this 40 fun v3 =>
  mif (v3 = 0) (
    mobj 11 this <|
    MX11_passes sK this (sK 13) fun v59 =>
    mif (v59 = 0) (
      mobj 11 this <|
      MX11_passes sK this (sK 14) fun v117 =>
      mjoin (α := MP) (
        mjoin (α := Int → MP) (fun (s1_144 : Int) =>
          mobj 11 this <|
          MX11_emits this s1_144 0 <|
          Qj 1
        ) fun k144 =>
        mif (v117 = 0) (
          k144 5
        ) (
          k144 4
        )
      ) fun k134 =>
      mif (v117 = 0) (
        mobj 11 this <|
        MX11_passes sK this (sK 15) fun v128 =>
        mif (v128 = 0) (
          mobj 11 this <|
          MX11_readSum sK this fun v151 =>
          mif (v151 = 0) (
            Qj 0
          ) (
            mobj 11 this <|
            MX11_sign this 60 fun v162 =>
            mjoin (α := MP) (
              mobj 11 this <|
              MX11_readSum sK this fun v180 =>
              mif (v180 = 0) (
                Qj 0
              ) (
                mjoin (α := Int → MP) (fun (s1_200 : Int) =>
                  mobj 11 this <|
                  MX11_emits this s1_200 0 <|
                  Qj 1
                ) fun k200 =>
                mif (v162 = 0) (
                  k200 9
                ) (
                  k200 8
                )
              )
            ) fun k179 =>
            mif (v162 = 0) (
              mobj 11 this <|
              MX11_sign this 62 fun v173 =>
              mif (v173 = 0) (
                Qj 0
              ) (
                k179
              )
            ) (
              k179
            )
          )
        ) (
          k134
        )
      ) (
        k134
      )
    ) (
      mgetI 11 this 9 fun v66 =>
      mif (v66 = 6) (
        Qj 0
      ) (
        mgetI 11 this 9 fun v78 =>
        mputI 11 this 9 (w32 (v78 + 1)) <|
        mobj 11 this <|
        rJX11_readAtom this fun v87 =>
        mif (v87 = 0) (
          Qj 0
        ) (
          mgetI 11 this 9 fun v97 =>
          mputI 11 this 9 (w32 (v97 - 1)) <|
          mobj 11 this <|
          MX11_emits this 10 0 <|
          Qj 1
        )
      )
    )
  ) (
    mgetI 11 this 9 fun v10 =>
    mif (v10 = 6) (
      Qj 0
    ) (
      mgetI 11 this 9 fun v22 =>
      mputI 11 this 9 (w32 (v22 + 1)) <|
      mobj 11 this <|
      rJX11_readCond this fun v31 =>
      mif (v31 = 0) (
        Qj 0
      ) (
        mgetI 11 this 9 fun v41 =>
        mputI 11 this 9 (w32 (v41 - 1)) <|
        mobj 11 this <|
        MX11_sign this 41 fun v52 =>
        mand (v52 = 0 ∨ v52 = 1) (
          Qj v52
        )
      )
    )
  )
def GX11_readCond_9 (sK : Nat → Nat) (rJX11_readAllOf : Nat → (Int → MP) → MP) (this : Nat) (Qj : Int → MP) (rec9 : MP) : MP :=
  mobj 11 this <|
  MX11_passes sK this (sK 12) fun v12 =>
  mif (v12 = 0) (
    Qj 1
  ) (
    mobj 11 this <|
    rJX11_readAllOf this fun v19 =>
    mif (v19 = 0) (
      Qj 0
    ) (
      mobj 11 this <|
      MX11_emits this 12 0 rec9
    )
  )
def MX11_readCondF (sK : Nat → Nat) (rJX11_readAllOf : Nat → (Int → MP) → MP) (rJX11_readAtom : Nat → (Int → MP) → MP) (rJX11_readCond : Nat → (Int → MP) → MP) (this : Nat) (Qj : Int → MP) : MP :=
  mobj 11 this <|
  rJX11_readAllOf this fun v1 =>
  mif (v1 = 0) (
    Qj 0
  ) (
    mex fun n9 => jit (GX11_readCond_9 sK rJX11_readAllOf this Qj) mbot n9
  )
def MX11_readAllOfR (sK : Nat → Nat) : Nat → (Nat → (Int → MP) → MP) × (Nat → (Int → MP) → MP) × (Nat → (Int → MP) → MP)
  | 0 => ((fun _ _ => mbot), (fun _ _ => mbot), (fun _ _ => mbot))
  | n + 1 => (MX11_readAllOfF sK (MX11_readAllOfR sK n).1 (MX11_readAllOfR sK n).2.1 (MX11_readAllOfR sK n).2.2, MX11_readAtomF sK (MX11_readAllOfR sK n).1 (MX11_readAllOfR sK n).2.1 (MX11_readAllOfR sK n).2.2, MX11_readCondF sK (MX11_readAllOfR sK n).1 (MX11_readAllOfR sK n).2.1 (MX11_readAllOfR sK n).2.2)
def MX11_readAllOf (sK : Nat → Nat) (n : Nat) : Nat → (Int → MP) → MP := (MX11_readAllOfR sK n).1
def MX11_readAtom (sK : Nat → Nat) (n : Nat) : Nat → (Int → MP) → MP := (MX11_readAllOfR sK n).2.1
def MX11_readCond (sK : Nat → Nat) (n : Nat) : Nat → (Int → MP) → MP := (MX11_readAllOfR sK n).2.2
def MX11_readMeasureLine (sK : Nat → Nat) (this : Nat) (p1 : Int) (Qj : Int → MP) : MP :=
  mobj 11 this <|
  MX11_isWord sK this (sK 9) fun v11 =>
  mif (v11 = 0) (
    Qj 0
  ) (
    mobj 11 this <|
    MX11_number this 0 999 fun v24 =>
    mobj 11 this <|
    MX11_keepsAt this (w32 (1285 + (w32 (4 * p1)))) v24 fun v27 =>
    mif (v27 = 0) (
      Qj 0
    ) (
      mgetA 11 this 1 fun v36 =>
      mastI v36 (w32 ((w32 (1285 + (w32 (4 * p1)))) + 1)) (-1) <|
      mobj 11 this <|
      MX11_sign this 42 fun v47 =>
      mjoin (α := MP) (
        mgetA 11 this 1 fun v74 =>
        mgetI 11 this 12 fun v81 =>
        mastI v74 (w32 ((w32 (1285 + (w32 (4 * p1)))) + 2)) v81 <|
        mputI 11 this 9 0 <|
        mobj 11 this <|
        MX11_passes sK this (sK 10) fun v93 =>
        mjoin (α := MP) (
          mgetA 11 this 1 fun v109 =>
          mgetI 11 this 12 fun v116 =>
          mastI v109 (w32 ((w32 (1285 + (w32 (4 * p1)))) + 3)) v116 <|
          Qj 1
        ) fun k108 =>
        mif (v93 = 0) (
          k108
        ) (
          mobj 11 this <|
          MX11_readCond sK 40 this fun v100 =>
          mif (v100 = 0) (
            Qj 0
          ) (
            k108
          )
        )
      ) fun k73 =>
      mif (v47 = 0) (
        k73
      ) (
        mobj 11 this <|
        MX11_letters this <|
        mobj 11 this <|
        MX11_factAt sK this fun v62 =>
        mobj 11 this <|
        MX11_keepsAt this (w32 ((w32 (1285 + (w32 (4 * p1)))) + 1)) v62 fun v65 =>
        mif (v65 = 0) (
          Qj 0
        ) (
          k73
        )
      )
    )
  )
def GX11_readAll_42 (sK : Nat → Nat) (this : Nat) (p1 : Int) (Qj : Int → MP) (k103 : Int → MP) (rec42 : Int → MP) (x2_42 : Int) : MP :=
  mobj 11 this <|
  MX11_letters this <|
  mjoin (α := Int → MP) (fun (s1_58 : Int) =>
    mif (x2_42 = s1_58) (
      Qj (-1)
    ) (
      mjoin (α := MP) (
        mobj 11 this <|
        MX11_blanks this <|
        mgetI 11 this 6 fun v93 =>
        mgetI 11 this 7 fun v97 =>
        mif (v93 = v97) (
          k103 x2_42
        ) (
          mobj 11 this <|
          MX11_isAt this 59 59 fun v112 =>
          mif (v112 = 0) (
            Qj (-1)
          ) (
            mgetI 11 this 6 fun v122 =>
            mputI 11 this 6 (w32 (v122 + 1)) <|
            rec42 (w32 (x2_42 + 1))
          )
        )
      ) fun k88 =>
      mif (p1 = 0) (
        mobj 11 this <|
        MX11_readMeasureLine sK this x2_42 fun v80 =>
        mif (v80 = 0) (
          Qj (-1)
        ) (
          k88
        )
      ) (
        mobj 11 this <|
        MX11_readKindLine sK this x2_42 fun v69 =>
        mif (v69 = 0) (
          Qj (-1)
        ) (
          k88
        )
      )
    )
  ) fun k58 =>
  mif (p1 = 0) (
    k58 10
  ) (
    k58 6
  )
def MX11_readAll (sK : Nat → Nat) (this : Nat) (p1 : Int) (Qj : Int → MP) : MP :=
  mgetI 11 this 5 fun v2 =>
  mputI 11 this 7 v2 <|
  mputI 11 this 5 0 <|
  mputI 11 this 6 0 <|
  mputI 11 this 12 0 <|
  mobj 11 this <|
  MX11_blanks this <|
  mgetI 11 this 6 fun v28 =>
  mgetI 11 this 7 fun v32 =>
  mif (v28 = v32) (
    Qj 0
  ) (
    mex fun n42 => jit (GX11_readAll_42 sK this p1 Qj (fun (y2_103 : Int) => Qj (w32 (y2_103 + 1)))) (fun _ => mbot) n42 0
  )
def MX11_in (p0 : Int) (p1 : Int) (p2 : Int) (Qj : Int → MP) : MP :=
  mjoin (α := MP) (
    Qj 0
  ) fun k14 =>
  mif (p0 < p1) (
    k14
  ) (
    mif (p2 < p0) (
      k14
    ) (
      Qj 1
    )
  )
def MX11_throwsIf (this : Nat) (p1 : Int) (p2 : Int) (Qj : Int → MP) : MP :=
  mif (p1 = 0) (
    mand (p1 = 0 ∨ p1 = 1) (
      Qj p1
    )
  ) (
    mputI 11 this 0 p2 <|
    mand (p1 = 0 ∨ p1 = 1) (
      Qj p1
    )
  )
def GX11_kind_111 (this : Nat) (v7 : Int) (v88 : Int) (k143 : MP) (rec111 : Int → MP) (x4_111 : Int) : MP :=
  mif ((w32 (2 * v7)) ≤ x4_111) (
    k143
  ) (
    mgetA 11 this 1 fun v120 =>
    mgetA 11 this 13 fun v130 =>
    maldI 0 v130 x4_111 fun v135 =>
    mastI v120 (w32 ((w32 ((w32 (49 + (w32 (14 * v88)))) + 2)) + x4_111)) v135 <|
    rec111 (w32 (x4_111 + 1))
  )
def MX11_kind (sK : Nat → Nat) (this : Nat) (p1 : Int) (Qj : Int → MP) : MP :=
  mputI 11 this 0 0 <|
  mobj 11 this <|
  MX11_readAll sK this 1 fun v7 =>
  mjoin (α := Int → MP) (fun (s1_24 : Int) =>
    mputI 11 this 10 s1_24 <|
    mjoin (α := Int → MP) (fun (s1_47 : Int) =>
      mobj 11 this <|
      MX11_throwsIf this s1_47 1 fun v48 =>
      mif (v48 = 0) (
        mgetA 11 this 1 fun v56 =>
        maldI 0 v56 0 fun v60 =>
        mjoin (α := Int → MP) (fun (s1_70 : Int) =>
          mobj 11 this <|
          MX11_throwsIf this s1_70 2 fun v71 =>
          mif (v71 = 0) (
            mgetA 11 this 1 fun v84 =>
            maldI 0 v84 0 fun v88 =>
            mgetA 11 this 1 fun v93 =>
            mastI v93 (w32 (49 + (w32 (14 * v88)))) p1 <|
            mgetA 11 this 1 fun v100 =>
            mastI v100 (w32 ((w32 (49 + (w32 (14 * v88)))) + 1)) v7 <|
            mex fun n111 => jit (GX11_kind_111 this v7 v88 (mgetA 11 this 1 fun v144 => maldI 0 v144 0 fun v149 => mastI v144 0 (w32 (v149 + 1)) <| mgetA 11 this 1 fun v154 => maldI 0 v154 0 fun v158 => Qj (w32 (v158 - 1)))) (fun _ => mbot) n111 0
          ) (
            Qj 0
          )
        ) fun k70 =>
        mif (v60 = 5) (
          k70 1
        ) (
          k70 0
        )
      ) (
        Qj 0
      )
    ) fun k47 =>
    mjoin (α := MP) (
      k47 1
    ) fun k42 =>
    mif (v7 < 0) (
      k42
    ) (
      MX11_in p1 0 20 fun v36 =>
      mif (v36 = 0) (
        k42
      ) (
        k47 0
      )
    )
  ) fun k24 =>
  mif ((0 : Int) ≤ v7) (
    k24 (-1)
  ) (
    mgetI 11 this 8 fun v17 =>
    k24 v17
  )
def MX11_thrown (this : Nat) (Qj : Int → MP) : MP :=
  mgetI 11 this 0 fun v1 =>
  Qj v1
def MX22_init (bc : Nat) (bs : Nat) (this : Nat) (p1 : Nat) (p2 : Int) (Qj : MP) : MP :=
  mnewT 6 p2 bc bs fun v6 =>
  mputR 22 this 0 (some v6) <|
  mgetA 22 this 0 fun v15 =>
  mcpyA 6 p1 0 v15 0 p2 <|
  Qj
def MX2_measure (sK : Nat → Nat) (bc : Nat) (bs : Nat) (this : Nat) (p1 : Int) (Ex : Nat → Nat → MP) (Qj : Nat → MP) : MP :=
  mnew 22 1 bc bs fun v0 =>
  mgetA 2 this 3 fun v5 =>
  mbud (bc - 1) (bs - 1) fun mc11 ms11 =>
  mobj 2 this <|
  MX2_lines sK mc11 ms11 this p1 0 Ex fun v11 =>
  mbud ((bc - 1) - mc11) ((bs - 1) - ms11) fun mc14 ms14 =>
  MX22_init mc14 ms14 v0 v5 v11 <|
  Qj v0
def MX1_measure (sK : Nat → Nat) (bc : Nat) (bs : Nat) (this : Nat) (Ex : Nat → Nat → MP) (Qj : Int → MP) : MP :=
  mobj 1 this <|
  MX1_use this fun v1 =>
  mgetA 1 this 1 fun v6 =>
  mgetA 1 this 0 fun v10 =>
  mbud bc bs fun mc14 ms14 =>
  mobj 2 v10 <|
  MX2_measure sK mc14 ms14 v10 v1 (fun (xx14 xq14 : Nat) => mif (xx14 = 4) (   mgetI 6 xq14 6 fun v26 =>   mputI 1 this 13 v26 <|   mthrow 0 (bc - mc14) (bs - ms14) Ex ) (   mbot )) fun v14 =>
  mputR 7 v6 5 (some v14) <|
  mgetA 1 this 1 fun v41 =>
  mgetO 7 v41 5 fun v44 =>
  msome v44 fun u47 =>
  mgetA 22 u47 0 fun v47 =>
  malen v47 fun v50 =>
  Qj v50
def MX0_measure (sK : Nat → Nat) (bc : Nat) (bs : Nat) (p0 : Nat) (p1 : Nat) (Qj : Int → MP) : MP :=
  mbud bc bs fun mc3 ms3 =>
  mobj 1 p0 <|
  MX1_measure sK mc3 ms3 p0 (fun (xx3 xq3 : Nat) => mif (xx3 = 0) (   Qj 1 ) (   mbot )) fun v3 =>
  mastL p1 0 v3 <|
  Qj 0
def GX11_measure_57 (this : Nat) (k90 : MP) (rec57 : Int → MP) (x2_57 : Int) : MP :=
  mif ((841 : Int) ≤ x2_57) (
    k90
  ) (
    mgetA 11 this 1 fun v65 =>
    mgetA 11 this 1 fun v74 =>
    maldI 0 v74 (w32 (1284 + x2_57)) fun v82 =>
    mastI v65 (w32 (443 + x2_57)) v82 <|
    rec57 (w32 (x2_57 + 1))
  )
def MX11_measure (sK : Nat → Nat) (this : Nat) (Qj : Int → MP) : MP :=
  mputI 11 this 0 0 <|
  mobj 11 this <|
  MX11_readAll sK this 0 fun v7 =>
  mjoin (α := Int → MP) (fun (s1_24 : Int) =>
    mputI 11 this 10 s1_24 <|
    mjoin (α := Int → MP) (fun (s1_37 : Int) =>
      mobj 11 this <|
      MX11_throwsIf this s1_37 1 fun v38 =>
      mif (v38 = 0) (
        mgetA 11 this 1 fun v47 =>
        mastI v47 1284 v7 <|
        mex fun n57 => jit (GX11_measure_57 this (mgetA 11 this 1 fun v91 => mastI v91 4 1 <| Qj v7)) (fun _ => mbot) n57 0
      ) (
        Qj 0
      )
    ) fun k37 =>
    mif ((0 : Int) ≤ v7) (
      k37 0
    ) (
      k37 1
    )
  ) fun k24 =>
  mif ((0 : Int) ≤ v7) (
    k24 (-1)
  ) (
    mgetI 11 this 8 fun v17 =>
    k24 v17
  )
def MX1_fault (this : Nat) (Qj : Int → MP) : MP :=
  mgetI 1 this 13 fun v1 =>
  Qj v1
def MX11_fault (this : Nat) (Qj : Int → MP) : MP :=
  mputI 11 this 0 0 <|
  mgetI 11 this 10 fun v6 =>
  Qj v6
def MX1_mustBe (bc : Nat) (bs : Nat) (p0 : Int) (Ex : Nat → Nat → MP) (Qj : MP) : MP :=
  mif (p0 = 0) (
    mthrow 2 bc bs Ex
  ) (
    Qj
  )
def MX1_isSquare (bc : Nat) (bs : Nat) (p0 : Int) (Ex : Nat → Nat → MP) (Qj : MP) : MP :=
  MX1_isIn p0 0 35 fun v4 =>
  mbud bc bs fun mc7 ms7 =>
  MX1_mustBe mc7 ms7 v4 Ex Qj
def MX1_isKind (bc : Nat) (bs : Nat) (this : Nat) (p1 : Int) (p2 : Int) (Ex : Nat → Nat → MP) (Qj : MP) : MP :=
  mgetA 1 this 1 fun v3 =>
  mgetI 7 v3 6 fun v6 =>
  MX1_isIn p1 p2 (w32 (v6 - 1)) fun v11 =>
  mbud bc bs fun mc14 ms14 =>
  MX1_mustBe mc14 ms14 v11 Ex Qj
def MX1_put (bc : Nat) (bs : Nat) (this : Nat) (p1 : Int) (p2 : Int) (p3 : Int) (Ex : Nat → Nat → MP) (Qj : MP) : MP :=
  mbud bc bs fun mc1 ms1 =>
  MX1_isSquare mc1 ms1 p1 Ex <|
  mbud (bc - mc1) (bs - ms1) fun mc7 ms7 =>
  mobj 1 this <|
  MX1_isKind mc7 ms7 this p2 (-1) Ex <|
  mjoin (α := Int → MP) (fun (s0_29 : Int) =>
    mbud ((bc - mc1) - mc7) ((bs - ms1) - ms7) fun mc29 ms29 =>
    MX1_must mc29 ms29 s0_29 Ex <|
    mgetA 1 this 1 fun v33 =>
    mgetA 7 v33 1 fun v36 =>
    mgetA 8 v36 0 fun v39 =>
    mastI v39 p1 p2 <|
    mgetA 1 this 1 fun v46 =>
    mgetA 7 v46 1 fun v49 =>
    mgetA 8 v49 1 fun v52 =>
    mjoin (α := Int → MP) (fun (s2_66 : Int) =>
      mastI v52 p1 s2_66 <|
      mputZ 1 this 16 0 <|
      Qj
    ) fun k66 =>
    mif (p2 = (-1)) (
      k66 0
    ) (
      k66 p3
    )
  ) fun k29 =>
  mjoin (α := MP) (
    k29 1
  ) fun k24 =>
  mif (p2 = (-1)) (
    k24
  ) (
    MX1_isIn p3 0 1 fun v18 =>
    mif (v18 = 0) (
      k29 0
    ) (
      k24
    )
  )
def MX0_put (bc : Nat) (bs : Nat) (p0 : Nat) (p1 : Int) (p2 : Int) (p3 : Int) (Qj : Int → MP) : MP :=
  mbud bc bs fun mc4 ms4 =>
  mobj 1 p0 <|
  MX1_put mc4 ms4 p0 p1 p2 p3 (fun (xx4 xq4 : Nat) => mif (xx4 = 2) (   Qj 1 ) (   mif (xx4 = 0) (     Qj 2   ) (     mbot   ) )) <|
  Qj 0
def MX11_noSquare (p0 : Int) (Qj : Int → MP) : MP :=
  MX11_in p0 0 35 fun v4 =>
  mif (v4 = 0) (
    Qj 1
  ) (
    Qj 0
  )
def MX11_none (this : Nat) (p1 : Int) (p2 : Int) (Qj : Int → MP) : MP :=
  mgetA 11 this 1 fun v3 =>
  maldI 0 v3 p2 fun v7 =>
  MX11_in p1 0 (w32 (v7 - 1)) fun v10 =>
  mif (v10 = 0) (
    Qj 1
  ) (
    Qj 0
  )
def MX11_noKind (this : Nat) (p1 : Int) (Qj : Int → MP) : MP :=
  mobj 11 this <|
  MX11_none this p1 0 fun v3 =>
  mand (v3 = 0 ∨ v3 = 1) (
    Qj v3
  )
def MX11_man (p0 : Int) (p1 : Int) (Qj : Int → MP) : MP :=
  mif ((0 : Int) ≤ p0) (
    Qj (w32 ((w32 (2 * p0)) + p1))
  ) (
    Qj (-1)
  )
def MX11_put (this : Nat) (p1 : Int) (p2 : Int) (p3 : Int) (Qj : MP) : MP :=
  mputI 11 this 0 0 <|
  MX11_noSquare p1 fun v7 =>
  mjoin (α := Int → MP) (fun (s1_31 : Int) =>
    mobj 11 this <|
    MX11_throwsIf this s1_31 1 fun v32 =>
    mif (v32 = 0) (
      mjoin (α := Int → MP) (fun (s1_58 : Int) =>
        mobj 11 this <|
        MX11_throwsIf this s1_58 2 fun v59 =>
        mif (v59 = 0) (
          mgetA 11 this 1 fun v67 =>
          MX11_man p2 p3 fun v76 =>
          mastI v67 (w32 (13 + p1)) v76 <|
          Qj
        ) (
          Qj
        )
      ) fun k58 =>
      mjoin (α := MP) (
        k58 0
      ) fun k57 =>
      mif (p2 = (-1)) (
        k57
      ) (
        MX11_in p3 0 1 fun v47 =>
        mif (v47 = 0) (
          k58 1
        ) (
          k57
        )
      )
    ) (
      Qj
    )
  ) fun k31 =>
  mjoin (α := MP) (
    k31 1
  ) fun k26 =>
  mif (v7 = 0) (
    mjoin (α := MP) (
      k31 0
    ) fun k30 =>
    mif (p2 = (-1)) (
      k30
    ) (
      mobj 11 this <|
      MX11_noKind this p2 fun v20 =>
      mif (v20 = 0) (
        k30
      ) (
        k26
      )
    )
  ) (
    k26
  )
def GX4_marks_3 (p1 : Nat) (p2 : Int) (p3 : Int) (p4 : Nat) (Qj : MP) (rec3 : Int → MP) (x5_3 : Int) : MP :=
  mif ((36 : Int) ≤ x5_3) (
    Qj
  ) (
    mjoin (α := MP) (
      rec3 (w32 (x5_3 + 1))
    ) fun k77 =>
    mif ((w32 ((mabs (w32 ((Int.tmod x5_3 6) - (Int.tmod p2 6)))) * (mabs (w32 ((w32 (Int.tdiv x5_3 6)) - (w32 (Int.tdiv p2 6))))))) = 2) (
      mgetA 8 p1 0 fun v50 =>
      maldI 0 v50 x5_3 fun v55 =>
      mjoin (α := MP) (
        mastZ p4 x5_3 1 <|
        k77
      ) fun k71 =>
      mif (v55 = (-1)) (
        k71
      ) (
        mgetA 8 p1 1 fun v61 =>
        maldI 0 v61 x5_3 fun v66 =>
        mif (v66 = p3) (
          k77
        ) (
          k71
        )
      )
    ) (
      k77
    )
  )
def MX4_marks (this : Nat) (p1 : Nat) (p2 : Int) (p3 : Int) (p4 : Nat) (Qj : MP) : MP :=
  mex fun n3 => jit (GX4_marks_3 p1 p2 p3 p4 Qj) (fun _ => mbot) n3 0
def GX5_marks_24 (p1 : Nat) (p2 : Int) (p3 : Int) (p4 : Nat) (Qj : MP) (s1_13 : Int) (rec24 : Int → MP) (x6_24 : Int) : MP :=
  mif ((w32 ((Int.tmod p2 6) + 1)) < x6_24) (
    Qj
  ) (
    mjoin (α := MP) (
      rec24 (w32 (x6_24 + 2))
    ) fun k100 =>
    mif (x6_24 < 0) (
      k100
    ) (
      mif ((6 : Int) ≤ x6_24) (
        k100
      ) (
        mif ((w32 ((w32 (Int.tdiv p2 6)) + s1_13)) < 0) (
          k100
        ) (
          mif ((w32 ((w32 (Int.tdiv p2 6)) + s1_13)) < 6) (
            mgetA 8 p1 0 fun v73 =>
            maldI 0 v73 (w32 ((w32 (6 * (w32 ((w32 (Int.tdiv p2 6)) + s1_13)))) + x6_24)) fun v78 =>
            mif (v78 = (-1)) (
              k100
            ) (
              mgetA 8 p1 1 fun v84 =>
              maldI 0 v84 (w32 ((w32 (6 * (w32 ((w32 (Int.tdiv p2 6)) + s1_13)))) + x6_24)) fun v89 =>
              mif (v89 = p3) (
                k100
              ) (
                mastZ p4 (w32 ((w32 (6 * (w32 ((w32 (Int.tdiv p2 6)) + s1_13)))) + x6_24)) 1 <|
                k100
              )
            )
          ) (
            k100
          )
        )
      )
    )
  )
def MX5_marks (this : Nat) (p1 : Nat) (p2 : Int) (p3 : Int) (p4 : Nat) (Qj : MP) : MP :=
  mjoin (α := Int → MP) (fun (s1_13 : Int) =>
    mex fun n24 => jit (GX5_marks_24 p1 p2 p3 p4 Qj s1_13) (fun _ => mbot) n24 (w32 ((Int.tmod p2 6) - 1))
  ) fun k13 =>
  mif (p3 = 0) (
    k13 1
  ) (
    k13 (-1)
  )
def GX3_slides_20 (p0 : Nat) (p3 : Int) (p4 : Int) (p5 : Int) (p7 : Nat) (Qj : MP) (k72 : Int → MP) (rec20 : Int → Int → Int → MP) (x8_20 : Int) (x9_20 : Int) (x10_20 : Int) : MP :=
  mif (p5 ≤ x10_20) (
    Qj
  ) (
    mif (x8_20 < 0) (
      Qj
    ) (
      mif ((6 : Int) ≤ x8_20) (
        Qj
      ) (
        mif (x9_20 < 0) (
          Qj
        ) (
          mif ((6 : Int) ≤ x9_20) (
            Qj
          ) (
            mgetA 8 p0 0 fun v62 =>
            maldI 0 v62 (w32 ((w32 (6 * x9_20)) + x8_20)) fun v67 =>
            mif (v67 = (-1)) (
              mastZ p7 (w32 ((w32 (6 * x9_20)) + x8_20)) 1 <|
              rec20 (w32 (x8_20 + p3)) (w32 (x9_20 + p4)) (w32 (x10_20 + 1))
            ) (
              k72 (w32 ((w32 (6 * x9_20)) + x8_20))
            )
          )
        )
      )
    )
  )
def MX3_slides (p0 : Nat) (p1 : Int) (p2 : Int) (p3 : Int) (p4 : Int) (p5 : Int) (p6 : Int) (p7 : Nat) (Qj : MP) : MP :=
  mex fun n20 => jit (GX3_slides_20 p0 p3 p4 p5 p7 Qj (fun (y11_72 : Int) => mif (p6 = 0) (   Qj ) (   mgetA 8 p0 1 fun v78 =>   maldI 0 v78 y11_72 fun v83 =>   mif (v83 = p2) (     Qj   ) (     mastZ p7 y11_72 1 <|     Qj   ) ))) (fun _ _ _ => mbot) n20 (w32 ((Int.tmod p1 6) + p3)) (w32 ((w32 (Int.tdiv p1 6)) + p4)) 0
def GX13_marks_3 (this : Nat) (p1 : Nat) (p2 : Int) (p3 : Int) (p4 : Nat) (Qj : MP) (rec3 : Int → MP) (x5_3 : Int) : MP :=
  mif ((1 : Int) < x5_3) (
    Qj
  ) (
    mgetI 13 this 0 fun v16 =>
    MX3_slides p1 p2 p3 x5_3 0 v16 1 p4 <|
    mgetI 13 this 0 fun v32 =>
    MX3_slides p1 p2 p3 0 x5_3 v32 1 p4 <|
    rec3 (w32 (x5_3 + 2))
  )
def MX13_marks (this : Nat) (p1 : Nat) (p2 : Int) (p3 : Int) (p4 : Nat) (Qj : MP) : MP :=
  mex fun n3 => jit (GX13_marks_3 this p1 p2 p3 p4 Qj) (fun _ => mbot) n3 (-1)
def GX14_marks_12 (this : Nat) (p1 : Nat) (p2 : Int) (p3 : Int) (p4 : Nat) (x5_3 : Int) (k41 : MP) (rec12 : Int → MP) (x6_12 : Int) : MP :=
  mif ((1 : Int) < x6_12) (
    k41
  ) (
    mgetI 14 this 0 fun v26 =>
    MX3_slides p1 p2 p3 x5_3 x6_12 v26 1 p4 <|
    rec12 (w32 (x6_12 + 2))
  )
def GX14_marks_3 (this : Nat) (p1 : Nat) (p2 : Int) (p3 : Int) (p4 : Nat) (Qj : MP) (rec3 : Int → MP) (x5_3 : Int) : MP :=
  mif ((1 : Int) < x5_3) (
    Qj
  ) (
    mex fun n12 => jit (GX14_marks_12 this p1 p2 p3 p4 x5_3 (rec3 (w32 (x5_3 + 2)))) (fun _ => mbot) n12 (-1)
  )
def MX14_marks (this : Nat) (p1 : Nat) (p2 : Int) (p3 : Int) (p4 : Nat) (Qj : MP) : MP :=
  mex fun n3 => jit (GX14_marks_3 this p1 p2 p3 p4 Qj) (fun _ => mbot) n3 (-1)
def MX15_marks (this : Nat) (p1 : Nat) (p2 : Int) (p3 : Int) (p4 : Nat) (Qj : MP) : MP :=
  mjoin (α := Int → MP) (fun (s4_13 : Int) =>
    mgetI 15 this 0 fun v14 =>
    MX3_slides p1 p2 p3 0 s4_13 v14 0 p4 Qj
  ) fun k13 =>
  mif (p3 = 0) (
    k13 1
  ) (
    k13 (-1)
  )
def GX10_gathers_126 (this : Nat) (p3 : Nat) (x5_6 : Int) (k167 : Int → MP) (rec126 : Int → Int → MP) (x4_126 : Int) (x6_126 : Int) : MP :=
  mif ((36 : Int) ≤ x6_126) (
    k167 x4_126
  ) (
    mgetA 10 this 2 fun v134 =>
    maldI 1 v134 x6_126 fun v139 =>
    mjoin (α := Int → MP) (fun (x4_161 : Int) =>
      rec126 x4_161 (w32 (x6_126 + 1))
    ) fun k161 =>
    mif (v139 = 0) (
      k161 x4_126
    ) (
      mastI p3 x4_126 (w32 ((w32 (36 * x5_6)) + x6_126)) <|
      k161 (w32 (x4_126 + 1))
    )
  )
def GX10_gathers_90 (this : Nat) (p1 : Nat) (p2 : Int) (x5_6 : Int) (v77 : Nat) (v84 : Int) (k123 : MP) (rec90 : Int → MP) (x8_90 : Int) : MP :=
  mif (v84 ≤ x8_90) (
    k123
  ) (
    maldA 5 v77 x8_90 fun v101 =>
    mgetA 10 this 2 fun v111 =>
    mjoin (α := MP) (
      rec90 (w32 (x8_90 + 1))
    ) fun kd114 =>
    mdisp v101 [(4, MX4_marks v101 p1 x5_6 p2 v111 kd114), (5, MX5_marks v101 p1 x5_6 p2 v111 kd114), (13, MX13_marks v101 p1 x5_6 p2 v111 kd114), (14, MX14_marks v101 p1 x5_6 p2 v111 kd114), (15, MX15_marks v101 p1 x5_6 p2 v111 kd114)]
  )
def GX10_gathers_41 (this : Nat) (k62 : MP) (rec41 : Int → MP) (x6_41 : Int) : MP :=
  mif ((36 : Int) ≤ x6_41) (
    k62
  ) (
    mgetA 10 this 2 fun v49 =>
    mastZ v49 x6_41 0 <|
    rec41 (w32 (x6_41 + 1))
  )
def GX10_gathers_6 (this : Nat) (p1 : Nat) (p2 : Int) (p3 : Nat) (Qj : Int → MP) (rec6 : Int → Int → MP) (x4_6 : Int) (x5_6 : Int) : MP :=
  mif ((36 : Int) ≤ x5_6) (
    Qj x4_6
  ) (
    mgetA 8 p1 0 fun v14 =>
    maldI 0 v14 x5_6 fun v19 =>
    mjoin (α := Int → MP) (fun (x4_167 : Int) =>
      rec6 x4_167 (w32 (x5_6 + 1))
    ) fun k167 =>
    mif (v19 = (-1)) (
      k167 x4_6
    ) (
      mgetA 8 p1 1 fun v25 =>
      maldI 0 v25 x5_6 fun v30 =>
      mif (v30 = p2) (
        mex fun n41 => jit (GX10_gathers_41 this (mgetA 10 this 0 fun v63 => mgetA 7 v63 0 fun v66 => mgetA 8 p1 0 fun v70 => maldI 0 v70 x5_6 fun v75 => maldA 7 v66 v75 fun v76 => mgetA 12 v76 1 fun v77 => malen v77 fun v84 => mex fun n90 => jit (GX10_gathers_90 this p1 p2 x5_6 v77 v84 (mex fun n126 => jit (GX10_gathers_126 this p3 x5_6 k167) (fun _ _ => mbot) n126 x4_6 0)) (fun _ => mbot) n90 0)) (fun _ => mbot) n41 0
      ) (
        k167 x4_6
      )
    )
  )
def MX10_gathers (this : Nat) (p1 : Nat) (p2 : Int) (p3 : Nat) (Qj : Int → MP) : MP :=
  mex fun n6 => jit (GX10_gathers_6 this p1 p2 p3 Qj) (fun _ _ => mbot) n6 0 0
def MX1_moves (bc : Nat) (bs : Nat) (this : Nat) (p1 : Int) (p2 : Int) (Ex : Nat → Nat → MP) (Qj : Int → MP) : MP :=
  MX1_isIn p1 0 1 fun v3 =>
  mjoin (α := Int → MP) (fun (s0_19 : Int) =>
    mbud bc bs fun mc19 ms19 =>
    MX1_must mc19 ms19 s0_19 Ex <|
    mgetA 1 this 4 fun v23 =>
    mgetA 1 this 1 fun v27 =>
    mgetA 7 v27 1 fun v30 =>
    mgetA 1 this 11 fun v35 =>
    mobj 10 v23 <|
    MX10_gathers v23 v30 p1 v35 fun v38 =>
    mif (p2 = (-1)) (
      Qj v38
    ) (
      mif (v38 ≤ p2) (
        Qj (-1)
      ) (
        mgetA 1 this 11 fun v57 =>
        maldI 0 v57 p2 fun v61 =>
        Qj v61
      )
    )
  ) fun k19 =>
  mjoin (α := MP) (
    k19 0
  ) fun k18 =>
  mif (v3 = 0) (
    k18
  ) (
    mif (p2 < (-1)) (
      k18
    ) (
      k19 1
    )
  )
def MX0_moves (bc : Nat) (bs : Nat) (p0 : Nat) (p1 : Int) (p2 : Int) (p3 : Nat) (Qj : Int → MP) : MP :=
  mbud bc bs fun mc5 ms5 =>
  mobj 1 p0 <|
  MX1_moves mc5 ms5 p0 p1 p2 (fun (xx5 xq5 : Nat) => mif (xx5 = 0) (   Qj 1 ) (   mbot )) fun v5 =>
  mastL p3 0 v5 <|
  Qj 0
def GX11_begins_2 (this : Nat) (Qj : MP) (rec2 : Int → MP) (x1_2 : Int) : MP :=
  mif ((36 : Int) ≤ x1_2) (
    Qj
  ) (
    mgetA 11 this 16 fun v9 =>
    mgetA 11 this 1 fun v14 =>
    maldI 0 v14 (w32 (13 + x1_2)) fun v21 =>
    mastI v9 x1_2 v21 <|
    rec2 (w32 (x1_2 + 1))
  )
def MX11_begins (this : Nat) (Qj : MP) : MP :=
  mex fun n2 => jit (GX11_begins_2 this Qj) (fun _ => mbot) n2 0
def MX11_at (this : Nat) (p1 : Int) (p2 : Int) (Qj : Int → MP) : MP :=
  mgetA 11 this 16 fun v1 =>
  maldI 0 v1 (w32 ((w32 (36 * p1)) + p2)) fun v10 =>
  Qj v10
def MX11_sideOf (p0 : Int) (Qj : Int → MP) : MP :=
  Qj (mand32 p0 1)
def MX11_off (p0 : Int) (p1 : Int) (p2 : Int) (Qj : Int → MP) : MP :=
  MX11_in (w32 ((Int.tmod p0 6) + p1)) 0 5 fun v18 =>
  mjoin (α := MP) (
    Qj (-1)
  ) fun k44 =>
  mif (v18 = 0) (
    k44
  ) (
    MX11_in (w32 ((w32 (Int.tdiv p0 6)) + p2)) 0 5 fun v28 =>
    mif (v28 = 0) (
      k44
    ) (
      Qj (w32 ((w32 (6 * (w32 ((w32 (Int.tdiv p0 6)) + p2)))) + (w32 ((Int.tmod p0 6) + p1))))
    )
  )
def MX11_may (this : Nat) (p1 : Int) (p2 : Int) (p3 : Int) (Qj : MP) : MP :=
  mgetA 11 this 17 fun v1 =>
  mastZ v1 (w32 ((w32 ((w32 (1296 * p1)) + (w32 (36 * p2)))) + p3)) 1 <|
  Qj
def GX11_along_6 (this : Nat) (p1 : Int) (p2 : Int) (p3 : Int) (p4 : Int) (p5 : Int) (p6 : Int) (Qj : MP) (rec6 : Int → Int → MP) (x7_6 : Int) (x8_6 : Int) : MP :=
  mif (p5 ≤ x8_6) (
    Qj
  ) (
    MX11_off x7_6 p3 p4 fun v18 =>
    mif ((0 : Int) ≤ v18) (
      mobj 11 this <|
      MX11_at this p1 v18 fun v33 =>
      mjoin (α := MP) (
        mif (v33 < 0) (
          rec6 v18 (w32 (x8_6 + 1))
        ) (
          Qj
        )
      ) fun k73 =>
      mjoin (α := MP) (
        mobj 11 this <|
        MX11_may this p1 p2 v18 k73
      ) fun k65 =>
      mif (v33 < 0) (
        k65
      ) (
        mif (p6 = 0) (
          MX11_sideOf v33 fun v50 =>
          mobj 11 this <|
          MX11_at this p1 p2 fun v56 =>
          MX11_sideOf v56 fun v59 =>
          mif (v50 = v59) (
            k73
          ) (
            k65
          )
        ) (
          k73
        )
      )
    ) (
      Qj
    )
  )
def MX11_along (this : Nat) (p1 : Int) (p2 : Int) (p3 : Int) (p4 : Int) (p5 : Int) (p6 : Int) (Qj : MP) : MP :=
  mex fun n6 => jit (GX11_along_6 this p1 p2 p3 p4 p5 p6 Qj) (fun _ _ => mbot) n6 p2 0
def GX11_leaps_12 (this : Nat) (p1 : Int) (p2 : Int) (x3_3 : Int) (k48 : MP) (rec12 : Int → MP) (x4_12 : Int) : MP :=
  mif ((2 : Int) < x4_12) (
    k48
  ) (
    mjoin (α := MP) (
      rec12 (w32 (x4_12 + 1))
    ) fun k42 =>
    mif ((w32 ((w32 (x3_3 * x3_3)) + (w32 (x4_12 * x4_12)))) = 5) (
      mobj 11 this <|
      MX11_along this p1 p2 x3_3 x4_12 1 0 k42
    ) (
      k42
    )
  )
def GX11_leaps_3 (this : Nat) (p1 : Int) (p2 : Int) (Qj : MP) (rec3 : Int → MP) (x3_3 : Int) : MP :=
  mif ((2 : Int) < x3_3) (
    Qj
  ) (
    mex fun n12 => jit (GX11_leaps_12 this p1 p2 x3_3 (rec3 (w32 (x3_3 + 1)))) (fun _ => mbot) n12 (-2)
  )
def MX11_leaps (this : Nat) (p1 : Int) (p2 : Int) (Qj : MP) : MP :=
  mex fun n3 => jit (GX11_leaps_3 this p1 p2 Qj) (fun _ => mbot) n3 (-2)
def GX11_bites_3 (this : Nat) (p1 : Int) (p2 : Int) (p3 : Int) (Qj : MP) (rec3 : Int → MP) (x4_3 : Int) : MP :=
  mif ((1 : Int) < x4_3) (
    Qj
  ) (
    MX11_off p2 x4_3 p3 fun v13 =>
    mjoin (α := MP) (
      rec3 (w32 (x4_3 + 2))
    ) fun k44 =>
    mif (v13 < 0) (
      k44
    ) (
      mobj 11 this <|
      MX11_at this p1 v13 fun v27 =>
      mif (v27 < 0) (
        k44
      ) (
        mobj 11 this <|
        MX11_along this p1 p2 x4_3 p3 1 0 k44
      )
    )
  )
def MX11_bites (this : Nat) (p1 : Int) (p2 : Int) (p3 : Int) (Qj : MP) : MP :=
  mex fun n3 => jit (GX11_bites_3 this p1 p2 p3 Qj) (fun _ => mbot) n3 (-1)
def GX11_goes_187 (this : Nat) (p1 : Int) (p2 : Int) (v78 : Int) (x9_172 : Int) (k212 : MP) (rec187 : Int → MP) (x10_187 : Int) : MP :=
  mif ((1 : Int) < x10_187) (
    k212
  ) (
    mobj 11 this <|
    MX11_along this p1 p2 x9_172 x10_187 v78 0 <|
    rec187 (w32 (x10_187 + 2))
  )
def GX11_goes_172 (this : Nat) (p1 : Int) (p2 : Int) (v62 : Int) (v78 : Int) (k218 : MP) (rec172 : Int → MP) (x9_172 : Int) : MP :=
  mif ((1 : Int) < x9_172) (
    k218
  ) (
    mif (v62 = 1) (
      mex fun n187 => jit (GX11_goes_187 this p1 p2 v78 x9_172 (rec172 (w32 (x9_172 + 2)))) (fun _ => mbot) n187 (-1)
    ) (
      k218
    )
  )
def GX11_goes_128 (this : Nat) (p1 : Int) (p2 : Int) (v62 : Int) (v78 : Int) (k169 : MP) (rec128 : Int → MP) (x9_128 : Int) : MP :=
  mif ((1 : Int) < x9_128) (
    k169
  ) (
    mif (v62 = 0) (
      mobj 11 this <|
      MX11_along this p1 p2 x9_128 0 v78 0 <|
      mobj 11 this <|
      MX11_along this p1 p2 0 x9_128 v78 0 <|
      rec128 (w32 (x9_128 + 2))
    ) (
      k169
    )
  )
def GX11_goes_35 (this : Nat) (p1 : Int) (p2 : Int) (Qj : MP) (v3 : Int) (s0_19 : Int) (rec35 : Int → MP) (x6_35 : Int) : MP :=
  mgetA 11 this 1 fun v38 =>
  maldI 0 v38 (w32 ((w32 (49 + (w32 (14 * (w32 (Int.tdiv v3 2)))))) + 1)) fun v45 =>
  mif (v45 ≤ x6_35) (
    Qj
  ) (
    mgetA 11 this 1 fun v50 =>
    maldI 0 v50 (w32 ((w32 ((w32 (49 + (w32 (14 * (w32 (Int.tdiv v3 2)))))) + 2)) + (w32 (2 * x6_35)))) fun v62 =>
    mgetA 11 this 1 fun v66 =>
    maldI 0 v66 (w32 ((w32 ((w32 (49 + (w32 (14 * (w32 (Int.tdiv v3 2)))))) + 3)) + (w32 (2 * x6_35)))) fun v78 =>
    mjoin (α := MP) (
      mjoin (α := MP) (
        mjoin (α := MP) (
          mex fun n128 => jit (GX11_goes_128 this p1 p2 v62 v78 (mex fun n172 => jit (GX11_goes_172 this p1 p2 v62 v78 (rec35 (w32 (x6_35 + 1)))) (fun _ => mbot) n172 (-1))) (fun _ => mbot) n128 (-1)
        ) fun k125 =>
        mif (v62 = 4) (
          mobj 11 this <|
          MX11_bites this p1 p2 s0_19 k125
        ) (
          k125
        )
      ) fun k111 =>
      mif (v62 = 3) (
        mobj 11 this <|
        MX11_leaps this p1 p2 k111
      ) (
        k111
      )
    ) fun k99 =>
    mif (v62 = 2) (
      mobj 11 this <|
      MX11_along this p1 p2 0 s0_19 v78 1 k99
    ) (
      k99
    )
  )
def MX11_goes (this : Nat) (p1 : Int) (p2 : Int) (Qj : MP) : MP :=
  mobj 11 this <|
  MX11_at this p1 p2 fun v3 =>
  MX11_sideOf v3 fun v8 =>
  mjoin (α := Int → MP) (fun (s0_19 : Int) =>
    mex fun n35 => jit (GX11_goes_35 this p1 p2 Qj v3 s0_19) (fun _ => mbot) n35 0
  ) fun k19 =>
  mif (v8 = 0) (
    k19 1
  ) (
    k19 (-1)
  )
def GX11_finds_30 (this : Nat) (p1 : Int) (p2 : Int) (Qj : MP) (rec30 : Int → MP) (x3_30 : Int) : MP :=
  mif ((36 : Int) ≤ x3_30) (
    Qj
  ) (
    mobj 11 this <|
    MX11_at this p1 x3_30 fun v39 =>
    mjoin (α := MP) (
      rec30 (w32 (x3_30 + 1))
    ) fun k64 =>
    mif (v39 < 0) (
      k64
    ) (
      mobj 11 this <|
      MX11_at this p1 x3_30 fun v48 =>
      MX11_sideOf v48 fun v51 =>
      mif (v51 = p2) (
        mobj 11 this <|
        MX11_goes this p1 x3_30 k64
      ) (
        k64
      )
    )
  )
def GX11_finds_2 (this : Nat) (p1 : Int) (k28 : MP) (rec2 : Int → MP) (x3_2 : Int) : MP :=
  mif ((1296 : Int) ≤ x3_2) (
    k28
  ) (
    mgetA 11 this 17 fun v10 =>
    mastZ v10 (w32 ((w32 (1296 * p1)) + x3_2)) 0 <|
    rec2 (w32 (x3_2 + 1))
  )
def MX11_finds (this : Nat) (p1 : Int) (p2 : Int) (Qj : MP) : MP :=
  mex fun n2 => jit (GX11_finds_2 this p1 (mex fun n30 => jit (GX11_finds_30 this p1 p2 Qj) (fun _ => mbot) n30 0)) (fun _ => mbot) n2 0
def GX11_manyAt_4 (this : Nat) (p1 : Int) (Qj : Int → MP) (rec4 : Int → Int → MP) (x2_4 : Int) (x3_4 : Int) : MP :=
  mif ((1296 : Int) ≤ x3_4) (
    Qj x2_4
  ) (
    mgetA 11 this 17 fun v13 =>
    maldI 1 v13 (w32 ((w32 (1296 * p1)) + x3_4)) fun v23 =>
    mjoin (α := Int → MP) (fun (s1_32 : Int) =>
      rec4 (w32 (x2_4 + s1_32)) (w32 (x3_4 + 1))
    ) fun k32 =>
    mif (v23 = 0) (
      k32 0
    ) (
      k32 1
    )
  )
def MX11_manyAt (this : Nat) (p1 : Int) (Qj : Int → MP) : MP :=
  mex fun n4 => jit (GX11_manyAt_4 this p1 Qj) (fun _ _ => mbot) n4 0 0
def GX11_moveAt_5 (this : Nat) (p1 : Int) (Qj : Int → MP) (rec5 : Int → Int → MP) (x3_5 : Int) (x4_5 : Int) : MP :=
  mif ((1296 : Int) ≤ x4_5) (
    Qj (-1)
  ) (
    mgetA 11 this 17 fun v14 =>
    maldI 1 v14 (w32 ((w32 (1296 * p1)) + x4_5)) fun v25 =>
    mjoin (α := Int → MP) (fun (x3_42 : Int) =>
      rec5 x3_42 (w32 (x4_5 + 1))
    ) fun k42 =>
    mif (v25 = 0) (
      k42 x3_5
    ) (
      mif (x3_5 = 0) (
        Qj x4_5
      ) (
        k42 (w32 (x3_5 + (-1)))
      )
    )
  )
def MX11_moveAt (this : Nat) (p1 : Int) (p2 : Int) (Qj : Int → MP) : MP :=
  mex fun n5 => jit (GX11_moveAt_5 this p1 Qj) (fun _ _ => mbot) n5 p2 0
def MX11_moves (this : Nat) (p1 : Int) (p2 : Int) (Qj : Int → MP) : MP :=
  mputI 11 this 0 0 <|
  MX11_in p1 0 1 fun v9 =>
  mjoin (α := Int → MP) (fun (s1_25 : Int) =>
    mobj 11 this <|
    MX11_throwsIf this s1_25 1 fun v26 =>
    mif (v26 = 0) (
      mobj 11 this <|
      MX11_begins this <|
      mobj 11 this <|
      MX11_finds this 0 p1 <|
      mif ((0 : Int) ≤ p2) (
        mobj 11 this <|
        MX11_moveAt this 0 p2 fun v59 =>
        Qj v59
      ) (
        mobj 11 this <|
        MX11_manyAt this 0 fun v50 =>
        Qj v50
      )
    ) (
      Qj 0
    )
  ) fun k25 =>
  mjoin (α := MP) (
    k25 1
  ) fun k20 =>
  mif (v9 = 0) (
    k20
  ) (
    mif (((-1) : Int) ≤ p2) (
      k25 0
    ) (
      k20
    )
  )
def MX1_newBook (this : Nat) (p1 : Int) (Qj : Int → MP) : MP :=
  mgetA 1 this 1 fun v1 =>
  mgetA 7 v1 2 fun v4 =>
  mgetA 1 this 1 fun v8 =>
  mgetI 7 v8 7 fun v11 =>
  maldA 8 v4 v11 fun v14 =>
  mputI 9 v14 1 p1 <|
  mputI 9 v14 2 0 <|
  mgetA 1 this 1 fun v27 =>
  mgetI 7 v27 7 fun v31 =>
  mputI 7 v27 7 (w32 (v31 + 1)) <|
  mputZ 1 this 16 0 <|
  mgetA 1 this 1 fun v45 =>
  mgetI 7 v45 7 fun v48 =>
  Qj (w32 (v48 - 1))
def MX1_book (bc : Nat) (bs : Nat) (this : Nat) (p1 : Int) (Ex : Nat → Nat → MP) (Qj : Int → MP) : MP :=
  MX1_isIn p1 0 1 fun v3 =>
  mbud bc bs fun mc6 ms6 =>
  MX1_must mc6 ms6 v3 Ex <|
  mgetA 1 this 1 fun v10 =>
  mgetI 7 v10 7 fun v13 =>
  mjoin (α := Int → MP) (fun (s0_25 : Int) =>
    mbud (bc - mc6) (bs - ms6) fun mc25 ms25 =>
    MX1_mayBe mc25 ms25 s0_25 Ex <|
    mobj 1 this <|
    MX1_newBook this p1 fun v30 =>
    Qj v30
  ) fun k25 =>
  mif ((3 : Int) ≤ v13) (
    k25 0
  ) (
    k25 1
  )
def MX0_book (bc : Nat) (bs : Nat) (p0 : Nat) (p1 : Int) (p2 : Nat) (Qj : Int → MP) : MP :=
  mbud bc bs fun mc4 ms4 =>
  mobj 1 p0 <|
  MX1_book mc4 ms4 p0 p1 (fun (xx4 xq4 : Nat) => mif (xx4 = 0) (   Qj 1 ) (   mif (xx4 = 1) (     Qj 2   ) (     mbot   ) )) fun v4 =>
  mastL p2 0 v4 <|
  Qj 0
def MX11_book (this : Nat) (p1 : Int) (Qj : Int → MP) : MP :=
  mputI 11 this 0 0 <|
  MX11_in p1 0 1 fun v9 =>
  mjoin (α := Int → MP) (fun (s1_20 : Int) =>
    mobj 11 this <|
    MX11_throwsIf this s1_20 1 fun v21 =>
    mif (v21 = 0) (
      mgetA 11 this 1 fun v29 =>
      maldI 0 v29 1 fun v33 =>
      mjoin (α := Int → MP) (fun (s1_43 : Int) =>
        mobj 11 this <|
        MX11_throwsIf this s1_43 2 fun v44 =>
        mif (v44 = 0) (
          mgetA 11 this 1 fun v53 =>
          maldI 0 v53 1 fun v57 =>
          mgetA 11 this 1 fun v60 =>
          mastI v60 (w32 (119 + (w32 (98 * v57)))) p1 <|
          mgetA 11 this 1 fun v73 =>
          mastI v73 (w32 ((w32 (119 + (w32 (98 * v57)))) + 1)) 0 <|
          mgetA 11 this 1 fun v88 =>
          maldI 0 v88 1 fun v93 =>
          mastI v88 1 (w32 (v93 + 1)) <|
          Qj v57
        ) (
          Qj 0
        )
      ) fun k43 =>
      mif (v33 = 3) (
        k43 1
      ) (
        k43 0
      )
    ) (
      Qj 0
    )
  ) fun k20 =>
  mif (v9 = 0) (
    k20 1
  ) (
    k20 0
  )
def MX1_bookAt (bc : Nat) (bs : Nat) (this : Nat) (p1 : Int) (Ex : Nat → Nat → MP) (Qj : Nat → MP) : MP :=
  mgetA 1 this 1 fun v3 =>
  mgetI 7 v3 7 fun v6 =>
  MX1_isIn p1 0 (w32 (v6 - 1)) fun v11 =>
  mbud bc bs fun mc14 ms14 =>
  MX1_mustBe mc14 ms14 v11 Ex <|
  mgetA 1 this 1 fun v18 =>
  mgetA 7 v18 2 fun v21 =>
  maldA 8 v21 p1 fun v25 =>
  Qj v25
def MX1_isNoted (bc : Nat) (bs : Nat) (p0 : Int) (p1 : Int) (p2 : Int) (Ex : Nat → Nat → MP) (Qj : MP) : MP :=
  MX1_isIn p0 (-1) 5 fun v3 =>
  mjoin (α := MP) (
    mbud bc bs fun mc32 ms32 =>
    MX1_must mc32 ms32 0 Ex Qj
  ) fun k31 =>
  mif (v3 = 0) (
    k31
  ) (
    MX1_isIn p1 0 5 fun v12 =>
    mif (v12 = 0) (
      k31
    ) (
      MX1_isIn p2 0 5 fun v21 =>
      mif (v21 = 0) (
        k31
      ) (
        mbud bc bs fun mc32 ms32 =>
        MX1_must mc32 ms32 1 Ex Qj
      )
    )
  )
def MX23_init (this : Nat) (p1 : Int) (p2 : Int) (p3 : Int) (p4 : Int) (Qj : MP) : MP :=
  mputI 23 this 0 p1 <|
  mputI 23 this 1 p2 <|
  mputI 23 this 2 p3 <|
  mputI 23 this 3 p4 <|
  Qj
def MX1_note (bc : Nat) (bs : Nat) (this : Nat) (p1 : Int) (p2 : Int) (p3 : Int) (p4 : Int) (p5 : Int) (Ex : Nat → Nat → MP) (Qj : Int → MP) : MP :=
  mbud bc bs fun mc2 ms2 =>
  mobj 1 this <|
  MX1_bookAt mc2 ms2 this p1 Ex fun v2 =>
  mbud (bc - mc2) (bs - ms2) fun mc10 ms10 =>
  mobj 1 this <|
  MX1_isKind mc10 ms10 this p2 0 Ex <|
  mbud ((bc - mc2) - mc10) ((bs - ms2) - ms10) fun mc18 ms18 =>
  MX1_isNoted mc18 ms18 p3 p4 p5 Ex <|
  mgetI 9 v2 2 fun v23 =>
  mjoin (α := Int → MP) (fun (s0_36 : Int) =>
    mbud (((bc - mc2) - mc10) - mc18) (((bs - ms2) - ms10) - ms18) fun mc36 ms36 =>
    MX1_mayBe mc36 ms36 s0_36 Ex <|
    mgetA 9 v2 0 fun v41 =>
    mgetI 9 v2 2 fun v46 =>
    mnew 23 4 ((((bc - mc2) - mc10) - mc18) - mc36) ((((bs - ms2) - ms10) - ms18) - ms36) fun v49 =>
    MX23_init v49 p2 p3 p4 p5 <|
    mastA 10 23 v41 v46 v49 <|
    mgetI 9 v2 2 fun v66 =>
    mputI 9 v2 2 (w32 (v66 + 1)) <|
    mputZ 1 this 16 0 <|
    mgetI 9 v2 2 fun v81 =>
    Qj (w32 (v81 - 1))
  ) fun k36 =>
  mif ((24 : Int) ≤ v23) (
    k36 0
  ) (
    k36 1
  )
def MX0_note (bc : Nat) (bs : Nat) (p0 : Nat) (p1 : Int) (p2 : Int) (p3 : Int) (p4 : Int) (p5 : Int) (p6 : Nat) (Qj : Int → MP) : MP :=
  mbud bc bs fun mc11 ms11 =>
  mobj 1 p0 <|
  MX1_note mc11 ms11 p0 p1 p2 p3 p4 p5 (fun (xx11 xq11 : Nat) => mif (xx11 = 2) (   Qj 1 ) (   mif (xx11 = 0) (     Qj 2   ) (     mif (xx11 = 1) (       Qj 3     ) (       mbot     )   ) )) fun v11 =>
  mastL p6 0 v11 <|
  Qj 0
def MX11_noBook (this : Nat) (p1 : Int) (Qj : Int → MP) : MP :=
  mobj 11 this <|
  MX11_none this p1 1 fun v3 =>
  mand (v3 = 0 ∨ v3 = 1) (
    Qj v3
  )
def MX11_badNote (p0 : Int) (p1 : Int) (p2 : Int) (Qj : Int → MP) : MP :=
  MX11_in p0 (-1) 5 fun v3 =>
  mjoin (α := MP) (
    Qj 1
  ) fun k27 =>
  mif (v3 = 0) (
    k27
  ) (
    MX11_in p1 0 5 fun v12 =>
    mif (v12 = 0) (
      k27
    ) (
      MX11_in p2 0 5 fun v21 =>
      mif (v21 = 0) (
        k27
      ) (
        Qj 0
      )
    )
  )
def MX11_ofBook (this : Nat) (p1 : Int) (p2 : Int) (Qj : Int → MP) : MP :=
  mgetA 11 this 1 fun v1 =>
  maldI 0 v1 (w32 ((w32 (119 + (w32 (98 * p1)))) + p2)) fun v13 =>
  Qj v13
def MX11_notes (this : Nat) (p1 : Int) (Qj : Int → MP) : MP :=
  mobj 11 this <|
  MX11_ofBook this p1 1 fun v3 =>
  Qj v3
def MX11_setsNote (this : Nat) (p1 : Int) (p2 : Int) (p3 : Int) (p4 : Int) (p5 : Int) (p6 : Int) (Qj : MP) : MP :=
  mgetA 11 this 1 fun v16 =>
  mastI v16 (w32 ((w32 ((w32 (119 + (w32 (98 * p1)))) + 2)) + (w32 (4 * p2)))) p3 <|
  mgetA 11 this 1 fun v24 =>
  mastI v24 (w32 ((w32 ((w32 ((w32 (119 + (w32 (98 * p1)))) + 2)) + (w32 (4 * p2)))) + 1)) p4 <|
  mgetA 11 this 1 fun v35 =>
  mastI v35 (w32 ((w32 ((w32 ((w32 (119 + (w32 (98 * p1)))) + 2)) + (w32 (4 * p2)))) + 2)) p5 <|
  mgetA 11 this 1 fun v46 =>
  mastI v46 (w32 ((w32 ((w32 ((w32 (119 + (w32 (98 * p1)))) + 2)) + (w32 (4 * p2)))) + 3)) p6 <|
  Qj
def MX11_addsNote (this : Nat) (p1 : Int) (p2 : Int) (p3 : Int) (p4 : Int) (p5 : Int) (Qj : Int → MP) : MP :=
  mobj 11 this <|
  MX11_notes this p1 fun v4 =>
  mobj 11 this <|
  MX11_setsNote this p1 v4 p2 p3 p4 p5 <|
  mgetA 11 this 1 fun v17 =>
  maldI 0 v17 (w32 ((w32 (119 + (w32 (98 * p1)))) + 1)) fun v30 =>
  mastI v17 (w32 ((w32 (119 + (w32 (98 * p1)))) + 1)) (w32 (v30 + 1)) <|
  mobj 11 this <|
  MX11_notes this p1 fun v36 =>
  Qj (w32 (v36 - 1))
def MX11_note (this : Nat) (p1 : Int) (p2 : Int) (p3 : Int) (p4 : Int) (p5 : Int) (Qj : Int → MP) : MP :=
  mputI 11 this 0 0 <|
  mobj 11 this <|
  MX11_noBook this p1 fun v8 =>
  mjoin (α := Int → MP) (fun (s1_27 : Int) =>
    mobj 11 this <|
    MX11_throwsIf this s1_27 1 fun v28 =>
    mif (v28 = 0) (
      MX11_badNote p3 p4 p5 fun v40 =>
      mobj 11 this <|
      MX11_throwsIf this v40 2 fun v44 =>
      mif (v44 = 0) (
        mobj 11 this <|
        MX11_notes this p1 fun v53 =>
        mjoin (α := Int → MP) (fun (s1_66 : Int) =>
          mobj 11 this <|
          MX11_throwsIf this s1_66 3 fun v67 =>
          mif (v67 = 0) (
            mobj 11 this <|
            MX11_addsNote this p1 p2 p3 p4 p5 fun v83 =>
            Qj v83
          ) (
            Qj 0
          )
        ) fun k66 =>
        mif (v53 = 24) (
          k66 1
        ) (
          k66 0
        )
      ) (
        Qj 0
      )
    ) (
      Qj 0
    )
  ) fun k27 =>
  mjoin (α := MP) (
    k27 1
  ) fun k22 =>
  mif (v8 = 0) (
    mobj 11 this <|
    MX11_noKind this p2 fun v16 =>
    mif (v16 = 0) (
      k27 0
    ) (
      k22
    )
  ) (
    k22
  )
def MX1_isNote (bc : Nat) (bs : Nat) (this : Nat) (p1 : Int) (p2 : Int) (Ex : Nat → Nat → MP) (Qj : MP) : MP :=
  mbud bc bs fun mc4 ms4 =>
  mobj 1 this <|
  MX1_bookAt mc4 ms4 this p1 Ex fun v4 =>
  mgetI 9 v4 2 fun v7 =>
  MX1_isIn p2 0 (w32 (v7 - 1)) fun v12 =>
  mbud (bc - mc4) (bs - ms4) fun mc15 ms15 =>
  MX1_mustBe mc15 ms15 v12 Ex Qj
def MX23_isNearly (this : Nat) (p1 : Nat) (Qj : Int → MP) : MP :=
  mgetI 23 this 0 fun v1 =>
  mgetI 23 p1 0 fun v5 =>
  mjoin (α := MP) (
    Qj 0
  ) fun k37 =>
  mif (v1 = v5) (
    mgetI 23 this 2 fun v12 =>
    mgetI 23 p1 2 fun v16 =>
    mif (v12 = v16) (
      mgetI 23 this 3 fun v23 =>
      mgetI 23 p1 3 fun v27 =>
      mif (v23 = v27) (
        Qj 1
      ) (
        k37
      )
    ) (
      k37
    )
  ) (
    k37
  )
def MX23_isLike (this : Nat) (p1 : Nat) (Qj : Int → MP) : MP :=
  mgetI 23 this 1 fun v1 =>
  mgetI 23 p1 1 fun v5 =>
  mjoin (α := MP) (
    Qj 0
  ) fun k23 =>
  mif (v1 = v5) (
    mobj 23 this <|
    MX23_isNearly this p1 fun v13 =>
    mif (v13 = 0) (
      k23
    ) (
      Qj 1
    )
  ) (
    k23
  )
def MX1_change (bc : Nat) (bs : Nat) (this : Nat) (p1 : Int) (p2 : Int) (p3 : Int) (p4 : Int) (p5 : Int) (p6 : Int) (Ex : Nat → Nat → MP) (Qj : Int → MP) : MP :=
  mbud bc bs fun mc3 ms3 =>
  mobj 1 this <|
  MX1_isNote mc3 ms3 this p1 p2 Ex <|
  mbud (bc - mc3) (bs - ms3) fun mc9 ms9 =>
  mobj 1 this <|
  MX1_isKind mc9 ms9 this p3 0 Ex <|
  mbud ((bc - mc3) - mc9) ((bs - ms3) - ms9) fun mc18 ms18 =>
  MX1_isNoted mc18 ms18 p4 p5 p6 Ex <|
  mnew 23 4 (((bc - mc3) - mc9) - mc18) (((bs - ms3) - ms9) - ms18) fun v21 =>
  MX23_init v21 p3 p4 p5 p6 <|
  mgetA 1 this 1 fun v40 =>
  mgetA 7 v40 2 fun v43 =>
  maldA 8 v43 p1 fun v47 =>
  mgetA 9 v47 0 fun v48 =>
  maldA 10 v48 p2 fun v52 =>
  mobj 23 v21 <|
  MX23_isLike v21 v52 fun v53 =>
  mjoin (α := Int → MP) (fun (s0_64 : Int) =>
    mgetA 1 this 1 fun v67 =>
    mgetA 7 v67 2 fun v70 =>
    maldA 8 v70 p1 fun v74 =>
    mgetA 9 v74 0 fun v75 =>
    mastA 10 23 v75 p2 v21 <|
    mputZ 1 this 16 0 <|
    mand (s0_64 = 0 ∨ s0_64 = 1) (
      Qj s0_64
    )
  ) fun k64 =>
  mif (v53 = 0) (
    k64 1
  ) (
    k64 0
  )
def MX0_change (bc : Nat) (bs : Nat) (p0 : Nat) (p1 : Int) (p2 : Int) (p3 : Int) (p4 : Int) (p5 : Int) (p6 : Int) (p7 : Nat) (Qj : Int → MP) : MP :=
  mbud bc bs fun mc13 ms13 =>
  mobj 1 p0 <|
  MX1_change mc13 ms13 p0 p1 p2 p3 p4 p5 p6 (fun (xx13 xq13 : Nat) => mif (xx13 = 2) (   Qj 1 ) (   mif (xx13 = 0) (     Qj 2   ) (     mbot   ) )) fun v13 =>
  mjoin (α := Int → MP) (fun (s2_24 : Int) =>
    mastL p7 0 s2_24 <|
    Qj 0
  ) fun k24 =>
  mif (v13 = 0) (
    k24 0
  ) (
    k24 1
  )
def MX11_noNote (this : Nat) (p1 : Int) (p2 : Int) (Qj : Int → MP) : MP :=
  mobj 11 this <|
  MX11_noBook this p1 fun v2 =>
  mjoin (α := MP) (
    Qj 1
  ) fun k23 =>
  mif (v2 = 0) (
    mobj 11 this <|
    MX11_notes this p1 fun v12 =>
    MX11_in p2 0 (w32 (v12 - 1)) fun v17 =>
    mif (v17 = 0) (
      k23
    ) (
      Qj 0
    )
  ) (
    k23
  )
def MX11_ofNote (this : Nat) (p1 : Int) (p2 : Int) (p3 : Int) (Qj : Int → MP) : MP :=
  mobj 11 this <|
  MX11_ofBook this p1 (w32 ((w32 (2 + (w32 (4 * p2)))) + p3)) fun v9 =>
  Qj v9
def MX11_change (this : Nat) (p1 : Int) (p2 : Int) (p3 : Int) (p4 : Int) (p5 : Int) (p6 : Int) (Qj : Int → MP) : MP :=
  mputI 11 this 0 0 <|
  mobj 11 this <|
  MX11_noNote this p1 p2 fun v9 =>
  mjoin (α := Int → MP) (fun (s1_28 : Int) =>
    mobj 11 this <|
    MX11_throwsIf this s1_28 1 fun v29 =>
    mif (v29 = 0) (
      MX11_badNote p4 p5 p6 fun v42 =>
      mobj 11 this <|
      MX11_throwsIf this v42 2 fun v46 =>
      mif (v46 = 0) (
        mobj 11 this <|
        MX11_ofNote this p1 p2 0 fun v58 =>
        mjoin (α := Int → MP) (fun (s0_106 : Int) =>
          mobj 11 this <|
          MX11_setsNote this p1 p2 p3 p4 p5 p6 <|
          mand (s0_106 = 0 ∨ s0_106 = 1) (
            Qj s0_106
          )
        ) fun k106 =>
        mjoin (α := MP) (
          k106 1
        ) fun k101 =>
        mif (v58 = p3) (
          mobj 11 this <|
          MX11_ofNote this p1 p2 1 fun v69 =>
          mif (v69 = p4) (
            mobj 11 this <|
            MX11_ofNote this p1 p2 2 fun v81 =>
            mif (v81 = p5) (
              mobj 11 this <|
              MX11_ofNote this p1 p2 3 fun v93 =>
              mif (v93 = p6) (
                k106 0
              ) (
                k101
              )
            ) (
              k101
            )
          ) (
            k101
          )
        ) (
          k101
        )
      ) (
        Qj 0
      )
    ) (
      Qj 0
    )
  ) fun k28 =>
  mjoin (α := MP) (
    k28 1
  ) fun k23 =>
  mif (v9 = 0) (
    mobj 11 this <|
    MX11_noKind this p3 fun v17 =>
    mif (v17 = 0) (
      k28 0
    ) (
      k23
    )
  ) (
    k23
  )
def MX1_look (bc : Nat) (bs : Nat) (this : Nat) (p1 : Int) (p2 : Int) (p3 : Int) (Ex : Nat → Nat → MP) (Qj : Int → MP) : MP :=
  mbud bc bs fun mc3 ms3 =>
  mobj 1 this <|
  MX1_isNote mc3 ms3 this p1 p2 Ex <|
  mgetA 1 this 1 fun v7 =>
  mgetA 7 v7 2 fun v10 =>
  maldA 8 v10 p1 fun v14 =>
  mgetA 9 v14 0 fun v15 =>
  maldA 10 v15 p2 fun v19 =>
  mif (p3 = 0) (
    mgetI 23 v19 0 fun v54 =>
    Qj v54
  ) (
    mif (p3 = 1) (
      mgetI 23 v19 1 fun v60 =>
      Qj v60
    ) (
      mif (p3 = 2) (
        mgetI 23 v19 2 fun v66 =>
        Qj v66
      ) (
        mif (p3 = 3) (
          mgetI 23 v19 3 fun v72 =>
          Qj v72
        ) (
          mthrow 3 (bc - mc3) (bs - ms3) Ex
        )
      )
    )
  )
def MX0_look (bc : Nat) (bs : Nat) (p0 : Nat) (p1 : Int) (p2 : Int) (p3 : Int) (p4 : Nat) (Qj : Int → MP) : MP :=
  mbud bc bs fun mc7 ms7 =>
  mobj 1 p0 <|
  MX1_look mc7 ms7 p0 p1 p2 p3 (fun (xx7 xq7 : Nat) => mif (xx7 = 2) (   Qj 1 ) (   mif (xx7 = 3) (     Qj 2   ) (     mbot   ) )) fun v7 =>
  mastL p4 0 v7 <|
  Qj 0
def MX11_look (this : Nat) (p1 : Int) (p2 : Int) (p3 : Int) (Qj : Int → MP) : MP :=
  mputI 11 this 0 0 <|
  mobj 11 this <|
  MX11_noNote this p1 p2 fun v9 =>
  mobj 11 this <|
  MX11_throwsIf this v9 1 fun v13 =>
  mjoin (α := MP) (
    Qj 0
  ) fun k41 =>
  mif (v13 = 0) (
    MX11_in p3 0 3 fun v23 =>
    mjoin (α := Int → MP) (fun (s1_34 : Int) =>
      mobj 11 this <|
      MX11_throwsIf this s1_34 2 fun v35 =>
      mif (v35 = 0) (
        mobj 11 this <|
        MX11_ofNote this p1 p2 p3 fun v49 =>
        Qj v49
      ) (
        k41
      )
    ) fun k34 =>
    mif (v23 = 0) (
      k34 1
    ) (
      k34 0
    )
  ) (
    k41
  )
def MX8_be (this : Nat) (p1 : Nat) (Qj : MP) : MP :=
  mgetA 8 p1 0 fun v1 =>
  mgetA 8 this 0 fun v6 =>
  mcpyI v1 0 v6 0 36 <|
  mgetA 8 p1 1 fun v16 =>
  mgetA 8 this 1 fun v21 =>
  mcpyI v16 0 v21 0 36 <|
  Qj
def MX1_draw (this : Nat) (Qj : Int → MP) : MP :=
  mgetI 1 this 15 fun v4 =>
  mputI 1 this 15 (w32 ((w32 (1103515245 * v4)) + 12345)) <|
  mgetI 1 this 15 fun v16 =>
  Qj (mand32 (mushr v16 16) 32767)
def MX8_goes (this : Nat) (p1 : Int) (Qj : Int → MP) : MP :=
  mgetA 8 this 0 fun v11 =>
  maldI 0 v11 (Int.tmod p1 36) fun v15 =>
  mgetA 8 this 0 fun v19 =>
  mgetA 8 this 0 fun v24 =>
  maldI 0 v24 (w32 (Int.tdiv p1 36)) fun v28 =>
  mastI v19 (Int.tmod p1 36) v28 <|
  mgetA 8 this 1 fun v31 =>
  mgetA 8 this 1 fun v36 =>
  maldI 0 v36 (w32 (Int.tdiv p1 36)) fun v40 =>
  mastI v31 (Int.tmod p1 36) v40 <|
  mgetA 8 this 0 fun v43 =>
  mastI v43 (w32 (Int.tdiv p1 36)) (-1) <|
  Qj v15
def GX1_write_98 (this : Nat) (p1 : Int) (p2 : Int) (p3 : Int) (Qj : Int → MP) (v58 : Int) (v72 : Nat) (rec98 : Int → Nat → Nat → MP) (x7_98 : Int) (bc_98 : Nat) (bs_98 : Nat) : MP :=
  mif (p2 ≤ x7_98) (
    Qj v58
  ) (
    mgetA 1 this 4 fun v111 =>
    mgetA 1 this 12 fun v115 =>
    mgetA 1 this 11 fun v121 =>
    mobj 10 v111 <|
    MX10_gathers v111 v115 (Int.tmod x7_98 2) v121 fun v124 =>
    mif (v124 = 0) (
      Qj v58
    ) (
      mgetA 1 this 11 fun v138 =>
      mobj 1 this <|
      MX1_draw this fun v142 =>
      mand (¬ v124 = 0) <|
      maldI 0 v138 (Int.tmod v142 v124) fun v148 =>
      mgetA 1 this 12 fun v152 =>
      mgetA 8 v152 0 fun v155 =>
      maldI 0 v155 (w32 (Int.tdiv v148 36)) fun v163 =>
      mjoin (α := Int → MP) (fun (s0_206 : Int) =>
        mgetA 1 this 12 fun v209 =>
        mobj 8 v209 <|
        MX8_goes v209 v148 fun v214 =>
        mobj 1 this <|
        MX1_draw this fun v219 =>
        mjoin (α := Int → Int → Int → MP) (fun (x11_300 : Int) (x12_300 : Int) (x13_300 : Int) =>
          mgetA 9 v72 0 fun v302 =>
          mnew 23 4 bc_98 bs_98 fun v307 =>
          MX23_init v307 x11_300 (-1) x12_300 x13_300 <|
          mastA 10 23 v302 x7_98 v307 <|
          mgetI 9 v72 2 fun v325 =>
          mputI 9 v72 2 (w32 (v325 + 1)) <|
          rec98 (w32 (x7_98 + 1)) (bc_98 - 1) (bs_98 - 4)
        ) fun k300 =>
        mif (p3 ≤ (Int.tmod v219 10)) (
          k300 v163 (Int.tmod (Int.tmod v148 36) 6) s0_206
        ) (
          mobj 1 this <|
          MX1_draw this fun v230 =>
          mif ((Int.tmod v230 3) = 0) (
            mgetA 1 this 1 fun v247 =>
            mgetI 7 v247 6 fun v250 =>
            mand (¬ v250 = 0) <|
            k300 (Int.tmod (w32 (v163 + 1)) v250) (Int.tmod (Int.tmod v148 36) 6) s0_206
          ) (
            mif ((Int.tmod v230 3) = 1) (
              mjoin (α := Int → MP) (fun (s1_278 : Int) =>
                k300 v163 (w32 ((Int.tmod (Int.tmod v148 36) 6) + s1_278)) s0_206
              ) fun k278 =>
              mif ((Int.tmod (Int.tmod v148 36) 6) = 5) (
                k278 (-1)
              ) (
                k278 1
              )
            ) (
              mjoin (α := Int → MP) (fun (s1_297 : Int) =>
                k300 v163 (Int.tmod (Int.tmod v148 36) 6) (w32 (s0_206 + s1_297))
              ) fun k297 =>
              mif (s0_206 = 5) (
                k297 (-1)
              ) (
                k297 1
              )
            )
          )
        )
      ) fun k206 =>
      mjoin (α := MP) (
        k206 (w32 (Int.tdiv (Int.tmod v148 36) 6))
      ) fun k204 =>
      mif (p1 = 1) (
        mif ((Int.tmod x7_98 2) = 1) (
          k206 (w32 (5 - (w32 (Int.tdiv (Int.tmod v148 36) 6))))
        ) (
          k204
        )
      ) (
        k204
      )
    )
  )
def MX1_write (bc : Nat) (bs : Nat) (this : Nat) (p1 : Int) (p2 : Int) (p3 : Int) (p4 : Int) (Ex : Nat → Nat → MP) (Qj : Int → MP) : MP :=
  MX1_isIn p1 0 1 fun v3 =>
  mjoin (α := Int → MP) (fun (s0_34 : Int) =>
    mbud bc bs fun mc34 ms34 =>
    MX1_must mc34 ms34 s0_34 Ex <|
    mgetA 1 this 1 fun v38 =>
    mgetI 7 v38 7 fun v41 =>
    mjoin (α := Int → MP) (fun (s0_53 : Int) =>
      mbud (bc - mc34) (bs - ms34) fun mc53 ms53 =>
      MX1_mayBe mc53 ms53 s0_53 Ex <|
      mobj 1 this <|
      MX1_newBook this p1 fun v58 =>
      mgetA 1 this 1 fun v64 =>
      mgetA 7 v64 2 fun v67 =>
      maldA 8 v67 v58 fun v72 =>
      mputI 1 this 15 p4 <|
      mgetA 1 this 12 fun v82 =>
      mgetA 1 this 1 fun v86 =>
      mgetA 7 v86 1 fun v89 =>
      mobj 8 v82 <|
      MX8_be v82 v89 <|
      mex fun n98 => jit (GX1_write_98 this p1 p2 p3 Qj v58 v72) (fun _ _ _ => mbot) n98 0 ((bc - mc34) - mc53) ((bs - ms34) - ms53)
    ) fun k53 =>
    mif ((3 : Int) ≤ v41) (
      k53 0
    ) (
      k53 1
    )
  ) fun k34 =>
  mjoin (α := MP) (
    k34 0
  ) fun k33 =>
  mif (v3 = 0) (
    k33
  ) (
    MX1_isIn p2 1 24 fun v13 =>
    mif (v13 = 0) (
      k33
    ) (
      MX1_isIn p3 0 9 fun v23 =>
      mif (v23 = 0) (
        k33
      ) (
        k34 1
      )
    )
  )
def MX0_write (bc : Nat) (bs : Nat) (p0 : Nat) (p1 : Int) (p2 : Int) (p3 : Int) (p4 : Int) (p5 : Nat) (Qj : Int → MP) : MP :=
  mbud bc bs fun mc9 ms9 =>
  mobj 1 p0 <|
  MX1_write mc9 ms9 p0 p1 p2 p3 p4 (fun (xx9 xq9 : Nat) => mif (xx9 = 0) (   Qj 1 ) (   mif (xx9 = 1) (     Qj 2   ) (     mbot   ) )) fun v9 =>
  mastL p5 0 v9 <|
  Qj 0
def MX11_draw (this : Nat) (Qj : Int → MP) : MP :=
  mgetI 11 this 51 fun v5 =>
  mputI 11 this 51 (w32 ((w32 (1103515245 * v5)) + 12345)) <|
  mgetI 11 this 51 fun v17 =>
  Qj (mand32 (mshr v17 16) 32767)
def GX11_makes_2 (this : Nat) (p1 : Int) (k33 : MP) (rec2 : Int → MP) (x3_2 : Int) : MP :=
  mif ((36 : Int) ≤ x3_2) (
    k33
  ) (
    mgetA 11 this 16 fun v9 =>
    mobj 11 this <|
    MX11_at this p1 x3_2 fun v23 =>
    mastI v9 (w32 ((w32 (36 * (w32 (p1 + 1)))) + x3_2)) v23 <|
    rec2 (w32 (x3_2 + 1))
  )
def MX11_makes (this : Nat) (p1 : Int) (p2 : Int) (Qj : MP) : MP :=
  mex fun n2 => jit (GX11_makes_2 this p1 (mgetA 11 this 16 fun v34 => mobj 11 this <| MX11_at this p1 (w32 (Int.tdiv p2 36)) fun v54 => mastI v34 (w32 ((w32 (36 * (w32 (p1 + 1)))) + (Int.tmod p2 36))) v54 <| mgetA 11 this 16 fun v59 => mastI v59 (w32 ((w32 (36 * (w32 (p1 + 1)))) + (w32 (Int.tdiv p2 36)))) (-1) <| Qj)) (fun _ => mbot) n2 0
def GX11_write_133 (this : Nat) (p1 : Int) (p2 : Int) (p3 : Int) (Qj : Int → MP) (v77 : Int) (rec133 : Int → MP) (x6_133 : Int) : MP :=
  mif (p2 ≤ x6_133) (
    Qj v77
  ) (
    mobj 11 this <|
    MX11_finds this x6_133 (Int.tmod x6_133 2) <|
    mobj 11 this <|
    MX11_manyAt this x6_133 fun v152 =>
    mif (v152 = 0) (
      Qj v77
    ) (
      mobj 11 this <|
      MX11_draw this fun v169 =>
      mand (¬ v152 = 0) <|
      mobj 11 this <|
      MX11_moveAt this x6_133 (Int.tmod v169 v152) fun v175 =>
      mobj 11 this <|
      MX11_at this x6_133 (w32 (Int.tdiv v175 36)) fun v195 =>
      mjoin (α := Int → MP) (fun (s0_237 : Int) =>
        mobj 11 this <|
        MX11_draw this fun v240 =>
        mjoin (α := Int → Int → Int → MP) (fun (x10_326 : Int) (x11_326 : Int) (x12_326 : Int) =>
          mobj 11 this <|
          MX11_addsNote this v77 x10_326 (-1) x11_326 x12_326 fun v336 =>
          mobj 11 this <|
          MX11_makes this x6_133 v175 <|
          rec133 (w32 (x6_133 + 1))
        ) fun k326 =>
        mif (p3 ≤ (Int.tmod v240 10)) (
          k326 (w32 (Int.tdiv v195 2)) (Int.tmod (Int.tmod v175 36) 6) s0_237
        ) (
          mobj 11 this <|
          MX11_draw this fun v251 =>
          mif ((Int.tmod v251 3) = 0) (
            mgetA 11 this 1 fun v268 =>
            maldI 0 v268 0 fun v272 =>
            mand (¬ v272 = 0) <|
            k326 (Int.tmod (w32 ((w32 (Int.tdiv v195 2)) + 1)) v272) (Int.tmod (Int.tmod v175 36) 6) s0_237
          ) (
            mif ((Int.tmod v251 3) = 1) (
              mjoin (α := Int → MP) (fun (s0_302 : Int) =>
                k326 (w32 (Int.tdiv v195 2)) s0_302 s0_237
              ) fun k302 =>
              mif ((Int.tmod (Int.tmod v175 36) 6) = 5) (
                k302 (w32 ((Int.tmod (Int.tmod v175 36) 6) - 1))
              ) (
                k302 (w32 ((Int.tmod (Int.tmod v175 36) 6) + 1))
              )
            ) (
              mjoin (α := Int → MP) (fun (s0_324 : Int) =>
                k326 (w32 (Int.tdiv v195 2)) (Int.tmod (Int.tmod v175 36) 6) s0_324
              ) fun k324 =>
              mif (s0_237 = 5) (
                k324 (w32 (s0_237 - 1))
              ) (
                k324 (w32 (s0_237 + 1))
              )
            )
          )
        )
      ) fun k237 =>
      mjoin (α := MP) (
        k237 (w32 (Int.tdiv (Int.tmod v175 36) 6))
      ) fun k232 =>
      mif (p1 = 1) (
        mif ((Int.tmod x6_133 2) = 1) (
          k237 (w32 (5 - (w32 (Int.tdiv (Int.tmod v175 36) 6))))
        ) (
          k232
        )
      ) (
        k232
      )
    )
  )
def MX11_write (this : Nat) (p1 : Int) (p2 : Int) (p3 : Int) (p4 : Int) (Qj : Int → MP) : MP :=
  mputI 11 this 0 0 <|
  MX11_in p1 0 1 fun v9 =>
  mjoin (α := Int → MP) (fun (s1_40 : Int) =>
    mobj 11 this <|
    MX11_throwsIf this s1_40 1 fun v41 =>
    mif (v41 = 0) (
      mgetA 11 this 1 fun v49 =>
      maldI 0 v49 1 fun v53 =>
      mjoin (α := Int → MP) (fun (s1_63 : Int) =>
        mobj 11 this <|
        MX11_throwsIf this s1_63 2 fun v64 =>
        mif (v64 = 0) (
          mgetA 11 this 1 fun v73 =>
          maldI 0 v73 1 fun v77 =>
          mgetA 11 this 1 fun v81 =>
          mastI v81 (w32 (119 + (w32 (98 * v77)))) p1 <|
          mgetA 11 this 1 fun v95 =>
          mastI v95 (w32 ((w32 (119 + (w32 (98 * v77)))) + 1)) 0 <|
          mgetA 11 this 1 fun v111 =>
          maldI 0 v111 1 fun v116 =>
          mastI v111 1 (w32 (v116 + 1)) <|
          mputI 11 this 51 p4 <|
          mobj 11 this <|
          MX11_begins this <|
          mex fun n133 => jit (GX11_write_133 this p1 p2 p3 Qj v77) (fun _ => mbot) n133 0
        ) (
          Qj 0
        )
      ) fun k63 =>
      mif (v53 = 3) (
        k63 1
      ) (
        k63 0
      )
    ) (
      Qj 0
    )
  ) fun k40 =>
  mjoin (α := MP) (
    k40 1
  ) fun k35 =>
  mif (v9 = 0) (
    k35
  ) (
    MX11_in p2 1 24 fun v19 =>
    mif (v19 = 0) (
      k35
    ) (
      MX11_in p3 0 9 fun v29 =>
      mif (v29 = 0) (
        k35
      ) (
        k40 0
      )
    )
  )
def MX1_isSlip (bc : Nat) (bs : Nat) (p0 : Int) (Ex : Nat → Nat → MP) (Qj : MP) : MP :=
  MX1_isIn p0 1 7 fun v4 =>
  mbud bc bs fun mc7 ms7 =>
  MX1_mustBe mc7 ms7 v4 Ex Qj
def MX1_price (bc : Nat) (bs : Nat) (this : Nat) (p1 : Int) (p2 : Int) (Ex : Nat → Nat → MP) (Qj : Int → MP) : MP :=
  mbud bc bs fun mc1 ms1 =>
  MX1_isSlip mc1 ms1 p1 Ex <|
  MX1_isIn p2 0 9 fun v8 =>
  mbud (bc - mc1) (bs - ms1) fun mc11 ms11 =>
  MX1_must mc11 ms11 v8 Ex <|
  mgetA 1 this 1 fun v15 =>
  mgetA 7 v15 4 fun v18 =>
  maldI 0 v18 p1 fun v22 =>
  mgetA 1 this 1 fun v25 =>
  mgetA 7 v25 4 fun v28 =>
  mastI v28 p1 p2 <|
  mputZ 1 this 16 0 <|
  Qj v22
def MX0_price (bc : Nat) (bs : Nat) (p0 : Nat) (p1 : Int) (p2 : Int) (p3 : Nat) (Qj : Int → MP) : MP :=
  mbud bc bs fun mc5 ms5 =>
  mobj 1 p0 <|
  MX1_price mc5 ms5 p0 p1 p2 (fun (xx5 xq5 : Nat) => mif (xx5 = 2) (   Qj 1 ) (   mif (xx5 = 0) (     Qj 2   ) (     mbot   ) )) fun v5 =>
  mastL p3 0 v5 <|
  Qj 0
def MX11_price (this : Nat) (p1 : Int) (p2 : Int) (Qj : Int → MP) : MP :=
  mputI 11 this 0 0 <|
  MX11_in p1 1 7 fun v10 =>
  mjoin (α := Int → MP) (fun (s1_21 : Int) =>
    mobj 11 this <|
    MX11_throwsIf this s1_21 1 fun v22 =>
    mif (v22 = 0) (
      MX11_in p2 0 9 fun v33 =>
      mjoin (α := Int → MP) (fun (s1_44 : Int) =>
        mobj 11 this <|
        MX11_throwsIf this s1_44 2 fun v45 =>
        mif (v45 = 0) (
          mgetA 11 this 1 fun v54 =>
          maldI 0 v54 (w32 (5 + p1)) fun v60 =>
          mgetA 11 this 1 fun v63 =>
          mastI v63 (w32 (5 + p1)) p2 <|
          Qj v60
        ) (
          Qj 0
        )
      ) fun k44 =>
      mif (v33 = 0) (
        k44 1
      ) (
        k44 0
      )
    ) (
      Qj 0
    )
  ) fun k21 =>
  mif (v10 = 0) (
    k21 1
  ) (
    k21 0
  )
def MX1_length (bc : Nat) (bs : Nat) (this : Nat) (p1 : Int) (Ex : Nat → Nat → MP) (Qj : MP) : MP :=
  MX1_isIn p1 (-1) 30 fun v4 =>
  mbud bc bs fun mc7 ms7 =>
  MX1_must mc7 ms7 v4 Ex <|
  mgetA 1 this 1 fun v11 =>
  mputI 7 v11 9 p1 <|
  mputZ 1 this 16 0 <|
  Qj
def MX0_length (bc : Nat) (bs : Nat) (p0 : Nat) (p1 : Int) (Qj : Int → MP) : MP :=
  mbud bc bs fun mc2 ms2 =>
  mobj 1 p0 <|
  MX1_length mc2 ms2 p0 p1 (fun (xx2 xq2 : Nat) => mif (xx2 = 0) (   Qj 1 ) (   mbot )) <|
  Qj 0
def MX11_length (this : Nat) (p1 : Int) (Qj : MP) : MP :=
  mputI 11 this 0 0 <|
  MX11_in p1 (-1) 30 fun v10 =>
  mjoin (α := Int → MP) (fun (s1_21 : Int) =>
    mobj 11 this <|
    MX11_throwsIf this s1_21 1 fun v22 =>
    mif (v22 = 0) (
      mgetA 11 this 1 fun v30 =>
      mastI v30 3 p1 <|
      Qj
    ) (
      Qj
    )
  ) fun k21 =>
  mif (v10 = 0) (
    k21 1
  ) (
    k21 0
  )
def MX24_init (this : Nat) (p1 : Int) (p2 : Int) (p3 : Int) (p4 : Int) (Qj : MP) : MP :=
  mputI 24 this 0 p1 <|
  mputI 24 this 1 p2 <|
  mputI 24 this 2 p3 <|
  mputI 24 this 3 p4 <|
  Qj
def MX1_picture (bc : Nat) (bs : Nat) (this : Nat) (p1 : Int) (p2 : Int) (p3 : Int) (p4 : Int) (Ex : Nat → Nat → MP) (Qj : Int → MP) : MP :=
  mbud bc bs fun mc1 ms1 =>
  MX1_isSquare mc1 ms1 p2 Ex <|
  mbud (bc - mc1) (bs - ms1) fun mc7 ms7 =>
  mobj 1 this <|
  MX1_isKind mc7 ms7 this p3 (-1) Ex <|
  MX1_isIn p1 0 30 fun v14 =>
  mjoin (α := Int → MP) (fun (s0_40 : Int) =>
    mbud ((bc - mc1) - mc7) ((bs - ms1) - ms7) fun mc40 ms40 =>
    MX1_must mc40 ms40 s0_40 Ex <|
    mgetA 1 this 1 fun v44 =>
    mgetI 7 v44 8 fun v47 =>
    mjoin (α := Int → MP) (fun (s0_60 : Int) =>
      mbud (((bc - mc1) - mc7) - mc40) (((bs - ms1) - ms7) - ms40) fun mc60 ms60 =>
      MX1_mayBe mc60 ms60 s0_60 Ex <|
      mgetA 1 this 1 fun v64 =>
      mgetA 7 v64 3 fun v67 =>
      mgetA 1 this 1 fun v71 =>
      mgetI 7 v71 8 fun v74 =>
      mnew 24 4 ((((bc - mc1) - mc7) - mc40) - mc60) ((((bs - ms1) - ms7) - ms40) - ms60) fun v77 =>
      MX24_init v77 p1 p2 p3 p4 <|
      mastA 9 24 v67 v74 v77 <|
      mgetA 1 this 1 fun v91 =>
      mgetI 7 v91 8 fun v95 =>
      mputI 7 v91 8 (w32 (v95 + 1)) <|
      mputZ 1 this 16 0 <|
      mgetA 1 this 1 fun v109 =>
      mgetI 7 v109 8 fun v112 =>
      Qj v112
    ) fun k60 =>
    mif ((10 : Int) ≤ v47) (
      k60 0
    ) (
      k60 1
    )
  ) fun k40 =>
  mjoin (α := MP) (
    k40 0
  ) fun k39 =>
  mif (v14 = 0) (
    k39
  ) (
    mjoin (α := MP) (
      k40 1
    ) fun k35 =>
    mif (p3 = (-1)) (
      k35
    ) (
      MX1_isIn p4 0 1 fun v29 =>
      mif (v29 = 0) (
        k39
      ) (
        k35
      )
    )
  )
def MX0_picture (bc : Nat) (bs : Nat) (p0 : Nat) (p1 : Int) (p2 : Int) (p3 : Int) (p4 : Int) (p5 : Nat) (Qj : Int → MP) : MP :=
  mbud bc bs fun mc9 ms9 =>
  mobj 1 p0 <|
  MX1_picture mc9 ms9 p0 p1 p2 p3 p4 (fun (xx9 xq9 : Nat) => mif (xx9 = 2) (   Qj 1 ) (   mif (xx9 = 0) (     Qj 2   ) (     mif (xx9 = 1) (       Qj 3     ) (       mbot     )   ) )) fun v9 =>
  mastL p5 0 v9 <|
  Qj 0
def MX11_picture (this : Nat) (p1 : Int) (p2 : Int) (p3 : Int) (p4 : Int) (Qj : Int → MP) : MP :=
  mputI 11 this 0 0 <|
  MX11_noSquare p2 fun v7 =>
  mjoin (α := Int → MP) (fun (s1_31 : Int) =>
    mobj 11 this <|
    MX11_throwsIf this s1_31 1 fun v32 =>
    mif (v32 = 0) (
      MX11_in p1 0 30 fun v43 =>
      mjoin (α := Int → MP) (fun (s1_69 : Int) =>
        mobj 11 this <|
        MX11_throwsIf this s1_69 2 fun v70 =>
        mif (v70 = 0) (
          mgetA 11 this 1 fun v78 =>
          maldI 0 v78 2 fun v82 =>
          mjoin (α := Int → MP) (fun (s1_93 : Int) =>
            mobj 11 this <|
            MX11_throwsIf this s1_93 3 fun v94 =>
            mif (v94 = 0) (
              mgetA 11 this 1 fun v107 =>
              maldI 0 v107 2 fun v111 =>
              mgetA 11 this 1 fun v117 =>
              mastI v117 (w32 (413 + (w32 (3 * v111)))) p1 <|
              mgetA 11 this 1 fun v125 =>
              mastI v125 (w32 ((w32 (413 + (w32 (3 * v111)))) + 1)) p2 <|
              mgetA 11 this 1 fun v135 =>
              MX11_man p3 p4 fun v145 =>
              mastI v135 (w32 ((w32 (413 + (w32 (3 * v111)))) + 2)) v145 <|
              mgetA 11 this 1 fun v150 =>
              maldI 0 v150 2 fun v155 =>
              mastI v150 2 (w32 (v155 + 1)) <|
              mgetA 11 this 1 fun v160 =>
              maldI 0 v160 2 fun v164 =>
              Qj v164
            ) (
              Qj 0
            )
          ) fun k93 =>
          mif (v82 = 10) (
            k93 1
          ) (
            k93 0
          )
        ) (
          Qj 0
        )
      ) fun k69 =>
      mjoin (α := MP) (
        k69 1
      ) fun k64 =>
      mif (v43 = 0) (
        k64
      ) (
        mjoin (α := MP) (
          k69 0
        ) fun k68 =>
        mif (p3 = (-1)) (
          k68
        ) (
          MX11_in p4 0 1 fun v58 =>
          mif (v58 = 0) (
            k64
          ) (
            k68
          )
        )
      )
    ) (
      Qj 0
    )
  ) fun k31 =>
  mjoin (α := MP) (
    k31 1
  ) fun k26 =>
  mif (v7 = 0) (
    mjoin (α := MP) (
      k31 0
    ) fun k30 =>
    mif (p3 = (-1)) (
      k30
    ) (
      mobj 11 this <|
      MX11_noKind this p3 fun v20 =>
      mif (v20 = 0) (
        k30
      ) (
        k26
      )
    )
  ) (
    k26
  )
def MX1_allBooks (this : Nat) (Qj : Int → MP) : MP :=
  mgetA 1 this 1 fun v2 =>
  mgetI 7 v2 7 fun v5 =>
  Qj (w32 ((mshl 1 v5) - 1))
def GX10_begins_32 (this : Nat) (p2 : Int) (Qj : MP) (rec32 : Int → MP) (x3_32 : Int) : MP :=
  mif ((7 : Int) < x3_32) (
    Qj
  ) (
    mgetA 10 this 9 fun v39 =>
    mjoin (α := Int → MP) (fun (s2_60 : Int) =>
      mastI v39 x3_32 s2_60 <|
      rec32 (w32 (x3_32 + 1))
    ) fun k60 =>
    mif (p2 = 0) (
      mgetA 10 this 0 fun v52 =>
      mgetA 7 v52 4 fun v55 =>
      maldI 0 v55 x3_32 fun v59 =>
      k60 v59
    ) (
      k60 0
    )
  )
def MX10_begins (this : Nat) (p1 : Int) (p2 : Int) (Qj : MP) : MP :=
  mputI 10 this 12 p1 <|
  mputZ 10 this 27 p2 <|
  mputI 10 this 13 0 <|
  mputI 10 this 20 0 <|
  mputZ 10 this 26 0 <|
  mputZ 10 this 28 0 <|
  mex fun n32 => jit (GX10_begins_32 this p2 Qj) (fun _ => mbot) n32 0
def MX24_is (this : Nat) (p1 : Nat) (Qj : Int → MP) : MP :=
  mgetA 8 p1 0 fun v1 =>
  mgetI 24 this 1 fun v5 =>
  maldI 0 v1 v5 fun v8 =>
  mgetI 24 this 2 fun v10 =>
  mjoin (α := MP) (
    Qj 0
  ) fun k44 =>
  mif (v8 = v10) (
    mgetI 24 this 2 fun v17 =>
    mjoin (α := MP) (
      Qj 1
    ) fun k40 =>
    mif (v17 = (-1)) (
      k40
    ) (
      mgetA 8 p1 1 fun v25 =>
      mgetI 24 this 1 fun v29 =>
      maldI 0 v25 v29 fun v32 =>
      mgetI 24 this 3 fun v34 =>
      mif (v32 = v34) (
        k40
      ) (
        k44
      )
    )
  ) (
    k44
  )
def GX10_bars_4 (this : Nat) (p1 : Int) (Qj : Int → MP) (rec4 : Int → Int → MP) (x2_4 : Int) (x3_4 : Int) : MP :=
  mgetA 10 this 0 fun v6 =>
  mgetI 7 v6 8 fun v9 =>
  mif (v9 ≤ x3_4) (
    mand (x2_4 = 0 ∨ x2_4 = 1) (
      Qj x2_4
    )
  ) (
    mgetI 10 this 27 fun v16 =>
    mif (v16 = 0) (
      mjoin (α := Int → MP) (fun (s0_66 : Int) =>
        rec4 s0_66 (w32 (x3_4 + 1))
      ) fun k66 =>
      mjoin (α := MP) (
        k66 1
      ) fun k61 =>
      mif (x2_4 = 0) (
        mgetA 10 this 0 fun v27 =>
        mgetA 7 v27 3 fun v30 =>
        maldA 9 v30 x3_4 fun v34 =>
        mgetI 24 v34 0 fun v35 =>
        mjoin (α := MP) (
          k66 0
        ) fun k65 =>
        mif (v35 = p1) (
          mgetA 10 this 0 fun v43 =>
          mgetA 7 v43 3 fun v46 =>
          maldA 9 v46 x3_4 fun v50 =>
          mgetA 10 this 1 fun v52 =>
          mobj 24 v50 <|
          MX24_is v50 v52 fun v55 =>
          mif (v55 = 0) (
            k61
          ) (
            k65
          )
        ) (
          k65
        )
      ) (
        k61
      )
    ) (
      mand (x2_4 = 0 ∨ x2_4 = 1) (
        Qj x2_4
      )
    )
  )
def MX10_bars (this : Nat) (p1 : Int) (Qj : Int → MP) : MP :=
  mex fun n4 => jit (GX10_bars_4 this p1 Qj) (fun _ _ => mbot) n4 0 0
def MX10_isIn (this : Nat) (p1 : Int) (Qj : Int → MP) : MP :=
  mgetI 10 this 12 fun v1 =>
  mif ((mand32 (mshr v1 p1) 1) = 1) (
    Qj 1
  ) (
    Qj 0
  )
def GX10_isReading_79 (this : Nat) (p1 : Int) (k137 : Int → MP) (rec79 : Int → Int → MP) (x2_79 : Int) (x3_79 : Int) : MP :=
  mgetA 10 this 0 fun v81 =>
  mgetI 7 v81 7 fun v84 =>
  mif (v84 ≤ x3_79) (
    k137 x2_79
  ) (
    mobj 10 this <|
    MX10_isIn this x3_79 fun v92 =>
    mjoin (α := Int → MP) (fun (s0_130 : Int) =>
      rec79 s0_130 (w32 (x3_79 + 1))
    ) fun k130 =>
    mif (v92 = 0) (
      k130 x2_79
    ) (
      mgetA 10 this 4 fun v102 =>
      maldA 12 v102 x3_79 fun v106 =>
      maldA 11 v106 p1 fun v108 =>
      mgetA 10 this 0 fun v110 =>
      mgetA 7 v110 2 fun v113 =>
      maldA 8 v113 x3_79 fun v117 =>
      mgetI 9 v117 2 fun v118 =>
      maldI 0 v108 v118 fun v121 =>
      k130 (min 1000000 (w32 (x2_79 + v121)))
    )
  )
def GX10_isReading_33 (this : Nat) (p1 : Int) (Qj : Int → MP) (k75 : MP) (rec33 : Int → MP) (x2_33 : Int) : MP :=
  mgetA 10 this 0 fun v35 =>
  mgetI 7 v35 8 fun v38 =>
  mif (v38 ≤ x2_33) (
    k75
  ) (
    mgetI 10 this 27 fun v45 =>
    mif (v45 = 0) (
      mgetA 10 this 0 fun v52 =>
      mgetA 7 v52 3 fun v55 =>
      maldA 9 v55 x2_33 fun v59 =>
      mgetI 24 v59 0 fun v60 =>
      mif (v60 ≤ p1) (
        rec33 (w32 (x2_33 + 1))
      ) (
        Qj 0
      )
    ) (
      k75
    )
  )
def MX10_isReading (this : Nat) (p1 : Int) (Qj : Int → MP) : MP :=
  mgetI 10 this 27 fun v1 =>
  mjoin (α := MP) (
    mex fun n33 => jit (GX10_isReading_33 this p1 Qj (mex fun n79 => jit (GX10_isReading_79 this p1 (fun (y2_137 : Int) => mgetI 10 this 22 fun v139 => mif (y2_137 = v139) (   Qj 1 ) (   Qj 0 ))) (fun _ _ => mbot) n79 0 0)) (fun _ => mbot) n33 0
  ) fun k31 =>
  mif (v1 = 0) (
    mgetA 10 this 0 fun v8 =>
    mgetI 7 v8 9 fun v11 =>
    mif (v11 = (-1)) (
      k31
    ) (
      mgetA 10 this 0 fun v19 =>
      mgetI 7 v19 9 fun v22 =>
      mif (v22 = p1) (
        k31
      ) (
        Qj 0
      )
    )
  ) (
    k31
  )
def GX8_men_4 (this : Nat) (p1 : Int) (Qj : Int → MP) (rec4 : Int → Int → MP) (x2_4 : Int) (x3_4 : Int) : MP :=
  mif ((36 : Int) ≤ x3_4) (
    Qj x2_4
  ) (
    mgetA 8 this 0 fun v12 =>
    maldI 0 v12 x3_4 fun v16 =>
    mjoin (α := Int → MP) (fun (s1_36 : Int) =>
      rec4 (w32 (x2_4 + s1_36)) (w32 (x3_4 + 1))
    ) fun k36 =>
    mjoin (α := MP) (
      k36 0
    ) fun k35 =>
    mif (v16 = (-1)) (
      k35
    ) (
      mgetA 8 this 1 fun v22 =>
      maldI 0 v22 x3_4 fun v26 =>
      mif (v26 = p1) (
        k36 1
      ) (
        k35
      )
    )
  )
def MX8_men (this : Nat) (p1 : Int) (Qj : Int → MP) : MP :=
  mex fun n4 => jit (GX8_men_4 this p1 Qj) (fun _ _ => mbot) n4 0 0
def GX10_isTaken_23 (this : Nat) (p1 : Int) (Qj : Int → MP) (v13 : Int) (rec23 : Int → Int → MP) (x4_23 : Int) (x5_23 : Int) : MP :=
  mif (v13 ≤ x5_23) (
    mand (x4_23 = 0 ∨ x4_23 = 1) (
      Qj x4_23
    )
  ) (
    mjoin (α := Int → MP) (fun (s0_56 : Int) =>
      rec23 s0_56 (w32 (x5_23 + 1))
    ) fun k56 =>
    mjoin (α := MP) (
      k56 1
    ) fun k51 =>
    mif (x4_23 = 0) (
      mgetA 10 this 3 fun v35 =>
      maldA 11 v35 30 fun v40 =>
      maldI 0 v40 x5_23 fun v43 =>
      mif ((Int.tmod v43 36) = p1) (
        k51
      ) (
        k56 0
      )
    ) (
      k51
    )
  )
def MX10_isTaken (this : Nat) (p1 : Int) (p2 : Int) (Qj : Int → MP) : MP :=
  mgetA 10 this 11 fun v2 =>
  mgetA 10 this 3 fun v7 =>
  maldA 11 v7 30 fun v12 =>
  mobj 10 this <|
  MX10_gathers this v2 p2 v12 fun v13 =>
  mex fun n23 => jit (GX10_isTaken_23 this p1 Qj v13) (fun _ _ => mbot) n23 0 0
def MX18_holds (this : Nat) (p1 : Nat) (Qj : Int → MP) : MP :=
  mgetI 18 this 0 fun v2 =>
  maldI 0 p1 v2 fun v5 =>
  mif (v5 = 0) (
    Qj 0
  ) (
    Qj 1
  )
def GX19_of_7 (this : Nat) (p1 : Nat) (Qj : Int → MP) (rec7 : Int → Int → MP) (x2_7 : Int) (x3_7 : Int) : MP :=
  mif ((4 : Int) ≤ x3_7) (
    Qj x2_7
  ) (
    mgetA 19 this 0 fun v14 =>
    maldI 0 v14 x3_7 fun v18 =>
    maldI 0 p1 x3_7 fun v21 =>
    rec7 (w32 (x2_7 + (w32 (v18 * v21)))) (w32 (x3_7 + 1))
  )
def MX19_of (this : Nat) (p1 : Nat) (Qj : Int → MP) : MP :=
  mgetI 19 this 1 fun v1 =>
  mex fun n7 => jit (GX19_of_7 this p1 Qj) (fun _ _ => mbot) n7 v1 0
def MX20_holds (this : Nat) (p1 : Nat) (Qj : Int → MP) : MP :=
  mgetA 20 this 0 fun v1 =>
  mobj 19 v1 <|
  MX19_of v1 p1 fun v5 =>
  mgetA 20 this 1 fun v9 =>
  mobj 19 v9 <|
  MX19_of v9 p1 fun v13 =>
  mif (v13 ≤ v5) (
    Qj 0
  ) (
    Qj 1
  )
def GX17_holds_2 (rJX17_holds : Nat → Nat → (Int → MP) → MP) (rJX21_holds : Nat → Nat → (Int → MP) → MP) (this : Nat) (p1 : Nat) (k44 : MP) (k23 : MP) (rec2 : Option Nat → MP) (x2_2 : Option Nat) : MP :=
  mnull x2_2 (
    k44
  ) (
    msome x2_2 fun u7 =>
    mgetA 17 u7 0 fun v7 =>
    mjoin (α := Int → MP) (fun (v11 : Int) =>
      mgetI 17 this 1 fun v17 =>
      mif (v11 = v17) (
        mgetO 17 u7 2 fun v37 =>
        rec2 v37
      ) (
        k23
      )
    ) fun kd11 =>
    mdisp v7 [(17, rJX17_holds v7 p1 kd11), (18, MX18_holds v7 p1 kd11), (20, MX20_holds v7 p1 kd11), (21, rJX21_holds v7 p1 kd11)]
  )
def MX17_holdsF (rJX17_holds : Nat → Nat → (Int → MP) → MP) (rJX21_holds : Nat → Nat → (Int → MP) → MP) (this : Nat) (p1 : Nat) (Qj : Int → MP) : MP :=
  mex fun n2 => jit (GX17_holds_2 rJX17_holds rJX21_holds this p1 (mgetI 17 this 1 fun v45 => mand (v45 = 0 ∨ v45 = 1) (   Qj v45 )) (mgetI 17 this 1 fun v24 => mif (v24 = 0) (   Qj 1 ) (   Qj 0 ))) (fun _ => mbot) n2 (some this)
def MX21_holdsF (rJX17_holds : Nat → Nat → (Int → MP) → MP) (rJX21_holds : Nat → Nat → (Int → MP) → MP) (this : Nat) (p1 : Nat) (Qj : Int → MP) : MP :=
  mgetA 21 this 0 fun v1 =>
  mjoin (α := Int → MP) (fun (v5 : Int) =>
    mif (v5 = 0) (
      Qj 1
    ) (
      Qj 0
    )
  ) fun kd5 =>
  mdisp v1 [(17, rJX17_holds v1 p1 kd5), (18, MX18_holds v1 p1 kd5), (20, MX20_holds v1 p1 kd5), (21, rJX21_holds v1 p1 kd5)]
def MX17_holdsR : Nat → (Nat → Nat → (Int → MP) → MP) × (Nat → Nat → (Int → MP) → MP)
  | 0 => ((fun _ _ _ => mbot), (fun _ _ _ => mbot))
  | n + 1 => (MX17_holdsF (MX17_holdsR n).1 (MX17_holdsR n).2, MX21_holdsF (MX17_holdsR n).1 (MX17_holdsR n).2)
def MX17_holds (n : Nat) : Nat → Nat → (Int → MP) → MP := (MX17_holdsR n).1
def MX21_holds (n : Nat) : Nat → Nat → (Int → MP) → MP := (MX17_holdsR n).2
def MX16_tells (this : Nat) (p1 : Nat) (Qj : Int → MP) : MP :=
  mgetO 16 this 2 fun v1 =>
  mjoin (α := MP) (
    mgetI 16 this 1 fun v25 =>
    mif (v25 = (-1)) (
      mgetI 16 this 0 fun v33 =>
      Qj v33
    ) (
      mgetI 16 this 0 fun v40 =>
      mgetI 16 this 1 fun v45 =>
      maldI 0 p1 v45 fun v48 =>
      Qj (w32 (v40 * v48))
    )
  ) fun k24 =>
  mnull v1 (
    k24
  ) (
    mgetO 16 this 2 fun v8 =>
    msome v8 fun u12 =>
    mjoin (α := Int → MP) (fun (v12 : Int) =>
      mif (v12 = 0) (
        Qj 0
      ) (
        k24
      )
    ) fun kd12 =>
    mdisp u12 [(17, MX17_holds 40 u12 p1 kd12), (18, MX18_holds u12 p1 kd12), (20, MX20_holds u12 p1 kd12), (21, MX21_holds 40 u12 p1 kd12)]
  )
def GX22_tells_4 (this : Nat) (p1 : Nat) (Qj : Int → MP) (rec4 : Int → Int → MP) (x2_4 : Int) (x3_4 : Int) : MP :=
  mgetA 22 this 0 fun v6 =>
  malen v6 fun v9 =>
  mif (v9 ≤ x3_4) (
    Qj x2_4
  ) (
    mgetA 22 this 0 fun v15 =>
    maldA 6 v15 x3_4 fun v19 =>
    mobj 16 v19 <|
    MX16_tells v19 p1 fun v21 =>
    rec4 (w32 (x2_4 + v21)) (w32 (x3_4 + 1))
  )
def MX22_tells (this : Nat) (p1 : Nat) (Qj : Int → MP) : MP :=
  mex fun n4 => jit (GX22_tells_4 this p1 Qj) (fun _ _ => mbot) n4 0 0
def GX10_played_30 (this : Nat) (p1 : Int) (Qj : Int → MP) (rec30 : Int → Int → MP) (x2_30 : Int) (x3_30 : Int) : MP :=
  mif (p1 ≤ x3_30) (
    Qj x2_30
  ) (
    mgetA 10 this 5 fun v41 =>
    maldI 0 v41 x3_30 fun v45 =>
    mgetA 10 this 0 fun v49 =>
    mgetA 7 v49 0 fun v52 =>
    mgetA 10 this 11 fun v56 =>
    mgetA 8 v56 0 fun v59 =>
    maldI 0 v59 (w32 (Int.tdiv v45 36)) fun v67 =>
    maldA 7 v52 v67 fun v68 =>
    mgetI 12 v68 0 fun v69 =>
    mgetA 10 this 11 fun v75 =>
    mobj 8 v75 <|
    MX8_goes v75 v45 fun v80 =>
    mgetA 10 this 10 fun v86 =>
    mjoin (α := Int → MP) (fun (s2_113 : Int) =>
      mastI v86 0 s2_113 <|
      mgetA 10 this 10 fun v115 =>
      mastI v115 1 v69 <|
      mgetA 10 this 10 fun v123 =>
      mastI v123 2 (w32 (x3_30 + 1)) <|
      mgetA 10 this 10 fun v132 =>
      mgetA 10 this 11 fun v137 =>
      mobj 8 v137 <|
      MX8_men v137 (Int.tmod x3_30 2) fun v142 =>
      mastI v132 3 v142 <|
      mgetA 10 this 10 fun v147 =>
      mjoin (α := Int → MP) (fun (s2_162 : Int) =>
        mastI v147 4 s2_162 <|
        mgetA 10 this 10 fun v164 =>
        mobj 10 this <|
        MX10_isTaken this (Int.tmod v45 36) (w32 (1 - (Int.tmod x3_30 2))) fun v178 =>
        mjoin (α := Int → MP) (fun (s2_189 : Int) =>
          mastI v164 5 s2_189 <|
          mgetA 10 this 0 fun v192 =>
          mgetO 7 v192 5 fun v195 =>
          mgetA 10 this 10 fun v199 =>
          msome v195 fun u202 =>
          mobj 22 u202 <|
          MX22_tells u202 v199 fun v202 =>
          rec30 (w32 (x2_30 + v202)) (w32 (x3_30 + 1))
        ) fun k189 =>
        mif (v178 = 0) (
          k189 1
        ) (
          k189 0
        )
      ) fun k162 =>
      mif (v80 = (-1)) (
        k162 0
      ) (
        k162 1
      )
    ) fun k113 =>
    mif (v80 = (-1)) (
      k113 0
    ) (
      mgetA 10 this 0 fun v101 =>
      mgetA 7 v101 0 fun v104 =>
      maldA 7 v104 v80 fun v109 =>
      mgetI 12 v109 0 fun v110 =>
      k113 v110
    )
  )
def MX10_played (this : Nat) (p1 : Int) (Qj : Int → MP) : MP :=
  mgetA 10 this 0 fun v1 =>
  mgetO 7 v1 5 fun v4 =>
  mnull v4 (
    Qj 0
  ) (
    mgetA 10 this 11 fun v13 =>
    mgetA 10 this 0 fun v17 =>
    mgetA 7 v17 1 fun v20 =>
    mobj 8 v13 <|
    MX8_be v13 v20 <|
    mex fun n30 => jit (GX10_played_30 this p1 Qj) (fun _ _ => mbot) n30 0 0
  )
def MX10_found (this : Nat) (p1 : Int) (Qj : MP) : MP :=
  mgetI 10 this 28 fun v1 =>
  mif (v1 = 0) (
    mgetI 10 this 15 fun v68 =>
    mjoin (α := MP) (
      mgetI 10 this 15 fun v94 =>
      mjoin (α := MP) (
        mgetI 10 this 29 fun v121 =>
        mjoin (α := MP) (
          mgetI 10 this 15 fun v184 =>
          mputI 10 this 15 (w32 (v184 + 1)) <|
          Qj
        ) fun k182 =>
        mif (v121 = 0) (
          k182
        ) (
          mgetI 10 this 15 fun v128 =>
          mif ((200 : Int) ≤ v128) (
            k182
          ) (
            mobj 10 this <|
            MX10_played this p1 fun v139 =>
            mgetI 10 this 15 fun v144 =>
            mjoin (α := MP) (
              mputI 10 this 19 v139 <|
              mputI 10 this 18 p1 <|
              mgetA 10 this 5 fun v169 =>
              mgetA 10 this 8 fun v174 =>
              mcpyI v169 0 v174 0 p1 <|
              k182
            ) fun k158 =>
            mif (v144 = 0) (
              k158
            ) (
              mgetI 10 this 19 fun v152 =>
              mif (v152 ≤ v139) (
                k182
              ) (
                k158
              )
            )
          )
        )
      ) fun k120 =>
      mif (v94 = 1) (
        mgetA 10 this 5 fun v102 =>
        mgetA 10 this 7 fun v107 =>
        mcpyI v102 0 v107 0 p1 <|
        mputI 10 this 17 p1 <|
        k120
      ) (
        k120
      )
    ) fun k93 =>
    mif (v68 = 0) (
      mgetA 10 this 5 fun v75 =>
      mgetA 10 this 6 fun v80 =>
      mcpyI v75 0 v80 0 p1 <|
      mputI 10 this 16 p1 <|
      k93
    ) (
      k93
    )
  ) (
    mgetL 10 this 24 fun v9 =>
    mgetL 10 this 25 fun v13 =>
    mputI 10 this 24 (w64 (v9 + v13)) <|
    mgetL 10 this 23 fun v22 =>
    mgetI 10 this 21 fun v27 =>
    mjoin (α := Int → MP) (fun (s2_62 : Int) =>
      mputI 10 this 23 (w64 (v22 + s2_62)) <|
      Qj
    ) fun k62 =>
    mjoin (α := MP) (
      k62 0
    ) fun k61 =>
    mif (p1 ≤ v27) (
      k61
    ) (
      mgetA 10 this 5 fun v34 =>
      mgetI 10 this 21 fun v38 =>
      maldI 0 v34 v38 fun v41 =>
      mgetA 10 this 6 fun v43 =>
      mgetI 10 this 21 fun v47 =>
      maldI 0 v43 v47 fun v50 =>
      mif (v41 = v50) (
        mgetL 10 this 25 fun v55 =>
        k62 v55
      ) (
        k61
      )
    )
  )
def MX23_slip (this : Nat) (p1 : Int) (p2 : Int) (p3 : Int) (p4 : Int) (p5 : Nat) (Qj : Int → MP) : MP :=
  mjoin (α := Int → MP) (fun (s0_49 : Int) =>
    mgetI 23 this 0 fun v52 =>
    mjoin (α := Int → MP) (fun (s0_64 : Int) =>
      mgetI 23 this 2 fun v65 =>
      mjoin (α := Int → MP) (fun (s1_78 : Int) =>
        mgetI 23 this 3 fun v80 =>
        mjoin (α := Int → MP) (fun (s1_94 : Int) =>
          mgetI 23 this 1 fun v96 =>
          mjoin (α := Int → MP) (fun (s1_118 : Int) =>
            mif ((mor32 (mor32 (mor32 s0_64 s1_78) s1_94) s1_118) = 0) (
              Qj 0
            ) (
              MJ13_bitCount (mor32 (mor32 (mor32 s0_64 s1_78) s1_94) s1_118) fun v130 =>
              mif (v130 ≤ 1) (
                MJ13_numberOfTrailingZeros (mor32 (mor32 (mor32 s0_64 s1_78) s1_94) s1_118) fun v141 =>
                mif (v141 = 2) (
                  mgetI 23 this 2 fun v153 =>
                  mjoin (α := MP) (
                    Qj (-1)
                  ) fun k177 =>
                  mif ((mabs (w32 (v153 - (Int.tmod (Int.tmod p4 36) 6)))) = 1) (
                    maldI 0 p5 2 fun v169 =>
                    mif (v169 ≤ 0) (
                      k177
                    ) (
                      Qj 2
                    )
                  ) (
                    k177
                  )
                ) (
                  mif (v141 = 3) (
                    mgetI 23 this 3 fun v201 =>
                    mjoin (α := Int → MP) (fun (s0_226 : Int) =>
                      mgetI 23 this 3 fun v230 =>
                      mjoin (α := Int → MP) (fun (s0_251 : Int) =>
                        mjoin (α := MP) (
                          mif (s0_226 = 0) (
                            mif (s0_251 = 0) (
                              Qj (-1)
                            ) (
                              Qj 4
                            )
                          ) (
                            Qj 3
                          )
                        ) fun k282 =>
                        mif (s0_226 = 0) (
                          k282
                        ) (
                          mif (s0_251 = 0) (
                            k282
                          ) (
                            maldI 0 p5 4 fun v266 =>
                            maldI 0 p5 3 fun v270 =>
                            mif (v270 ≤ v266) (
                              Qj 3
                            ) (
                              Qj 4
                            )
                          )
                        )
                      ) fun k251 =>
                      mjoin (α := MP) (
                        k251 0
                      ) fun k250 =>
                      mif ((w32 (5 - v230)) = s0_49) (
                        maldI 0 p5 4 fun v242 =>
                        mif (v242 ≤ 0) (
                          k250
                        ) (
                          k251 1
                        )
                      ) (
                        k250
                      )
                    ) fun k226 =>
                    mjoin (α := MP) (
                      k226 0
                    ) fun k225 =>
                    mif ((mabs (w32 (v201 - s0_49))) = 1) (
                      maldI 0 p5 3 fun v217 =>
                      mif (v217 ≤ 0) (
                        k225
                      ) (
                        k226 1
                      )
                    ) (
                      k225
                    )
                  ) (
                    maldI 0 p5 v141 fun v189 =>
                    mif (v189 ≤ 0) (
                      Qj (-1)
                    ) (
                      Qj v141
                    )
                  )
                )
              ) (
                Qj (-1)
              )
            )
          ) fun k118 =>
          mjoin (α := MP) (
            k118 0
          ) fun k112 =>
          mif (v96 = (-1)) (
            k112
          ) (
            mgetI 23 this 1 fun v104 =>
            mif (v104 = (Int.tmod (w32 (Int.tdiv p4 36)) 6)) (
              k112
            ) (
              k118 32
            )
          )
        ) fun k94 =>
        mif (v80 = s0_49) (
          k94 0
        ) (
          k94 8
        )
      ) fun k78 =>
      mif (v65 = (Int.tmod (Int.tmod p4 36) 6)) (
        k78 0
      ) (
        k78 4
      )
    ) fun k64 =>
    mif (v52 = p2) (
      k64 0
    ) (
      k64 2
    )
  ) fun k49 =>
  mjoin (α := MP) (
    k49 (w32 (Int.tdiv (Int.tmod p4 36) 6))
  ) fun k47 =>
  mif (p1 = 1) (
    mif (p3 = 1) (
      k49 (w32 (5 - (w32 (Int.tdiv (Int.tmod p4 36) 6))))
    ) (
      k47
    )
  ) (
    k47
  )
def MX10_cost (this : Nat) (p1 : Nat) (p2 : Int) (p3 : Int) (p4 : Int) (p5 : Int) (Qj : Int → MP) : MP :=
  mgetA 9 p1 0 fun v1 =>
  maldA 10 v1 p2 fun v5 =>
  mgetI 9 p1 1 fun v7 =>
  mgetA 10 this 9 fun v16 =>
  mobj 23 v5 <|
  MX23_slip v5 v7 p3 p4 p5 v16 fun v19 =>
  mif (v19 = (-1)) (
    Qj 1000000
  ) (
    mif (v19 = 0) (
      Qj 0
    ) (
      mgetA 10 this 9 fun v45 =>
      maldI 0 v45 v19 fun v50 =>
      Qj v50
    )
  )
def MX9_isTwice (this : Nat) (p1 : Int) (Qj : Int → MP) : MP :=
  mjoin (α := MP) (
    Qj 0
  ) fun k28 =>
  mif (p1 ≤ 0) (
    k28
  ) (
    mgetA 9 this 0 fun v5 =>
    maldA 10 v5 p1 fun v9 =>
    mgetA 9 this 0 fun v11 =>
    maldA 10 v11 (w32 (p1 - 1)) fun v17 =>
    mobj 23 v9 <|
    MX23_isLike v9 v17 fun v18 =>
    mif (v18 = 0) (
      k28
    ) (
      Qj 1
    )
  )
def GX10_leads_7 (this : Nat) (p1 : Nat) (p2 : Nat) (p3 : Nat) (p4 : Int) (p5 : Int) (p6 : Int) (Qj : Int → MP) (rec7 : Int → Int → MP) (x7_7 : Int) (x8_7 : Int) : MP :=
  mgetI 9 p1 2 fun v10 =>
  mif (v10 < x8_7) (
    Qj x7_7
  ) (
    mgetA 10 this 9 fun v17 =>
    maldI 0 v17 6 fun v22 =>
    mjoin (α := Int → MP) (fun (s0_43 : Int) =>
      mjoin (α := Int → MP) (fun (x9_90 : Int) =>
        mjoin (α := Int → MP) (fun (x9_137 : Int) =>
          mastI p3 x8_7 (min x9_137 1000000) <|
          maldI 0 p3 x8_7 fun v153 =>
          rec7 (min x7_7 v153) (w32 (x8_7 + 1))
        ) fun k137 =>
        mif (x8_7 ≤ 0) (
          k137 x9_90
        ) (
          mgetA 10 this 9 fun v96 =>
          maldI 0 v96 7 fun v101 =>
          mif (v101 ≤ 0) (
            k137 x9_90
          ) (
            mobj 9 p1 <|
            MX9_isTwice p1 (w32 (x8_7 - 1)) fun v110 =>
            mif (v110 = 0) (
              k137 x9_90
            ) (
              maldI 0 p3 (w32 (x8_7 - 1)) fun v123 =>
              mgetA 10 this 9 fun v125 =>
              maldI 0 v125 7 fun v130 =>
              k137 (min x9_90 (w32 (v123 + v130)))
            )
          )
        )
      ) fun k90 =>
      mif (x8_7 ≤ 0) (
        k90 s0_43
      ) (
        maldI 0 p2 (w32 (x8_7 - 1)) fun v55 =>
        mif ((1000000 : Int) ≤ v55) (
          k90 s0_43
        ) (
          maldI 0 p2 (w32 (x8_7 - 1)) fun v68 =>
          mobj 10 this <|
          MX10_cost this p1 (w32 (x8_7 - 1)) p4 p5 p6 fun v81 =>
          k90 (min s0_43 (w32 (v68 + v81)))
        )
      )
    ) fun k43 =>
    mif (v22 ≤ 0) (
      k43 1000000
    ) (
      maldI 0 p2 x8_7 fun v29 =>
      mgetA 10 this 9 fun v31 =>
      maldI 0 v31 6 fun v36 =>
      k43 (w32 (v29 + v36))
    )
  )
def MX10_leads (this : Nat) (p1 : Nat) (p2 : Nat) (p3 : Nat) (p4 : Int) (p5 : Int) (p6 : Int) (Qj : Int → MP) : MP :=
  mex fun n7 => jit (GX10_leads_7 this p1 p2 p3 p4 p5 p6 Qj) (fun _ _ => mbot) n7 1000000 0
def MX8_comes (this : Nat) (p1 : Int) (p2 : Int) (Qj : MP) : MP :=
  mgetA 8 this 0 fun v12 =>
  mgetA 8 this 0 fun v17 =>
  maldI 0 v17 (Int.tmod p1 36) fun v22 =>
  mastI v12 (w32 (Int.tdiv p1 36)) v22 <|
  mgetA 8 this 1 fun v25 =>
  mgetA 8 this 1 fun v30 =>
  maldI 0 v30 (Int.tmod p1 36) fun v35 =>
  mastI v25 (w32 (Int.tdiv p1 36)) v35 <|
  mgetA 8 this 0 fun v38 =>
  mastI v38 (Int.tmod p1 36) p2 <|
  mgetA 8 this 1 fun v46 =>
  mgetA 8 this 1 fun v53 =>
  maldI 0 v53 (w32 (Int.tdiv p1 36)) fun v57 =>
  mastI v46 (Int.tmod p1 36) (w32 (1 - v57)) <|
  Qj
def GX10_goes_162 (this : Nat) (p1 : Int) (v138 : Int) (v153 : Int) (k243 : Int → MP) (rec162 : Int → Int → MP) (x8_162 : Int) (x9_162 : Int) : MP :=
  mgetA 10 this 0 fun v165 =>
  mgetI 7 v165 7 fun v168 =>
  mif (v168 ≤ x9_162) (
    k243 x8_162
  ) (
    mobj 10 this <|
    MX10_isIn this x9_162 fun v177 =>
    mjoin (α := Int → MP) (fun (s0_235 : Int) =>
      rec162 s0_235 (w32 (x9_162 + 1))
    ) fun k235 =>
    mif (v177 = 0) (
      k235 x8_162
    ) (
      mgetA 10 this 0 fun v189 =>
      mgetA 7 v189 2 fun v192 =>
      maldA 8 v192 x9_162 fun v197 =>
      mgetA 10 this 4 fun v199 =>
      maldA 12 v199 x9_162 fun v204 =>
      maldA 11 v204 p1 fun v206 =>
      mgetA 10 this 4 fun v208 =>
      maldA 12 v208 x9_162 fun v213 =>
      maldA 11 v213 (w32 (p1 + 1)) fun v217 =>
      mobj 10 this <|
      MX10_leads this v197 v206 v217 v153 (Int.tmod p1 2) v138 fun v223 =>
      k235 (min 1000000 (w32 (x8_162 + v223)))
    )
  )
def GX10_goes_121 (rJX10_goes : Nat → Int → MP → MP) (this : Nat) (p1 : Int) (Qj : MP) (v104 : Nat) (v113 : Int) (rec121 : Int → MP) (x5_121 : Int) : MP :=
  mif (v113 ≤ x5_121) (
    Qj
  ) (
    mgetI 10 this 26 fun v129 =>
    mif (v129 = 0) (
      maldI 0 v104 x5_121 fun v138 =>
      mgetA 10 this 1 fun v142 =>
      mgetA 8 v142 0 fun v145 =>
      maldI 0 v145 (w32 (Int.tdiv v138 36)) fun v153 =>
      mex fun n162 => jit (GX10_goes_162 this p1 v138 v153 (fun (y8_243 : Int) => mgetI 10 this 22 fun v246 => mjoin (α := MP) (   rec121 (w32 (x5_121 + 1)) ) fun k292 => mif (y8_243 ≤ v246) (   mgetA 10 this 1 fun v256 =>   mobj 8 v256 <|   MX8_goes v256 v138 fun v261 =>   mgetA 10 this 5 fun v267 =>   mastI v267 p1 v138 <|   mobj 10 this <|   rJX10_goes this (w32 (p1 + 1)) <|   mgetA 10 this 1 fun v282 =>   mobj 8 v282 <|   MX8_comes v282 v138 v261 k292 ) (   k292 ))) (fun _ _ => mbot) n162 0 0
    ) (
      Qj
    )
  )
def MX10_goesF (rJX10_goes : Nat → Int → MP → MP) (this : Nat) (p1 : Int) (Qj : MP) : MP :=
  mgetI 10 this 13 fun v2 =>
  mputI 10 this 13 (w32 (v2 + 1)) <|
  mgetI 10 this 13 fun v12 =>
  mjoin (α := Int → MP) (fun (s1_26 : Int) =>
    mputZ 10 this 26 s1_26 <|
    mgetI 10 this 26 fun v30 =>
    mif (v30 = 0) (
      mobj 10 this <|
      MX10_bars this p1 fun v38 =>
      mif (v38 = 0) (
        mgetI 10 this 20 fun v47 =>
        mputI 10 this 20 (max v47 p1) <|
        mobj 10 this <|
        MX10_isReading this p1 fun v59 =>
        mjoin (α := MP) (
          mif (p1 = 30) (
            Qj
          ) (
            mgetI 10 this 27 fun v77 =>
            mjoin (α := MP) (
              mgetA 10 this 3 fun v100 =>
              maldA 11 v100 p1 fun v104 =>
              mgetA 10 this 1 fun v108 =>
              mobj 10 this <|
              MX10_gathers this v108 (Int.tmod p1 2) v104 fun v113 =>
              mex fun n121 => jit (GX10_goes_121 rJX10_goes this p1 Qj v104 v113) (fun _ => mbot) n121 0
            ) fun k95 =>
            mif (v77 = 0) (
              mgetA 10 this 0 fun v85 =>
              mgetI 7 v85 9 fun v88 =>
              mif (p1 = v88) (
                Qj
              ) (
                k95
              )
            ) (
              k95
            )
          )
        ) fun k70 =>
        mif (v59 = 0) (
          k70
        ) (
          mobj 10 this <|
          MX10_found this p1 k70
        )
      ) (
        Qj
      )
    ) (
      Qj
    )
  ) fun k26 =>
  mif (v12 ≤ 8000) (
    k26 0
  ) (
    k26 1
  )
def MX10_goesR : Nat → (Nat → Int → MP → MP)
  | 0 => (fun _ _ _ => mbot)
  | n + 1 => MX10_goesF (MX10_goesR n)
def MX10_goes (n : Nat) : Nat → Int → MP → MP := (MX10_goesR n)
def GX10_walks_34 (this : Nat) (x2_21 : Int) (k66 : MP) (rec34 : Int → MP) (x3_34 : Int) : MP :=
  mif ((24 : Int) < x3_34) (
    k66
  ) (
    mgetA 10 this 4 fun v41 =>
    maldA 12 v41 x2_21 fun v45 =>
    maldA 11 v45 0 fun v47 =>
    mjoin (α := Int → MP) (fun (s2_59 : Int) =>
      mastI v47 x3_34 s2_59 <|
      rec34 (w32 (x3_34 + 1))
    ) fun k59 =>
    mif (x3_34 = 0) (
      k59 0
    ) (
      k59 1000000
    )
  )
def GX10_walks_21 (this : Nat) (k72 : MP) (rec21 : Int → MP) (x2_21 : Int) : MP :=
  mgetA 10 this 0 fun v23 =>
  mgetI 7 v23 7 fun v26 =>
  mif (v26 ≤ x2_21) (
    k72
  ) (
    mex fun n34 => jit (GX10_walks_34 this x2_21 (rec21 (w32 (x2_21 + 1)))) (fun _ => mbot) n34 0
  )
def MX10_walks (this : Nat) (p1 : Int) (Qj : MP) : MP :=
  mputI 10 this 22 p1 <|
  mgetA 10 this 1 fun v6 =>
  mgetA 10 this 0 fun v10 =>
  mgetA 7 v10 1 fun v13 =>
  mobj 8 v6 <|
  MX8_be v6 v13 <|
  mex fun n21 => jit (GX10_walks_21 this (mobj 10 this <| MX10_goes 40 this 0 Qj)) (fun _ => mbot) n21 0
def GX10_least_13 (this : Nat) (k49 : MP) (rec13 : Int → MP) (x2_13 : Int) : MP :=
  mif ((20 : Int) < x2_13) (
    k49
  ) (
    mgetI 10 this 15 fun v20 =>
    mif (v20 = 0) (
      mgetI 10 this 26 fun v27 =>
      mif (v27 = 0) (
        mobj 10 this <|
        MX10_walks this x2_13 <|
        mputI 10 this 14 x2_13 <|
        rec13 (w32 (x2_13 + 1))
      ) (
        k49
      )
    ) (
      k49
    )
  )
def MX10_least (this : Nat) (p1 : Int) (Qj : Int → MP) : MP :=
  mobj 10 this <|
  MX10_begins this p1 0 <|
  mputI 10 this 15 0 <|
  mex fun n13 => jit (GX10_least_13 this (mgetI 10 this 26 fun v50 => mif (v50 = 0) (   mgetI 10 this 15 fun v62 =>   mif (v62 = 0) (     Qj (-1)   ) (     mgetI 10 this 14 fun v73 =>     Qj v73   ) ) (   Qj (-2) ))) (fun _ => mbot) n13 0
def GX1_lays_179 (this : Nat) (p1 : Int) (Qj : MP) (v8 : Nat) (rec179 : Int → Int → MP) (x3_179 : Int) (x4_179 : Int) : MP :=
  mjoin (α := MP) (
    mjoin (α := Int → MP) (fun (s0_248 : Int) =>
      mjoin (α := Int → Int → MP) (fun (x3_421 : Int) (x4_421 : Int) =>
        rec179 x3_421 x4_421
      ) fun k421 =>
      mjoin (α := MP) (
        mjoin (α := MP) (
          mgetA 1 this 5 fun v411 =>
          maldA 11 v411 p1 fun v415 =>
          mastI v415 (w32 (x4_179 + (-1))) 7 <|
          k421 x3_179 (w32 (x4_179 + (-1)))
        ) fun k407 =>
        mif (x3_179 ≤ 0) (
          k407
        ) (
          mgetA 1 this 1 fun v336 =>
          mgetA 7 v336 4 fun v339 =>
          maldI 0 v339 6 fun v344 =>
          mif (v344 ≤ 0) (
            k407
          ) (
            mgetA 1 this 7 fun v349 =>
            maldA 11 v349 x3_179 fun v353 =>
            maldI 0 v353 x4_179 fun v356 =>
            mgetA 1 this 7 fun v358 =>
            maldA 11 v358 (w32 (x3_179 - 1)) fun v364 =>
            maldI 0 v364 x4_179 fun v367 =>
            mgetA 1 this 1 fun v369 =>
            mgetA 7 v369 4 fun v372 =>
            maldI 0 v372 6 fun v377 =>
            mif (v356 = (w32 (v367 + v377))) (
              mgetA 1 this 6 fun v386 =>
              maldA 11 v386 p1 fun v390 =>
              mastI v390 (w32 (x3_179 + (-1))) (-1) <|
              mgetA 1 this 9 fun v395 =>
              maldI 0 v395 p1 fun v400 =>
              mastI v395 p1 (w32 (v400 + 1)) <|
              k421 (w32 (x3_179 + (-1))) x4_179
            ) (
              k407
            )
          )
        )
      ) fun k331 =>
      mif (s0_248 = (-1)) (
        k331
      ) (
        mgetA 1 this 7 fun v257 =>
        maldA 11 v257 x3_179 fun v261 =>
        maldI 0 v261 x4_179 fun v264 =>
        mgetA 1 this 7 fun v266 =>
        maldA 11 v266 (w32 (x3_179 - 1)) fun v272 =>
        maldI 0 v272 (w32 (x4_179 - 1)) fun v277 =>
        mjoin (α := Int → MP) (fun (s2_297 : Int) =>
          mif (v264 = (w32 (v277 + s2_297))) (
            mgetA 1 this 5 fun v308 =>
            maldA 11 v308 p1 fun v312 =>
            mastI v312 (w32 (x4_179 + (-1))) s0_248 <|
            mgetA 1 this 6 fun v319 =>
            maldA 11 v319 p1 fun v323 =>
            mastI v323 (w32 (x3_179 + (-1))) (w32 (x4_179 + (-1))) <|
            k421 (w32 (x3_179 + (-1))) (w32 (x4_179 + (-1)))
          ) (
            k331
          )
        ) fun k297 =>
        mif (s0_248 = 0) (
          k297 0
        ) (
          mgetA 1 this 1 fun v288 =>
          mgetA 7 v288 4 fun v291 =>
          maldI 0 v291 s0_248 fun v296 =>
          k297 v296
        )
      )
    ) fun k248 =>
    mjoin (α := MP) (
      k248 (-1)
    ) fun k247 =>
    mif (x3_179 ≤ 0) (
      k247
    ) (
      mif (x4_179 ≤ 0) (
        k247
      ) (
        mgetA 9 v8 0 fun v198 =>
        maldA 10 v198 (w32 (x4_179 - 1)) fun v205 =>
        mgetI 9 v8 1 fun v207 =>
        mgetA 1 this 10 fun v211 =>
        maldI 0 v211 (w32 (x3_179 - 1)) fun v217 =>
        mgetA 1 this 3 fun v224 =>
        mgetA 10 v224 6 fun v227 =>
        maldI 0 v227 (w32 (x3_179 - 1)) fun v233 =>
        mgetA 1 this 1 fun v235 =>
        mgetA 7 v235 4 fun v238 =>
        mobj 23 v205 <|
        MX23_slip v205 v207 v217 (Int.tmod (w32 (x3_179 - 1)) 2) v233 v238 fun v241 =>
        k248 v241
      )
    )
  ) fun k188 =>
  mif ((0 : Int) < x3_179) (
    k188
  ) (
    mif (x4_179 ≤ 0) (
      Qj
    ) (
      k188
    )
  )
def GX1_lays_59 (this : Nat) (v8 : Nat) (k158 : MP) (rec59 : Int → MP) (x3_59 : Int) : MP :=
  mgetA 1 this 3 fun v61 =>
  mgetI 10 v61 16 fun v64 =>
  mif (v64 ≤ x3_59) (
    k158
  ) (
    mgetA 1 this 3 fun v71 =>
    mgetA 10 v71 6 fun v74 =>
    maldI 0 v74 x3_59 fun v78 =>
    mgetA 1 this 3 fun v82 =>
    mgetA 1 this 7 fun v87 =>
    maldA 11 v87 x3_59 fun v91 =>
    mgetA 1 this 7 fun v93 =>
    maldA 11 v93 (w32 (x3_59 + 1)) fun v99 =>
    mgetA 1 this 12 fun v101 =>
    mgetA 8 v101 0 fun v104 =>
    maldI 0 v104 (w32 (Int.tdiv v78 36)) fun v112 =>
    mobj 10 v82 <|
    MX10_leads v82 v8 v91 v99 v112 (Int.tmod x3_59 2) v78 fun v118 =>
    mgetA 1 this 10 fun v124 =>
    mgetA 1 this 12 fun v129 =>
    mgetA 8 v129 0 fun v132 =>
    maldI 0 v132 (w32 (Int.tdiv v78 36)) fun v140 =>
    mastI v124 x3_59 v140 <|
    mgetA 1 this 12 fun v143 =>
    mobj 8 v143 <|
    MX8_goes v143 v78 fun v148 =>
    rec59 (w32 (x3_59 + 1))
  )
def GX1_lays_26 (this : Nat) (k57 : MP) (rec26 : Int → MP) (x3_26 : Int) : MP :=
  mif ((24 : Int) < x3_26) (
    k57
  ) (
    mgetA 1 this 7 fun v33 =>
    maldA 11 v33 0 fun v37 =>
    mjoin (α := Int → MP) (fun (s2_50 : Int) =>
      mastI v37 x3_26 s2_50 <|
      rec26 (w32 (x3_26 + 1))
    ) fun k50 =>
    mif (x3_26 = 0) (
      k50 0
    ) (
      k50 1000000
    )
  )
def MX1_lays (this : Nat) (p1 : Int) (Qj : MP) : MP :=
  mgetA 1 this 1 fun v1 =>
  mgetA 7 v1 2 fun v4 =>
  maldA 8 v4 p1 fun v8 =>
  mgetA 1 this 12 fun v11 =>
  mgetA 1 this 1 fun v15 =>
  mgetA 7 v15 1 fun v18 =>
  mobj 8 v11 <|
  MX8_be v11 v18 <|
  mex fun n26 => jit (GX1_lays_26 this (mex fun n59 => jit (GX1_lays_59 this v8 (mgetA 1 this 9 fun v159 => mastI v159 p1 0 <| mgetA 1 this 3 fun v166 => mgetI 10 v166 16 fun v169 => mgetI 9 v8 2 fun v174 => mex fun n179 => jit (GX1_lays_179 this p1 Qj v8) (fun _ _ => mbot) n179 v169 v174)) (fun _ => mbot) n59 0)) (fun _ => mbot) n26 0
def GX1_reads_37 (this : Nat) (k66 : MP) (rec37 : Int → MP) (x1_37 : Int) : MP :=
  mgetA 1 this 1 fun v39 =>
  mgetI 7 v39 7 fun v42 =>
  mif (v42 ≤ x1_37) (
    k66
  ) (
    mgetI 1 this 14 fun v49 =>
    mif (v49 < 0) (
      k66
    ) (
      mobj 1 this <|
      MX1_lays this x1_37 <|
      rec37 (w32 (x1_37 + 1))
    )
  )
def MX1_reads (this : Nat) (Qj : Int → MP) : MP :=
  mgetI 1 this 16 fun v1 =>
  mif (v1 = 0) (
    mgetA 1 this 3 fun v13 =>
    mputZ 10 v13 29 0 <|
    mgetA 1 this 3 fun v22 =>
    mobj 1 this <|
    MX1_allBooks this fun v26 =>
    mobj 10 v22 <|
    MX10_least v22 v26 fun v29 =>
    mputI 1 this 14 v29 <|
    mex fun n37 => jit (GX1_reads_37 this (mputZ 1 this 16 1 <| mgetI 1 this 14 fun v72 => Qj v72)) (fun _ => mbot) n37 0
  ) (
    mgetI 1 this 14 fun v8 =>
    Qj v8
  )
def MX1_least (this : Nat) (Qj : Int → MP) : MP :=
  mobj 1 this <|
  MX1_reads this fun v1 =>
  Qj v1
def GX11_asksAll_46 (this : Nat) (Qj : MP) (rec46 : Int → MP) (x1_46 : Int) : MP :=
  mif ((8 : Int) ≤ x1_46) (
    Qj
  ) (
    mgetA 11 this 20 fun v53 =>
    mgetA 11 this 1 fun v58 =>
    maldI 0 v58 (w32 (5 + x1_46)) fun v64 =>
    mastI v53 x1_46 v64 <|
    rec46 (w32 (x1_46 + 1))
  )
def GX11_asksAll_16 (this : Nat) (k44 : MP) (rec16 : Int → MP) (x1_16 : Int) : MP :=
  mgetA 11 this 1 fun v18 =>
  maldI 0 v18 1 fun v22 =>
  mif (v22 ≤ x1_16) (
    k44
  ) (
    mgetA 11 this 19 fun v27 =>
    mobj 11 this <|
    MX11_ofBook this x1_16 0 fun v34 =>
    mastI v27 x1_16 v34 <|
    rec16 (w32 (x1_16 + 1))
  )
def MX11_asksAll (this : Nat) (Qj : MP) : MP :=
  mgetA 11 this 1 fun v3 =>
  maldI 0 v3 1 fun v7 =>
  mputI 11 this 18 (w32 ((mshl 1 v7) - 1)) <|
  mex fun n16 => jit (GX11_asksAll_16 this (mex fun n46 => jit (GX11_asksAll_46 this Qj) (fun _ => mbot) n46 0)) (fun _ => mbot) n16 0
def MX11_isAsked (this : Nat) (p1 : Int) (Qj : Int → MP) : MP :=
  mgetI 11 this 18 fun v1 =>
  mif ((mand32 (mshr v1 p1) 1) = 1) (
    Qj 1
  ) (
    Qj 0
  )
def MX11_sumAt (p0 : Int) (p1 : Int) (p2 : Int) (Qj : Int → MP) : MP :=
  Qj (w32 ((w32 (25 * (w32 ((w32 (31 * p0)) + p1)))) + p2))
def MX11_fitAt (p0 : Int) (p1 : Int) (p2 : Int) (Qj : Int → MP) : MP :=
  Qj (w32 ((w32 ((w32 ((w32 (3 * p0)) + p1)) * 24)) + p2))
def MX11_ofMove (this : Nat) (p1 : Int) (p2 : Int) (p3 : Int) (Qj : Int → MP) : MP :=
  mjoin (α := MP) (
    Qj 1000
  ) fun k8 =>
  mif (p1 = 0) (
    k8
  ) (
    mif (p2 = 0) (
      k8
    ) (
      mgetA 11 this 24 fun v15 =>
      MX11_sumAt p3 (w32 (p1 - 1)) (w32 (p2 - 1)) fun v25 =>
      maldI 0 v15 v25 fun v28 =>
      mgetA 11 this 22 fun v30 =>
      MX11_fitAt (w32 (p1 - 1)) p3 (w32 (p2 - 1)) fun v40 =>
      maldI 0 v30 v40 fun v43 =>
      Qj (w32 (v28 + v43))
    )
  )
def MX11_ofLost (this : Nat) (p1 : Int) (p2 : Int) (p3 : Int) (Qj : Int → MP) : MP :=
  mjoin (α := MP) (
    Qj 1000
  ) fun k14 =>
  mif (p1 = 0) (
    k14
  ) (
    mgetA 11 this 20 fun v5 =>
    maldI 0 v5 6 fun v10 =>
    mif (v10 = 0) (
      k14
    ) (
      mgetA 11 this 24 fun v21 =>
      MX11_sumAt p3 (w32 (p1 - 1)) p2 fun v29 =>
      maldI 0 v21 v29 fun v32 =>
      mgetA 11 this 20 fun v34 =>
      maldI 0 v34 6 fun v39 =>
      Qj (w32 (v32 + v39))
    )
  )
def GX11_isTwice_23 (this : Nat) (p1 : Int) (p2 : Int) (Qj : Int → MP) (rec23 : Int → Int → MP) (x3_23 : Int) (x4_23 : Int) : MP :=
  mif ((4 : Int) ≤ x4_23) (
    mand (x3_23 = 0 ∨ x3_23 = 1) (
      Qj x3_23
    )
  ) (
    mif (x3_23 = 0) (
      mand (x3_23 = 0 ∨ x3_23 = 1) (
        Qj x3_23
      )
    ) (
      mobj 11 this <|
      MX11_ofNote this p1 p2 x4_23 fun v38 =>
      mobj 11 this <|
      MX11_ofNote this p1 (w32 (p2 - 1)) x4_23 fun v48 =>
      mjoin (α := Int → MP) (fun (s0_59 : Int) =>
        rec23 s0_59 (w32 (x4_23 + 1))
      ) fun k59 =>
      mif (v38 = v48) (
        k59 1
      ) (
        k59 0
      )
    )
  )
def MX11_isTwice (this : Nat) (p1 : Int) (p2 : Int) (Qj : Int → MP) : MP :=
  mjoin (α := Int → MP) (fun (s0_19 : Int) =>
    mex fun n23 => jit (GX11_isTwice_23 this p1 p2 Qj) (fun _ _ => mbot) n23 s0_19 0
  ) fun k19 =>
  mjoin (α := MP) (
    k19 0
  ) fun k18 =>
  mif (p2 ≤ 0) (
    k18
  ) (
    mgetA 11 this 20 fun v5 =>
    maldI 0 v5 7 fun v10 =>
    mif (v10 ≤ 0) (
      k18
    ) (
      k19 1
    )
  )
def MX11_ofTwice (this : Nat) (p1 : Int) (p2 : Int) (p3 : Int) (Qj : Int → MP) : MP :=
  mjoin (α := MP) (
    Qj 1000
  ) fun k15 =>
  mif (p2 = 0) (
    k15
  ) (
    mobj 11 this <|
    MX11_isTwice this p3 (w32 (p2 - 1)) fun v9 =>
    mif (v9 = 0) (
      k15
    ) (
      mgetA 11 this 24 fun v22 =>
      MX11_sumAt p3 p1 (w32 (p2 - 1)) fun v30 =>
      maldI 0 v22 v30 fun v33 =>
      mgetA 11 this 20 fun v35 =>
      maldI 0 v35 7 fun v40 =>
      Qj (w32 (v33 + v40))
    )
  )
def GX11_sums_2 (this : Nat) (p1 : Int) (p2 : Int) (Qj : MP) (rec2 : Int → MP) (x3_2 : Int) : MP :=
  mobj 11 this <|
  MX11_notes this p1 fun v5 =>
  mif (v5 < x3_2) (
    Qj
  ) (
    mjoin (α := Int → MP) (fun (s0_48 : Int) =>
      mgetA 11 this 24 fun v51 =>
      MX11_sumAt p1 p2 x3_2 fun v57 =>
      mastI v51 v57 (min 1000 s0_48) <|
      rec2 (w32 (x3_2 + 1))
    ) fun k48 =>
    mif ((w32 (p2 + x3_2)) = 0) (
      k48 0
    ) (
      mobj 11 this <|
      MX11_ofMove this p2 x3_2 p1 fun v25 =>
      mobj 11 this <|
      MX11_ofLost this p2 x3_2 p1 fun v32 =>
      mobj 11 this <|
      MX11_ofTwice this p2 x3_2 p1 fun v39 =>
      k48 (min v25 (min v32 v39))
    )
  )
def MX11_sums (this : Nat) (p1 : Int) (p2 : Int) (Qj : MP) : MP :=
  mex fun n2 => jit (GX11_sums_2 this p1 p2 Qj) (fun _ => mbot) n2 0
def GX11_prices_46 (this : Nat) (p1 : Int) (x2_12 : Int) (k79 : Int → MP) (rec46 : Int → Int → MP) (x3_46 : Int) (x4_46 : Int) : MP :=
  mobj 11 this <|
  MX11_notes this x2_12 fun v50 =>
  mif (v50 < x4_46) (
    k79 x3_46
  ) (
    mgetA 11 this 24 fun v58 =>
    MX11_sumAt x2_12 p1 x4_46 fun v65 =>
    maldI 0 v58 v65 fun v68 =>
    rec46 (min x3_46 v68) (w32 (x4_46 + 1))
  )
def GX11_prices_12 (this : Nat) (p1 : Int) (Qj : MP) (rec12 : Int → MP) (x2_12 : Int) : MP :=
  mgetA 11 this 1 fun v14 =>
  maldI 0 v14 1 fun v18 =>
  mif (v18 ≤ x2_12) (
    Qj
  ) (
    mobj 11 this <|
    MX11_isAsked this x2_12 fun v24 =>
    mjoin (α := MP) (
      rec12 (w32 (x2_12 + 1))
    ) fun k113 =>
    mif (v24 = 0) (
      k113
    ) (
      mobj 11 this <|
      MX11_sums this x2_12 p1 <|
      mex fun n46 => jit (GX11_prices_46 this p1 x2_12 (fun (y3_79 : Int) => mgetI 11 this 25 fun v81 => mputI 11 this 25 (w32 (v81 + y3_79)) <| mgetI 11 this 26 fun v91 => mgetA 11 this 24 fun v95 => mobj 11 this <| MX11_notes this x2_12 fun v102 => MX11_sumAt x2_12 p1 v102 fun v105 => maldI 0 v95 v105 fun v108 => mputI 11 this 26 (w32 (v91 + v108)) <| k113)) (fun _ _ => mbot) n46 1000 0
    )
  )
def MX11_prices (this : Nat) (p1 : Int) (Qj : MP) : MP :=
  mputI 11 this 25 0 <|
  mputI 11 this 26 0 <|
  mex fun n12 => jit (GX11_prices_12 this p1 Qj) (fun _ => mbot) n12 0
def MX11_valueOf (this : Nat) (p1 : Int) (Qj : Int → MP) : MP :=
  mgetA 11 this 1 fun v1 =>
  maldI 0 v1 (w32 (49 + (w32 (14 * p1)))) fun v11 =>
  Qj v11
def GX11_holdsLine_11 (this : Nat) (p1 : Int) (k258 : Int → MP) (rec11 : Int → Int → MP) (x2_11 : Int) (x3_11 : Int) : MP :=
  mgetA 11 this 1 fun v13 =>
  maldI 0 v13 (w32 (p1 + 3)) fun v19 =>
  mif (v19 ≤ x3_11) (
    k258 x2_11
  ) (
    mgetA 11 this 1 fun v24 =>
    maldI 0 v24 (w32 (484 + (w32 (2 * x3_11)))) fun v34 =>
    mjoin (α := Int → MP) (fun (x2_252 : Int) =>
      rec11 x2_252 (w32 (x3_11 + 1))
    ) fun k252 =>
    mif ((6 : Int) < v34) (
      mif (v34 = 10) (
        mgetA 11 this 15 fun v95 =>
        mgetA 11 this 15 fun v103 =>
        maldI 0 v103 (w32 (x2_11 - 1)) fun v109 =>
        mastI v95 (w32 (x2_11 - 1)) (w32 (1 - v109)) <|
        k252 x2_11
      ) (
        mgetA 11 this 15 fun v119 =>
        maldI 0 v119 (w32 ((w32 (x2_11 + (-1))) - 1)) fun v125 =>
        mgetA 11 this 15 fun v129 =>
        maldI 0 v129 (w32 (x2_11 + (-1))) fun v133 =>
        mjoin (α := Int → MP) (fun (s0_217 : Int) =>
          mgetA 11 this 15 fun v220 =>
          mjoin (α := Int → MP) (fun (s2_251 : Int) =>
            mastI v220 (w32 ((w32 (x2_11 + (-1))) - 1)) s2_251 <|
            k252 (w32 (x2_11 + (-1)))
          ) fun k251 =>
          mif (v34 = 7) (
            k251 (w32 (v125 + v133))
          ) (
            mif (s0_217 = 0) (
              k251 0
            ) (
              k251 1
            )
          )
        ) fun k217 =>
        mif (v34 = 8) (
          mif (v133 ≤ v125) (
            k217 0
          ) (
            k217 1
          )
        ) (
          mif (v34 = 9) (
            mif (v125 ≤ v133) (
              k217 0
            ) (
              k217 1
            )
          ) (
            mif (v34 = 11) (
              mif ((w32 (v125 + v133)) = 2) (
                k217 1
              ) (
                k217 0
              )
            ) (
              mif ((w32 (v125 + v133)) ≤ 0) (
                k217 0
              ) (
                k217 1
              )
            )
          )
        )
      )
    ) (
      mgetA 11 this 15 fun v45 =>
      mjoin (α := Int → MP) (fun (s2_80 : Int) =>
        mastI v45 x2_11 s2_80 <|
        k252 (w32 (x2_11 + 1))
      ) fun k80 =>
      mif (v34 = 6) (
        mgetA 11 this 1 fun v57 =>
        maldI 0 v57 (w32 ((w32 (484 + (w32 (2 * x3_11)))) + 1)) fun v69 =>
        k80 v69
      ) (
        mgetA 11 this 14 fun v74 =>
        maldI 0 v74 v34 fun v79 =>
        k80 v79
      )
    )
  )
def MX11_holdsLine (this : Nat) (p1 : Int) (Qj : Int → MP) : MP :=
  mgetA 11 this 1 fun v3 =>
  maldI 0 v3 (w32 (p1 + 2)) fun v9 =>
  mex fun n11 => jit (GX11_holdsLine_11 this p1 (fun (y2_258 : Int) => mjoin (α := MP) (   Qj 1 ) fun k272 => mif (y2_258 = 0) (   k272 ) (   mgetA 11 this 15 fun v263 =>   maldI 0 v263 0 fun v267 =>   mif (v267 = 1) (     k272   ) (     Qj 0   ) ))) (fun _ _ => mbot) n11 0 v9
def GX11_measured_4 (this : Nat) (Qj : Int → MP) (rec4 : Int → Int → MP) (x1_4 : Int) (x2_4 : Int) : MP :=
  mgetA 11 this 1 fun v6 =>
  maldI 0 v6 443 fun v12 =>
  mif (v12 ≤ x2_4) (
    Qj x1_4
  ) (
    mobj 11 this <|
    MX11_holdsLine this (w32 (444 + (w32 (4 * x2_4)))) fun v26 =>
    mjoin (α := Int → MP) (fun (x1_70 : Int) =>
      rec4 x1_70 (w32 (x2_4 + 1))
    ) fun k70 =>
    mif (v26 = 0) (
      k70 x1_4
    ) (
      mgetA 11 this 1 fun v34 =>
      maldI 0 v34 (w32 (444 + (w32 (4 * x2_4)))) fun v38 =>
      mgetA 11 this 1 fun v40 =>
      maldI 0 v40 (w32 ((w32 (444 + (w32 (4 * x2_4)))) + 1)) fun v46 =>
      mjoin (α := Int → MP) (fun (s2_67 : Int) =>
        k70 (w32 (x1_4 + (w32 (v38 * s2_67))))
      ) fun k67 =>
      mif ((0 : Int) ≤ v46) (
        mgetA 11 this 14 fun v55 =>
        mgetA 11 this 1 fun v59 =>
        maldI 0 v59 (w32 ((w32 (444 + (w32 (4 * x2_4)))) + 1)) fun v65 =>
        maldI 0 v55 v65 fun v66 =>
        k67 v66
      ) (
        k67 1
      )
    )
  )
def MX11_measured (this : Nat) (Qj : Int → MP) : MP :=
  mex fun n4 => jit (GX11_measured_4 this Qj) (fun _ _ => mbot) n4 0 0
def GX11_measures_121 (this : Nat) (p1 : Int) (v19 : Int) (v39 : Int) (k204 : MP) (rec121 : Int → MP) (x6_121 : Int) : MP :=
  mif ((36 : Int) ≤ x6_121) (
    k204
  ) (
    mgetA 11 this 14 fun v129 =>
    maldI 0 v129 3 fun v134 =>
    mobj 11 this <|
    MX11_at this p1 x6_121 fun v139 =>
    mjoin (α := Int → MP) (fun (s3_168 : Int) =>
      mastI v129 3 (w32 (v134 + s3_168)) <|
      mgetA 11 this 17 fun v171 =>
      maldI 1 v171 (w32 ((w32 ((w32 (1296 * p1)) + (w32 (36 * x6_121)))) + (Int.tmod v19 36))) fun v187 =>
      mjoin (α := MP) (
        rec121 (w32 (x6_121 + 1))
      ) fun k198 =>
      mif (v187 = 0) (
        k198
      ) (
        mgetA 11 this 14 fun v192 =>
        mastI v192 5 0 <|
        k198
      )
    ) fun k168 =>
    mjoin (α := MP) (
      k168 0
    ) fun k167 =>
    mif (v139 < 0) (
      k167
    ) (
      mobj 11 this <|
      MX11_at this p1 x6_121 fun v149 =>
      MX11_sideOf v149 fun v152 =>
      MX11_sideOf v39 fun v157 =>
      mif (v152 = v157) (
        k168 1
      ) (
        k167
      )
    )
  )
def MX11_measures (this : Nat) (p1 : Int) (Qj : MP) : MP :=
  mif (p1 = 0) (
    mgetA 11 this 45 fun v5 =>
    mastI v5 0 0 <|
    Qj
  ) (
    mgetA 11 this 21 fun v13 =>
    maldI 0 v13 (w32 (p1 - 1)) fun v19 =>
    mobj 11 this <|
    MX11_at this (w32 (p1 - 1)) (Int.tmod v19 36) fun v31 =>
    mobj 11 this <|
    MX11_at this p1 (Int.tmod v19 36) fun v39 =>
    mgetA 11 this 14 fun v45 =>
    mjoin (α := Int → MP) (fun (s2_66 : Int) =>
      mastI v45 0 s2_66 <|
      mgetA 11 this 14 fun v68 =>
      mobj 11 this <|
      MX11_valueOf this (w32 (Int.tdiv v39 2)) fun v77 =>
      mastI v68 1 v77 <|
      mgetA 11 this 14 fun v82 =>
      mastI v82 2 p1 <|
      mgetA 11 this 14 fun v89 =>
      mjoin (α := Int → MP) (fun (s2_103 : Int) =>
        mastI v89 4 s2_103 <|
        mgetA 11 this 14 fun v105 =>
        mastI v105 5 1 <|
        mgetA 11 this 14 fun v112 =>
        mastI v112 3 0 <|
        mex fun n121 => jit (GX11_measures_121 this p1 v19 v39 (mgetA 11 this 45 fun v205 => mgetA 11 this 45 fun v210 => maldI 0 v210 (w32 (p1 - 1)) fun v216 => mgetA 11 this 1 fun v218 => maldI 0 v218 4 fun v222 => mjoin (α := Int → MP) (fun (s3_235 : Int) =>   mastI v205 p1 (w32 (v216 + s3_235)) <|   Qj ) fun k235 => mif (v222 = 1) (   mobj 11 this <|   MX11_measured this fun v228 =>   k235 v228 ) (   k235 0 ))) (fun _ => mbot) n121 0
      ) fun k103 =>
      mif ((0 : Int) ≤ v31) (
        k103 1
      ) (
        k103 0
      )
    ) fun k66 =>
    mif ((0 : Int) ≤ v31) (
      mobj 11 this <|
      MX11_valueOf this (w32 (Int.tdiv v31 2)) fun v63 =>
      k66 v63
    ) (
      k66 0
    )
  )
def GX11_isBarred_4 (this : Nat) (p1 : Int) (Qj : Int → MP) (rec4 : Int → Int → MP) (x2_4 : Int) (x3_4 : Int) : MP :=
  mgetA 11 this 1 fun v6 =>
  maldI 0 v6 2 fun v10 =>
  mif (v10 ≤ x3_4) (
    mand (x2_4 = 0 ∨ x2_4 = 1) (
      Qj x2_4
    )
  ) (
    mgetI 11 this 30 fun v15 =>
    mif (v15 = 0) (
      mjoin (α := Int → MP) (fun (s0_76 : Int) =>
        rec4 s0_76 (w32 (x3_4 + 1))
      ) fun k76 =>
      mjoin (α := MP) (
        k76 1
      ) fun k71 =>
      mif (x2_4 = 0) (
        mgetA 11 this 1 fun v35 =>
        maldI 0 v35 (w32 (413 + (w32 (3 * x3_4)))) fun v40 =>
        mjoin (α := MP) (
          k76 0
        ) fun k75 =>
        mif (v40 = p1) (
          mgetA 11 this 1 fun v48 =>
          maldI 0 v48 (w32 ((w32 (413 + (w32 (3 * x3_4)))) + 1)) fun v55 =>
          mobj 11 this <|
          MX11_at this p1 v55 fun v56 =>
          mgetA 11 this 1 fun v60 =>
          maldI 0 v60 (w32 ((w32 (413 + (w32 (3 * x3_4)))) + 2)) fun v67 =>
          mif (v56 = v67) (
            k75
          ) (
            k71
          )
        ) (
          k75
        )
      ) (
        k71
      )
    ) (
      mand (x2_4 = 0 ∨ x2_4 = 1) (
        Qj x2_4
      )
    )
  )
def MX11_isBarred (this : Nat) (p1 : Int) (Qj : Int → MP) : MP :=
  mex fun n4 => jit (GX11_isBarred_4 this p1 Qj) (fun _ _ => mbot) n4 0 0
def GX11_isLongEnough_34 (this : Nat) (p1 : Int) (Qj : Int → MP) (rec34 : Int → Int → MP) (x2_34 : Int) (x3_34 : Int) : MP :=
  mgetA 11 this 1 fun v36 =>
  maldI 0 v36 2 fun v40 =>
  mif (v40 ≤ x3_34) (
    mand (x2_34 = 0 ∨ x2_34 = 1) (
      Qj x2_34
    )
  ) (
    mgetI 11 this 30 fun v45 =>
    mif (v45 = 0) (
      mjoin (α := Int → MP) (fun (s0_76 : Int) =>
        rec34 s0_76 (w32 (x3_34 + 1))
      ) fun k76 =>
      mjoin (α := MP) (
        k76 0
      ) fun k75 =>
      mif (x2_34 = 0) (
        k75
      ) (
        mgetA 11 this 1 fun v56 =>
        maldI 0 v56 (w32 (413 + (w32 (3 * x3_34)))) fun v66 =>
        mif (p1 < v66) (
          k75
        ) (
          k76 1
        )
      )
    ) (
      mand (x2_34 = 0 ∨ x2_34 = 1) (
        Qj x2_34
      )
    )
  )
def MX11_isLongEnough (this : Nat) (p1 : Int) (Qj : Int → MP) : MP :=
  mgetI 11 this 30 fun v1 =>
  mjoin (α := Int → MP) (fun (s0_31 : Int) =>
    mex fun n34 => jit (GX11_isLongEnough_34 this p1 Qj) (fun _ _ => mbot) n34 s0_31 0
  ) fun k31 =>
  mjoin (α := MP) (
    k31 1
  ) fun k26 =>
  mif (v1 = 0) (
    mgetA 11 this 1 fun v8 =>
    maldI 0 v8 3 fun v12 =>
    mif (v12 < 0) (
      k26
    ) (
      mgetA 11 this 1 fun v17 =>
      maldI 0 v17 3 fun v21 =>
      mif (v21 = p1) (
        k26
      ) (
        k31 0
      )
    )
  ) (
    k26
  )
def GX11_takes_2 (this : Nat) (p1 : Nat) (p2 : Int) (Qj : Int → MP) (rec2 : Int → MP) (x3_2 : Int) : MP :=
  mif (p2 ≤ x3_2) (
    Qj p2
  ) (
    mgetA 11 this 21 fun v10 =>
    maldI 0 v10 x3_2 fun v14 =>
    mastI p1 x3_2 v14 <|
    rec2 (w32 (x3_2 + 1))
  )
def MX11_takes (this : Nat) (p1 : Nat) (p2 : Int) (Qj : Int → MP) : MP :=
  mex fun n2 => jit (GX11_takes_2 this p1 p2 Qj) (fun _ => mbot) n2 0
def MX11_meets (this : Nat) (p1 : Int) (p2 : Int) (Qj : MP) : MP :=
  mgetI 11 this 26 fun v1 =>
  mif (p2 < v1) (
    Qj
  ) (
    mobj 11 this <|
    MX11_isBarred this p1 fun v10 =>
    mif (v10 = 0) (
      mobj 11 this <|
      MX11_isLongEnough this p1 fun v18 =>
      mif (v18 = 0) (
        Qj
      ) (
        mgetA 11 this 33 fun v26 =>
        mgetI 11 this 26 fun v30 =>
        maldL v26 v30 fun v34 =>
        mastL v26 v30 (w64 (v34 + 1)) <|
        mgetI 11 this 35 fun v39 =>
        mjoin (α := MP) (
          mgetI 11 this 37 fun v77 =>
          mputI 11 this 37 (w32 (v77 + 1)) <|
          mgetI 11 this 37 fun v86 =>
          mjoin (α := MP) (
            mgetI 11 this 37 fun v107 =>
            mjoin (α := MP) (
              mgetI 11 this 37 fun v128 =>
              mif ((200 : Int) < v128) (
                Qj
              ) (
                mgetI 11 this 37 fun v138 =>
                mjoin (α := MP) (
                  mgetA 11 this 40 fun v162 =>
                  mobj 11 this <|
                  MX11_takes this v162 p1 fun v166 =>
                  mputI 11 this 43 v166 <|
                  mgetA 11 this 45 fun v174 =>
                  maldI 0 v174 p1 fun v178 =>
                  mputI 11 this 44 v178 <|
                  Qj
                ) fun k159 =>
                mif (v138 ≤ 1) (
                  k159
                ) (
                  mgetA 11 this 45 fun v146 =>
                  maldI 0 v146 p1 fun v150 =>
                  mgetI 11 this 44 fun v152 =>
                  mif (v150 < v152) (
                    k159
                  ) (
                    Qj
                  )
                )
              )
            ) fun k127 =>
            mif (v107 = 2) (
              mgetA 11 this 39 fun v117 =>
              mobj 11 this <|
              MX11_takes this v117 p1 fun v121 =>
              mputI 11 this 42 v121 <|
              k127
            ) (
              k127
            )
          ) fun k106 =>
          mif (v86 = 1) (
            mgetA 11 this 38 fun v96 =>
            mobj 11 this <|
            MX11_takes this v96 p1 fun v100 =>
            mputI 11 this 41 v100 <|
            k106
          ) (
            k106
          )
        ) fun k75 =>
        mif (p1 ≤ v39) (
          k75
        ) (
          mgetA 11 this 21 fun v47 =>
          mgetI 11 this 35 fun v51 =>
          maldI 0 v47 v51 fun v54 =>
          mgetI 11 this 36 fun v56 =>
          mif (v54 = v56) (
            mgetA 11 this 34 fun v63 =>
            mgetI 11 this 26 fun v67 =>
            maldL v63 v67 fun v71 =>
            mastL v63 v67 (w64 (v71 + 1)) <|
            k75
          ) (
            k75
          )
        )
      )
    ) (
      Qj
    )
  )
def MX11_goesOn (this : Nat) (p1 : Int) (Qj : Int → MP) : MP :=
  mjoin (α := MP) (
    Qj 0
  ) fun k35 =>
  mif ((30 : Int) ≤ p1) (
    k35
  ) (
    mgetI 11 this 30 fun v7 =>
    mjoin (α := MP) (
      mobj 11 this <|
      MX11_isBarred this p1 fun v25 =>
      mif (v25 = 0) (
        Qj 1
      ) (
        k35
      )
    ) fun k23 =>
    mif (v7 = 0) (
      mgetA 11 this 1 fun v14 =>
      maldI 0 v14 3 fun v18 =>
      mif (v18 = p1) (
        k35
      ) (
        k23
      )
    ) (
      k23
    )
  )
def MX11_lays (this : Nat) (p1 : Int) (p2 : Int) (Qj : MP) : MP :=
  mgetI 11 this 27 fun v2 =>
  mputI 11 this 27 (w32 (v2 + 1)) <|
  mgetI 11 this 29 fun v12 =>
  mjoin (α := Int → MP) (fun (s1_33 : Int) =>
    mputZ 11 this 29 s1_33 <|
    mgetI 11 this 28 fun v38 =>
    mputI 11 this 28 (max v38 p1) <|
    mobj 11 this <|
    MX11_finds this p1 (Int.tmod p1 2) <|
    mobj 11 this <|
    MX11_measures this p1 <|
    mobj 11 this <|
    MX11_meets this p1 p2 <|
    mgetA 11 this 31 fun v68 =>
    mobj 11 this <|
    MX11_goesOn this p1 fun v74 =>
    mif (v74 = 0) (
      mastI v68 p1 1296 <|
      Qj
    ) (
      mastI v68 p1 0 <|
      Qj
    )
  ) fun k33 =>
  mjoin (α := MP) (
    k33 1
  ) fun k28 =>
  mif (v12 = 0) (
    mgetI 11 this 27 fun v19 =>
    mif (v19 ≤ 8000) (
      k33 0
    ) (
      k28
    )
  ) (
    k28
  )
def MX11_fits (p0 : Int) (p1 : Int) (p2 : Int) (p3 : Int) (p4 : Int) (p5 : Int) (p6 : Int) (Qj : Int → MP) : MP :=
  mjoin (α := Int → MP) (fun (s0_11 : Int) =>
    mjoin (α := Int → MP) (fun (s0_25 : Int) =>
      mif (p0 = 0) (
        mjoin (α := MP) (
          Qj 0
        ) fun k86 =>
        mif (p1 = 0) (
          k86
        ) (
          mif (p2 = 0) (
            k86
          ) (
            mif (s0_11 = 0) (
              k86
            ) (
              mif (s0_25 = 0) (
                k86
              ) (
                Qj 1
              )
            )
          )
        )
      ) (
        mif (p0 = 1) (
          mjoin (α := MP) (
            Qj 0
          ) fun k110 =>
          mif (p1 = 0) (
            mif (p2 = 0) (
              k110
            ) (
              mif (s0_11 = 0) (
                k110
              ) (
                mif (s0_25 = 0) (
                  k110
                ) (
                  Qj 1
                )
              )
            )
          ) (
            k110
          )
        ) (
          mif (p0 = 2) (
            mjoin (α := MP) (
              Qj 0
            ) fun k140 =>
            mif (p1 = 0) (
              k140
            ) (
              mif (p2 = 0) (
                k140
              ) (
                mif ((mabs (w32 (p3 - p5))) = 1) (
                  mif (s0_25 = 0) (
                    k140
                  ) (
                    Qj 1
                  )
                ) (
                  k140
                )
              )
            )
          ) (
            mif (p0 = 3) (
              mjoin (α := MP) (
                Qj 0
              ) fun k171 =>
              mif (p1 = 0) (
                k171
              ) (
                mif (p2 = 0) (
                  k171
                ) (
                  mif (s0_11 = 0) (
                    k171
                  ) (
                    mif ((mabs (w32 (p4 - p6))) = 1) (
                      Qj 1
                    ) (
                      k171
                    )
                  )
                )
              )
            ) (
              mif (p0 = 4) (
                mjoin (α := MP) (
                  Qj 0
                ) fun k204 =>
                mif (p1 = 0) (
                  k204
                ) (
                  mif (p2 = 0) (
                    k204
                  ) (
                    mif (s0_11 = 0) (
                      k204
                    ) (
                      mif (s0_25 = 0) (
                        mif ((w32 (5 - p4)) = p6) (
                          Qj 1
                        ) (
                          k204
                        )
                      ) (
                        k204
                      )
                    )
                  )
                )
              ) (
                mjoin (α := MP) (
                  Qj 0
                ) fun k228 =>
                mif (p1 = 0) (
                  k228
                ) (
                  mif (p2 = 0) (
                    mif (s0_11 = 0) (
                      k228
                    ) (
                      mif (s0_25 = 0) (
                        k228
                      ) (
                        Qj 1
                      )
                    )
                  ) (
                    k228
                  )
                )
              )
            )
          )
        )
      )
    ) fun k25 =>
    mif (p4 = p6) (
      k25 1
    ) (
      k25 0
    )
  ) fun k11 =>
  mif (p3 = p5) (
    k11 1
  ) (
    k11 0
  )
def GX11_tries_130 (this : Nat) (p2 : Int) (p3 : Int) (v5 : Int) (s0_61 : Int) (s0_82 : Int) (s0_117 : Int) (k237 : Int → Int → MP) (rec130 : Int → Int → Int → MP) (x10_130 : Int) (x11_130 : Int) (x12_130 : Int) : MP :=
  mif ((6 : Int) ≤ x12_130) (
    k237 x10_130 x11_130
  ) (
    mjoin (α := Int → Int → MP) (fun (x10_231 : Int) (x11_231 : Int) =>
      rec130 x10_231 x11_231 (w32 (x12_130 + 1))
    ) fun k231 =>
    mjoin (α := MP) (
      mobj 11 this <|
      MX11_ofNote this p2 p3 2 fun v162 =>
      mobj 11 this <|
      MX11_ofNote this p2 p3 3 fun v169 =>
      MX11_fits x12_130 s0_82 s0_117 v162 v169 (Int.tmod (Int.tmod v5 36) 6) s0_61 fun v179 =>
      mif (v179 = 0) (
        k231 x10_130 x11_130
      ) (
        mjoin (α := Int → MP) (fun (s0_204 : Int) =>
          mjoin (α := Int → MP) (fun (s0_220 : Int) =>
            k231 (min x10_130 s0_204) s0_220
          ) fun k220 =>
          mif (x10_130 ≤ s0_204) (
            k220 x11_130
          ) (
            k220 x12_130
          )
        ) fun k204 =>
        mif (x12_130 = 0) (
          k204 0
        ) (
          mgetA 11 this 20 fun v198 =>
          maldI 0 v198 x12_130 fun v203 =>
          k204 v203
        )
      )
    ) fun k152 =>
    mif (x12_130 ≤ 0) (
      k152
    ) (
      mgetA 11 this 20 fun v143 =>
      maldI 0 v143 x12_130 fun v148 =>
      mif (v148 = 0) (
        k231 x10_130 x11_130
      ) (
        k152
      )
    )
  )
def MX11_tries (this : Nat) (p1 : Int) (p2 : Int) (p3 : Int) (Qj : MP) : MP :=
  mgetA 11 this 21 fun v1 =>
  maldI 0 v1 p1 fun v5 =>
  mobj 11 this <|
  MX11_at this p1 (w32 (Int.tdiv v5 36)) fun v15 =>
  mgetA 11 this 19 fun v28 =>
  maldI 0 v28 p2 fun v32 =>
  mjoin (α := Int → MP) (fun (s0_61 : Int) =>
    mobj 11 this <|
    MX11_ofNote this p2 p3 0 fun v67 =>
    mjoin (α := Int → MP) (fun (s0_82 : Int) =>
      mobj 11 this <|
      MX11_ofNote this p2 p3 1 fun v88 =>
      mjoin (α := Int → MP) (fun (s0_117 : Int) =>
        mex fun n130 => jit (GX11_tries_130 this p2 p3 v5 s0_61 s0_82 s0_117 (fun (y10_237 : Int) (y11_237 : Int) => mgetA 11 this 22 fun v238 => MX11_fitAt p1 p2 p3 fun v244 => mastI v238 v244 y10_237 <| mgetA 11 this 23 fun v251 => MX11_fitAt p1 p2 p3 fun v257 => mastI v251 v257 y11_237 <| Qj)) (fun _ _ _ => mbot) n130 1000 0 0
      ) fun k117 =>
      mjoin (α := MP) (
        k117 1
      ) fun k112 =>
      mif (v88 < 0) (
        k112
      ) (
        mobj 11 this <|
        MX11_ofNote this p2 p3 1 fun v98 =>
        mif (v98 = (Int.tmod (w32 (Int.tdiv v5 36)) 6)) (
          k112
        ) (
          k117 0
        )
      )
    ) fun k82 =>
    mif (v67 = (w32 (Int.tdiv v15 2))) (
      k82 1
    ) (
      k82 0
    )
  ) fun k61 =>
  mjoin (α := MP) (
    k61 (w32 (Int.tdiv (Int.tmod v5 36) 6))
  ) fun k56 =>
  mif (v32 = 1) (
    MX11_sideOf v15 fun v39 =>
    mif (v39 = 1) (
      k61 (w32 (5 - (w32 (Int.tdiv (Int.tmod v5 36) 6))))
    ) (
      k56
    )
  ) (
    k56
  )
def GX11_laysAll_156 (this : Nat) (x2_58 : Int) (x4_142 : Int) (k191 : MP) (rec156 : Int → MP) (x5_156 : Int) : MP :=
  mobj 11 this <|
  MX11_notes this x4_142 fun v161 =>
  mif (v161 ≤ x5_156) (
    k191
  ) (
    mobj 11 this <|
    MX11_isAsked this x4_142 fun v170 =>
    mif (v170 = 0) (
      k191
    ) (
      mobj 11 this <|
      MX11_tries this x2_58 x4_142 x5_156 <|
      rec156 (w32 (x5_156 + 1))
    )
  )
def GX11_laysAll_142 (this : Nat) (x2_58 : Int) (k197 : MP) (rec142 : Int → MP) (x4_142 : Int) : MP :=
  mgetA 11 this 1 fun v145 =>
  maldI 0 v145 1 fun v149 =>
  mif (v149 ≤ x4_142) (
    k197
  ) (
    mex fun n156 => jit (GX11_laysAll_156 this x2_58 x4_142 (rec142 (w32 (x4_142 + 1)))) (fun _ => mbot) n156 0
  )
def GX11_laysAll_76 (this : Nat) (x2_58 : Int) (k104 : Int → MP) (rec76 : Int → MP) (x3_76 : Int) : MP :=
  mif ((1296 : Int) ≤ x3_76) (
    k104 x3_76
  ) (
    mgetA 11 this 17 fun v84 =>
    maldI 1 v84 (w32 ((w32 (1296 * x2_58)) + x3_76)) fun v94 =>
    mif (v94 = 0) (
      rec76 (w32 (x3_76 + 1))
    ) (
      k104 x3_76
    )
  )
def GX11_laysAll_58 (this : Nat) (p1 : Int) (Qj : MP) (rec58 : Int → MP) (x2_58 : Int) : MP :=
  mif (x2_58 < 0) (
    Qj
  ) (
    mgetI 11 this 29 fun v63 =>
    mif (v63 = 0) (
      mgetA 11 this 31 fun v70 =>
      maldI 0 v70 x2_58 fun v74 =>
      mex fun n76 => jit (GX11_laysAll_76 this x2_58 (fun (y3_104 : Int) => mif (y3_104 = 1296) (   rec58 (w32 (x2_58 + (-1))) ) (   mgetA 11 this 31 fun v118 =>   mastI v118 x2_58 (w32 (y3_104 + 1)) <|   mgetA 11 this 21 fun v127 =>   mastI v127 x2_58 y3_104 <|   mobj 11 this <|   MX11_makes this x2_58 y3_104 <|   mex fun n142 => jit (GX11_laysAll_142 this x2_58 (mobj 11 this <| MX11_prices this (w32 (x2_58 + 1)) <| mgetI 11 this 25 fun v205 => mif (v205 ≤ p1) (   mobj 11 this <|   MX11_lays this (w32 (x2_58 + 1)) p1 <|   rec58 (w32 (x2_58 + 1)) ) (   rec58 x2_58 ))) (fun _ => mbot) n142 0 ))) (fun _ => mbot) n76 v74
    ) (
      Qj
    )
  )
def GX11_laysAll_2 (this : Nat) (k31 : MP) (rec2 : Int → MP) (x2_2 : Int) : MP :=
  mgetA 11 this 33 fun v4 =>
  malen v4 fun v7 =>
  mif (v7 ≤ x2_2) (
    k31
  ) (
    mgetA 11 this 33 fun v12 =>
    mastL v12 x2_2 0 <|
    mgetA 11 this 34 fun v19 =>
    mastL v19 x2_2 0 <|
    rec2 (w32 (x2_2 + 1))
  )
def MX11_laysAll (this : Nat) (p1 : Int) (Qj : MP) : MP :=
  mex fun n2 => jit (GX11_laysAll_2 this (mputI 11 this 37 0 <| mputI 11 this 28 0 <| mobj 11 this <| MX11_begins this <| mobj 11 this <| MX11_prices this 0 <| mobj 11 this <| MX11_lays this 0 p1 <| mex fun n58 => jit (GX11_laysAll_58 this p1 Qj) (fun _ => mbot) n58 0)) (fun _ => mbot) n2 0
def GX11_asks_23 (this : Nat) (Qj : Int → MP) (rec23 : Int → MP) (x1_23 : Int) : MP :=
  mif ((20 : Int) < x1_23) (
    Qj (-1)
  ) (
    mobj 11 this <|
    MX11_laysAll this x1_23 <|
    mgetI 11 this 29 fun v35 =>
    mif (v35 = 0) (
      mgetI 11 this 37 fun v45 =>
      mif (v45 ≤ 0) (
        rec23 (w32 (x1_23 + 1))
      ) (
        Qj x1_23
      )
    ) (
      Qj (-2)
    )
  )
def MX11_asks (this : Nat) (Qj : Int → MP) : MP :=
  mputI 11 this 27 0 <|
  mputZ 11 this 29 0 <|
  mputZ 11 this 30 0 <|
  mputI 11 this 35 30 <|
  mex fun n23 => jit (GX11_asks_23 this Qj) (fun _ => mbot) n23 0
def MX11_asksWhole (this : Nat) (Qj : Int → MP) : MP :=
  mobj 11 this <|
  MX11_asksAll this <|
  mobj 11 this <|
  MX11_asks this fun v5 =>
  Qj v5
def MX11_least (this : Nat) (Qj : Int → MP) : MP :=
  mputI 11 this 0 0 <|
  mobj 11 this <|
  MX11_asksWhole this fun v6 =>
  Qj v6
def MX1_many (this : Nat) (Qj : Int → MP) : MP :=
  mobj 1 this <|
  MX1_reads this fun v1 =>
  mif ((0 : Int) ≤ v1) (
    mgetA 1 this 3 fun v15 =>
    mgetI 10 v15 15 fun v18 =>
    Qj v18
  ) (
    mgetI 1 this 14 fun v8 =>
    Qj v8
  )
def MX11_many (this : Nat) (Qj : Int → MP) : MP :=
  mputI 11 this 0 0 <|
  mobj 11 this <|
  MX11_asksWhole this fun v6 =>
  mif ((0 : Int) ≤ v6) (
    mgetI 11 this 37 fun v19 =>
    Qj v19
  ) (
    Qj v6
  )
def MX1_read (bc : Nat) (bs : Nat) (this : Nat) (p1 : Int) (Ex : Nat → Nat → MP) (Qj : Int → MP) : MP :=
  mjoin (α := Int → MP) (fun (s0_10 : Int) =>
    mbud bc bs fun mc10 ms10 =>
    MX1_must mc10 ms10 s0_10 Ex <|
    mobj 1 this <|
    MX1_reads this fun v14 =>
    mif ((0 : Int) ≤ v14) (
      mif (p1 = (-1)) (
        mgetA 1 this 3 fun v31 =>
        mgetI 10 v31 16 fun v34 =>
        Qj v34
      ) (
        mgetA 1 this 3 fun v42 =>
        mgetI 10 v42 16 fun v45 =>
        mif (v45 ≤ p1) (
          Qj (-3)
        ) (
          mgetA 1 this 3 fun v52 =>
          mgetA 10 v52 6 fun v55 =>
          maldI 0 v55 p1 fun v59 =>
          Qj v59
        )
      )
    ) (
      mgetI 1 this 14 fun v21 =>
      Qj v21
    )
  ) fun k10 =>
  mif (p1 < (-1)) (
    k10 0
  ) (
    k10 1
  )
def MX0_read (bc : Nat) (bs : Nat) (p0 : Nat) (p1 : Int) (p2 : Nat) (Qj : Int → MP) : MP :=
  mbud bc bs fun mc4 ms4 =>
  mobj 1 p0 <|
  MX1_read mc4 ms4 p0 p1 (fun (xx4 xq4 : Nat) => mif (xx4 = 0) (   Qj 1 ) (   mbot )) fun v4 =>
  mastL p2 0 v4 <|
  Qj 0
def MX11_read (this : Nat) (p1 : Int) (Qj : Int → MP) : MP :=
  mputI 11 this 0 0 <|
  mjoin (α := Int → MP) (fun (s1_16 : Int) =>
    mobj 11 this <|
    MX11_throwsIf this s1_16 1 fun v17 =>
    mif (v17 = 0) (
      mobj 11 this <|
      MX11_asksWhole this fun v26 =>
      mif ((0 : Int) ≤ v26) (
        mif ((0 : Int) ≤ p1) (
          mgetI 11 this 41 fun v51 =>
          mif (v51 ≤ p1) (
            Qj (-3)
          ) (
            mgetA 11 this 38 fun v58 =>
            maldI 0 v58 p1 fun v62 =>
            Qj v62
          )
        ) (
          mgetI 11 this 41 fun v43 =>
          Qj v43
        )
      ) (
        Qj v26
      )
    ) (
      Qj 0
    )
  ) fun k16 =>
  mif (((-1) : Int) ≤ p1) (
    k16 0
  ) (
    k16 1
  )
def MX1_readNext (bc : Nat) (bs : Nat) (this : Nat) (p1 : Int) (Ex : Nat → Nat → MP) (Qj : Int → MP) : MP :=
  mjoin (α := Int → MP) (fun (s0_10 : Int) =>
    mbud bc bs fun mc10 ms10 =>
    MX1_must mc10 ms10 s0_10 Ex <|
    mobj 1 this <|
    MX1_reads this fun v14 =>
    mif ((0 : Int) ≤ v14) (
      mgetA 1 this 3 fun v26 =>
      mgetI 10 v26 15 fun v29 =>
      mif ((2 : Int) ≤ v29) (
        mif (p1 = (-1)) (
          mgetA 1 this 3 fun v45 =>
          mgetI 10 v45 17 fun v48 =>
          Qj v48
        ) (
          mgetA 1 this 3 fun v56 =>
          mgetI 10 v56 17 fun v59 =>
          mif (v59 ≤ p1) (
            Qj (-3)
          ) (
            mgetA 1 this 3 fun v66 =>
            mgetA 10 v66 7 fun v69 =>
            maldI 0 v69 p1 fun v73 =>
            Qj v73
          )
        )
      ) (
        Qj (-3)
      )
    ) (
      mgetI 1 this 14 fun v21 =>
      Qj v21
    )
  ) fun k10 =>
  mif (p1 < (-1)) (
    k10 0
  ) (
    k10 1
  )
def MX0_readNext (bc : Nat) (bs : Nat) (p0 : Nat) (p1 : Int) (p2 : Nat) (Qj : Int → MP) : MP :=
  mbud bc bs fun mc4 ms4 =>
  mobj 1 p0 <|
  MX1_readNext mc4 ms4 p0 p1 (fun (xx4 xq4 : Nat) => mif (xx4 = 0) (   Qj 1 ) (   mbot )) fun v4 =>
  mastL p2 0 v4 <|
  Qj 0
def MX11_readNext (this : Nat) (p1 : Int) (Qj : Int → MP) : MP :=
  mputI 11 this 0 0 <|
  mjoin (α := Int → MP) (fun (s1_16 : Int) =>
    mobj 11 this <|
    MX11_throwsIf this s1_16 1 fun v17 =>
    mif (v17 = 0) (
      mobj 11 this <|
      MX11_asksWhole this fun v26 =>
      mif ((0 : Int) ≤ v26) (
        mgetI 11 this 37 fun v39 =>
        mif ((2 : Int) ≤ v39) (
          mif ((0 : Int) ≤ p1) (
            mgetI 11 this 42 fun v64 =>
            mif (v64 ≤ p1) (
              Qj (-3)
            ) (
              mgetA 11 this 39 fun v71 =>
              maldI 0 v71 p1 fun v75 =>
              Qj v75
            )
          ) (
            mgetI 11 this 42 fun v56 =>
            Qj v56
          )
        ) (
          Qj (-3)
        )
      ) (
        Qj v26
      )
    ) (
      Qj 0
    )
  ) fun k16 =>
  mif (((-1) : Int) ≤ p1) (
    k16 0
  ) (
    k16 1
  )
def MX1_slip (bc : Nat) (bs : Nat) (this : Nat) (p1 : Int) (p2 : Int) (Ex : Nat → Nat → MP) (Qj : Int → MP) : MP :=
  mbud bc bs fun mc3 ms3 =>
  mobj 1 this <|
  MX1_isNote mc3 ms3 this p1 p2 Ex <|
  mobj 1 this <|
  MX1_reads this fun v7 =>
  mif ((0 : Int) ≤ v7) (
    mgetA 1 this 5 fun v21 =>
    maldA 11 v21 p1 fun v25 =>
    maldI 0 v25 p2 fun v27 =>
    Qj v27
  ) (
    mgetI 1 this 14 fun v14 =>
    Qj v14
  )
def MX0_slip (bc : Nat) (bs : Nat) (p0 : Nat) (p1 : Int) (p2 : Int) (p3 : Nat) (Qj : Int → MP) : MP :=
  mbud bc bs fun mc5 ms5 =>
  mobj 1 p0 <|
  MX1_slip mc5 ms5 p0 p1 p2 (fun (xx5 xq5 : Nat) => mif (xx5 = 2) (   Qj 1 ) (   mbot )) fun v5 =>
  mastL p3 0 v5 <|
  Qj 0
def GX11_follows_92 (this : Nat) (p1 : Int) (Qj : MP) (rec92 : Int → Int → MP) (x2_92 : Int) (x3_92 : Int) : MP :=
  mif ((w32 (x2_92 + x3_92)) ≤ 0) (
    Qj
  ) (
    mgetA 11 this 24 fun v99 =>
    MX11_sumAt p1 x2_92 x3_92 fun v105 =>
    maldI 0 v99 v105 fun v108 =>
    mobj 11 this <|
    MX11_ofMove this x2_92 x3_92 p1 fun v117 =>
    mjoin (α := Int → Int → MP) (fun (x2_192 : Int) (x3_192 : Int) =>
      rec92 x2_192 x3_192
    ) fun k192 =>
    mif (v108 = v117) (
      mgetA 11 this 46 fun v130 =>
      mgetA 11 this 23 fun v135 =>
      MX11_fitAt (w32 (x2_92 + (-1))) p1 (w32 (x3_92 + (-1))) fun v141 =>
      maldI 0 v135 v141 fun v144 =>
      mastI v130 (w32 (x3_92 + (-1))) v144 <|
      mgetA 11 this 47 fun v147 =>
      mastI v147 (w32 (x2_92 + (-1))) (w32 (x3_92 + (-1))) <|
      k192 (w32 (x2_92 + (-1))) (w32 (x3_92 + (-1)))
    ) (
      mobj 11 this <|
      MX11_ofLost this x2_92 x3_92 p1 fun v162 =>
      mif (v108 = v162) (
        mgetA 11 this 47 fun v172 =>
        mastI v172 (w32 (x2_92 + (-1))) (-1) <|
        k192 (w32 (x2_92 + (-1))) x3_92
      ) (
        mgetA 11 this 46 fun v185 =>
        mastI v185 (w32 (x3_92 + (-1))) 7 <|
        k192 x2_92 (w32 (x3_92 + (-1)))
      )
    )
  )
def GX11_follows_45 (this : Nat) (p1 : Int) (x2_12 : Int) (k67 : MP) (rec45 : Int → MP) (x3_45 : Int) : MP :=
  mobj 11 this <|
  MX11_notes this p1 fun v48 =>
  mif (v48 ≤ x3_45) (
    k67
  ) (
    mobj 11 this <|
    MX11_tries this x2_12 p1 x3_45 <|
    rec45 (w32 (x3_45 + 1))
  )
def GX11_follows_12 (this : Nat) (p1 : Int) (k81 : MP) (rec12 : Int → MP) (x2_12 : Int) : MP :=
  mgetI 11 this 41 fun v14 =>
  mif (v14 ≤ x2_12) (
    k81
  ) (
    mgetA 11 this 21 fun v21 =>
    mgetA 11 this 38 fun v26 =>
    maldI 0 v26 x2_12 fun v30 =>
    mastI v21 x2_12 v30 <|
    mgetA 11 this 38 fun v35 =>
    maldI 0 v35 x2_12 fun v39 =>
    mobj 11 this <|
    MX11_makes this x2_12 v39 <|
    mex fun n45 => jit (GX11_follows_45 this p1 x2_12 (mobj 11 this <| MX11_sums this p1 (w32 (x2_12 + 1)) <| rec12 (w32 (x2_12 + 1)))) (fun _ => mbot) n45 0
  )
def MX11_follows (this : Nat) (p1 : Int) (Qj : MP) : MP :=
  mobj 11 this <|
  MX11_begins this <|
  mobj 11 this <|
  MX11_sums this p1 0 <|
  mex fun n12 => jit (GX11_follows_12 this p1 (mgetI 11 this 41 fun v82 => mobj 11 this <| MX11_notes this p1 fun v88 => mex fun n92 => jit (GX11_follows_92 this p1 Qj) (fun _ _ => mbot) n92 v82 v88)) (fun _ => mbot) n12 0
def MX11_slip (this : Nat) (p1 : Int) (p2 : Int) (Qj : Int → MP) : MP :=
  mputI 11 this 0 0 <|
  mobj 11 this <|
  MX11_noNote this p1 p2 fun v9 =>
  mobj 11 this <|
  MX11_throwsIf this v9 1 fun v13 =>
  mif (v13 = 0) (
    mobj 11 this <|
    MX11_asksWhole this fun v22 =>
    mif ((0 : Int) ≤ v22) (
      mobj 11 this <|
      MX11_follows this p1 <|
      mgetA 11 this 46 fun v38 =>
      maldI 0 v38 p2 fun v42 =>
      Qj v42
    ) (
      Qj v22
    )
  ) (
    Qj 0
  )
def GX1_slips_41 (this : Nat) (p1 : Int) (p2 : Int) (Qj : Int → MP) (v2 : Nat) (rec41 : Int → Int → MP) (x4_41 : Int) (x5_41 : Int) : MP :=
  mgetI 9 v2 2 fun v44 =>
  mif (v44 ≤ x5_41) (
    Qj x4_41
  ) (
    mgetA 1 this 5 fun v53 =>
    maldA 11 v53 p1 fun v57 =>
    maldI 0 v57 x5_41 fun v60 =>
    mjoin (α := Int → MP) (fun (s1_70 : Int) =>
      rec41 (w32 (x4_41 + s1_70)) (w32 (x5_41 + 1))
    ) fun k70 =>
    mif (v60 = p2) (
      k70 1
    ) (
      k70 0
    )
  )
def MX1_slips (bc : Nat) (bs : Nat) (this : Nat) (p1 : Int) (p2 : Int) (Ex : Nat → Nat → MP) (Qj : Int → MP) : MP :=
  mbud bc bs fun mc2 ms2 =>
  mobj 1 this <|
  MX1_bookAt mc2 ms2 this p1 Ex fun v2 =>
  mbud (bc - mc2) (bs - ms2) fun mc7 ms7 =>
  MX1_isSlip mc7 ms7 p2 Ex <|
  mobj 1 this <|
  MX1_reads this fun v11 =>
  mif ((0 : Int) ≤ v11) (
    mif (p2 = 6) (
      mgetA 1 this 9 fun v29 =>
      maldI 0 v29 p1 fun v33 =>
      Qj v33
    ) (
      mex fun n41 => jit (GX1_slips_41 this p1 p2 Qj v2) (fun _ _ => mbot) n41 0 0
    )
  ) (
    mgetI 1 this 14 fun v18 =>
    Qj v18
  )
def MX0_slips (bc : Nat) (bs : Nat) (p0 : Nat) (p1 : Int) (p2 : Int) (p3 : Nat) (Qj : Int → MP) : MP :=
  mbud bc bs fun mc5 ms5 =>
  mobj 1 p0 <|
  MX1_slips mc5 ms5 p0 p1 p2 (fun (xx5 xq5 : Nat) => mif (xx5 = 2) (   Qj 1 ) (   mbot )) fun v5 =>
  mastL p3 0 v5 <|
  Qj 0
def GX11_slips_100 (this : Nat) (p2 : Int) (Qj : Int → MP) (rec100 : Int → Int → MP) (x4_100 : Int) (x5_100 : Int) : MP :=
  mgetI 11 this 41 fun v103 =>
  mif (v103 ≤ x5_100) (
    Qj x4_100
  ) (
    mif (p2 = 6) (
      mgetA 11 this 47 fun v118 =>
      maldI 0 v118 x5_100 fun v123 =>
      mjoin (α := Int → MP) (fun (s1_132 : Int) =>
        rec100 (w32 (x4_100 + s1_132)) (w32 (x5_100 + 1))
      ) fun k132 =>
      mif ((0 : Int) ≤ v123) (
        k132 0
      ) (
        k132 1
      )
    ) (
      Qj x4_100
    )
  )
def GX11_slips_60 (this : Nat) (p1 : Int) (p2 : Int) (k97 : Int → MP) (rec60 : Int → Int → MP) (x4_60 : Int) (x5_60 : Int) : MP :=
  mobj 11 this <|
  MX11_notes this p1 fun v64 =>
  mif (v64 ≤ x5_60) (
    k97 x4_60
  ) (
    mgetA 11 this 46 fun v73 =>
    maldI 0 v73 x5_60 fun v78 =>
    mjoin (α := Int → MP) (fun (s1_88 : Int) =>
      rec60 (w32 (x4_60 + s1_88)) (w32 (x5_60 + 1))
    ) fun k88 =>
    mif (v78 = p2) (
      k88 1
    ) (
      k88 0
    )
  )
def MX11_slips (this : Nat) (p1 : Int) (p2 : Int) (Qj : Int → MP) : MP :=
  mputI 11 this 0 0 <|
  mobj 11 this <|
  MX11_noBook this p1 fun v8 =>
  mjoin (α := Int → MP) (fun (s1_29 : Int) =>
    mobj 11 this <|
    MX11_throwsIf this s1_29 1 fun v30 =>
    mif (v30 = 0) (
      mobj 11 this <|
      MX11_asksWhole this fun v39 =>
      mif ((0 : Int) ≤ v39) (
        mobj 11 this <|
        MX11_follows this p1 <|
        mex fun n60 => jit (GX11_slips_60 this p1 p2 (fun (y4_97 : Int) => mex fun n100 => jit (GX11_slips_100 this p2 Qj) (fun _ _ => mbot) n100 y4_97 0)) (fun _ _ => mbot) n60 0 0
      ) (
        Qj v39
      )
    ) (
      Qj 0
    )
  ) fun k29 =>
  mjoin (α := MP) (
    k29 1
  ) fun k24 =>
  mif (v8 = 0) (
    MX11_in p2 1 7 fun v18 =>
    mif (v18 = 0) (
      k24
    ) (
      k29 0
    )
  ) (
    k24
  )
def MX10_lets (this : Nat) (p1 : Int) (Qj : Int → MP) : MP :=
  mobj 10 this <|
  MX10_begins this (mshl 1 p1) 1 <|
  mobj 10 this <|
  MX10_walks this 0 <|
  mgetI 10 this 26 fun v14 =>
  mif (v14 = 0) (
    mgetI 10 this 20 fun v26 =>
    Qj v26
  ) (
    Qj (-2)
  )
def MX1_breaks (bc : Nat) (bs : Nat) (this : Nat) (p1 : Int) (Ex : Nat → Nat → MP) (Qj : Int → MP) : MP :=
  mbud bc bs fun mc2 ms2 =>
  mobj 1 this <|
  MX1_bookAt mc2 ms2 this p1 Ex fun v2 =>
  mgetA 1 this 4 fun v7 =>
  mobj 10 v7 <|
  MX10_lets v7 p1 fun v11 =>
  mgetI 9 v2 2 fun v17 =>
  mif (v11 = v17) (
    Qj (-3)
  ) (
    Qj v11
  )
def MX0_breaks (bc : Nat) (bs : Nat) (p0 : Nat) (p1 : Int) (p2 : Nat) (Qj : Int → MP) : MP :=
  mbud bc bs fun mc4 ms4 =>
  mobj 1 p0 <|
  MX1_breaks mc4 ms4 p0 p1 (fun (xx4 xq4 : Nat) => mif (xx4 = 2) (   Qj 1 ) (   mbot )) fun v4 =>
  mastL p2 0 v4 <|
  Qj 0
def GX11_breaks_33 (this : Nat) (k52 : MP) (rec33 : Int → MP) (x2_33 : Int) : MP :=
  mif ((8 : Int) ≤ x2_33) (
    k52
  ) (
    mgetA 11 this 20 fun v40 =>
    mastI v40 x2_33 0 <|
    rec33 (w32 (x2_33 + 1))
  )
def MX11_breaks (this : Nat) (p1 : Int) (Qj : Int → MP) : MP :=
  mputI 11 this 0 0 <|
  mobj 11 this <|
  MX11_noBook this p1 fun v8 =>
  mobj 11 this <|
  MX11_throwsIf this v8 1 fun v12 =>
  mif (v12 = 0) (
    mobj 11 this <|
    MX11_asksAll this <|
    mputI 11 this 18 (mshl 1 p1) <|
    mex fun n33 => jit (GX11_breaks_33 this (mputI 11 this 27 0 <| mputZ 11 this 29 0 <| mputZ 11 this 30 1 <| mputI 11 this 35 30 <| mobj 11 this <| MX11_laysAll this 0 <| mgetI 11 this 29 fun v79 => mif (v79 = 0) (   mgetI 11 this 28 fun v91 =>   mobj 11 this <|   MX11_notes this p1 fun v96 =>   mif (v91 = v96) (     Qj (-3)   ) (     mgetI 11 this 28 fun v108 =>     Qj v108   ) ) (   Qj (-2) ))) (fun _ => mbot) n33 0
  ) (
    Qj 0
  )
def GX1_brief_117 (this : Nat) (Qj : Int → MP) (v97 : Int) (v109 : Int) (rec117 : Int → Int → MP) (x4_117 : Int) (x5_117 : Int) : MP :=
  mif (v97 ≤ x5_117) (
    Qj x4_117
  ) (
    mgetA 1 this 11 fun v126 =>
    maldI 0 v126 x5_117 fun v131 =>
    mjoin (α := Int → MP) (fun (s1_180 : Int) =>
      rec117 (w32 (x4_117 + s1_180)) (w32 (x5_117 + 1))
    ) fun k180 =>
    mjoin (α := MP) (
      k180 0
    ) fun k179 =>
    mif ((Int.tmod v131 36) = (Int.tmod v109 36)) (
      mgetA 1 this 12 fun v143 =>
      mgetA 8 v143 0 fun v146 =>
      mgetA 1 this 11 fun v150 =>
      maldI 0 v150 x5_117 fun v155 =>
      maldI 0 v146 (w32 (Int.tdiv v155 36)) fun v159 =>
      mgetA 1 this 12 fun v161 =>
      mgetA 8 v161 0 fun v164 =>
      maldI 0 v164 (w32 (Int.tdiv v109 36)) fun v171 =>
      mif (v159 = v171) (
        k180 1
      ) (
        k179
      )
    ) (
      k179
    )
  )
def GX1_brief_54 (this : Nat) (p1 : Int) (k82 : MP) (rec54 : Int → MP) (x2_54 : Int) : MP :=
  mif (p1 ≤ x2_54) (
    k82
  ) (
    mgetA 1 this 12 fun v60 =>
    mgetA 1 this 3 fun v64 =>
    mgetA 10 v64 6 fun v67 =>
    maldI 0 v67 x2_54 fun v71 =>
    mobj 8 v60 <|
    MX8_goes v60 v71 fun v72 =>
    rec54 (w32 (x2_54 + 1))
  )
def MX1_brief (bc : Nat) (bs : Nat) (this : Nat) (p1 : Int) (Ex : Nat → Nat → MP) (Qj : Int → MP) : MP :=
  mjoin (α := Int → MP) (fun (s0_9 : Int) =>
    mbud bc bs fun mc9 ms9 =>
    MX1_must mc9 ms9 s0_9 Ex <|
    mobj 1 this <|
    MX1_reads this fun v13 =>
    mif ((0 : Int) ≤ v13) (
      mgetA 1 this 3 fun v26 =>
      mgetI 10 v26 16 fun v29 =>
      mif (p1 < v29) (
        mgetA 1 this 12 fun v39 =>
        mgetA 1 this 1 fun v43 =>
        mgetA 7 v43 1 fun v46 =>
        mobj 8 v39 <|
        MX8_be v39 v46 <|
        mex fun n54 => jit (GX1_brief_54 this p1 (mgetA 1 this 4 fun v83 => mgetA 1 this 12 fun v87 => mgetA 1 this 11 fun v94 => mobj 10 v83 <| MX10_gathers v83 v87 (Int.tmod p1 2) v94 fun v97 => mgetA 1 this 3 fun v102 => mgetA 10 v102 6 fun v105 => maldI 0 v105 p1 fun v109 => mex fun n117 => jit (GX1_brief_117 this Qj v97 v109) (fun _ _ => mbot) n117 0 0)) (fun _ => mbot) n54 0
      ) (
        Qj (-3)
      )
    ) (
      mgetI 1 this 14 fun v20 =>
      Qj v20
    )
  ) fun k9 =>
  mif (p1 < 0) (
    k9 0
  ) (
    k9 1
  )
def MX0_brief (bc : Nat) (bs : Nat) (p0 : Nat) (p1 : Int) (p2 : Nat) (Qj : Int → MP) : MP :=
  mbud bc bs fun mc4 ms4 =>
  mobj 1 p0 <|
  MX1_brief mc4 ms4 p0 p1 (fun (xx4 xq4 : Nat) => mif (xx4 = 0) (   Qj 1 ) (   mbot )) fun v4 =>
  mastL p2 0 v4 <|
  Qj 0
def GX11_brief_105 (this : Nat) (p1 : Int) (Qj : Int → MP) (v93 : Int) (rec105 : Int → Int → MP) (x4_105 : Int) (x5_105 : Int) : MP :=
  mif ((36 : Int) ≤ x5_105) (
    Qj x4_105
  ) (
    mgetA 11 this 17 fun v115 =>
    mgetA 11 this 38 fun v130 =>
    maldI 0 v130 p1 fun v134 =>
    maldI 1 v115 (w32 ((w32 ((w32 (1296 * p1)) + (w32 (36 * x5_105)))) + (Int.tmod v134 36))) fun v139 =>
    mjoin (α := Int → MP) (fun (s1_161 : Int) =>
      rec105 (w32 (x4_105 + s1_161)) (w32 (x5_105 + 1))
    ) fun k161 =>
    mjoin (α := MP) (
      k161 0
    ) fun k160 =>
    mif (v139 = 0) (
      k160
    ) (
      mobj 11 this <|
      MX11_at this p1 x5_105 fun v147 =>
      mif ((w32 (Int.tdiv v147 2)) = (w32 (Int.tdiv v93 2))) (
        k161 1
      ) (
        k160
      )
    )
  )
def GX11_brief_52 (this : Nat) (p1 : Int) (k74 : MP) (rec52 : Int → MP) (x3_52 : Int) : MP :=
  mif (p1 ≤ x3_52) (
    k74
  ) (
    mgetA 11 this 38 fun v60 =>
    maldI 0 v60 x3_52 fun v64 =>
    mobj 11 this <|
    MX11_makes this x3_52 v64 <|
    rec52 (w32 (x3_52 + 1))
  )
def MX11_brief (this : Nat) (p1 : Int) (Qj : Int → MP) : MP :=
  mputI 11 this 0 0 <|
  mjoin (α := Int → MP) (fun (s1_15 : Int) =>
    mobj 11 this <|
    MX11_throwsIf this s1_15 1 fun v16 =>
    mif (v16 = 0) (
      mobj 11 this <|
      MX11_asksWhole this fun v25 =>
      mif ((0 : Int) ≤ v25) (
        mgetI 11 this 41 fun v37 =>
        mif (p1 < v37) (
          mobj 11 this <|
          MX11_begins this <|
          mex fun n52 => jit (GX11_brief_52 this p1 (mobj 11 this <| MX11_finds this p1 (Int.tmod p1 2) <| mgetA 11 this 38 fun v85 => maldI 0 v85 p1 fun v89 => mobj 11 this <| MX11_at this p1 (w32 (Int.tdiv v89 36)) fun v93 => mex fun n105 => jit (GX11_brief_105 this p1 Qj v93) (fun _ _ => mbot) n105 0 0)) (fun _ => mbot) n52 0
        ) (
          Qj (-3)
        )
      ) (
        Qj v25
      )
    ) (
      Qj 0
    )
  ) fun k15 =>
  mif ((0 : Int) ≤ p1) (
    k15 0
  ) (
    k15 1
  )
def GX1_part_28 (this : Nat) (Qj : Int → MP) (rec28 : Int → MP) (x1_28 : Int) : MP :=
  mgetA 1 this 3 fun v30 =>
  mgetI 10 v30 16 fun v33 =>
  mif (v33 ≤ x1_28) (
    Qj x1_28
  ) (
    mgetA 1 this 3 fun v41 =>
    mgetI 10 v41 17 fun v44 =>
    mif (v44 ≤ x1_28) (
      Qj x1_28
    ) (
      mgetA 1 this 3 fun v51 =>
      mgetA 10 v51 6 fun v54 =>
      maldI 0 v54 x1_28 fun v58 =>
      mgetA 1 this 3 fun v60 =>
      mgetA 10 v60 7 fun v63 =>
      maldI 0 v63 x1_28 fun v67 =>
      mif (v58 = v67) (
        rec28 (w32 (x1_28 + 1))
      ) (
        Qj x1_28
      )
    )
  )
def MX1_part (this : Nat) (Qj : Int → MP) : MP :=
  mobj 1 this <|
  MX1_reads this fun v1 =>
  mif ((0 : Int) ≤ v1) (
    mgetA 1 this 3 fun v13 =>
    mgetI 10 v13 15 fun v16 =>
    mif ((2 : Int) ≤ v16) (
      mex fun n28 => jit (GX1_part_28 this Qj) (fun _ => mbot) n28 0
    ) (
      Qj (-3)
    )
  ) (
    mgetI 1 this 14 fun v8 =>
    Qj v8
  )
def GX11_part_29 (this : Nat) (Qj : Int → MP) (rec29 : Int → MP) (x2_29 : Int) : MP :=
  mgetI 11 this 41 fun v31 =>
  mif (v31 ≤ x2_29) (
    Qj x2_29
  ) (
    mgetI 11 this 42 fun v39 =>
    mif (v39 ≤ x2_29) (
      Qj x2_29
    ) (
      mgetA 11 this 38 fun v46 =>
      maldI 0 v46 x2_29 fun v50 =>
      mgetA 11 this 39 fun v52 =>
      maldI 0 v52 x2_29 fun v56 =>
      mif (v50 = v56) (
        rec29 (w32 (x2_29 + 1))
      ) (
        Qj x2_29
      )
    )
  )
def MX11_part (this : Nat) (Qj : Int → MP) : MP :=
  mputI 11 this 0 0 <|
  mobj 11 this <|
  MX11_asksWhole this fun v6 =>
  mif ((0 : Int) ≤ v6) (
    mgetI 11 this 37 fun v17 =>
    mif ((2 : Int) ≤ v17) (
      mex fun n29 => jit (GX11_part_29 this Qj) (fun _ => mbot) n29 0
    ) (
      Qj (-3)
    )
  ) (
    Qj v6
  )
def MX1_best (bc : Nat) (bs : Nat) (this : Nat) (p1 : Int) (Ex : Nat → Nat → MP) (Qj : Int → MP) : MP :=
  mjoin (α := Int → MP) (fun (s0_10 : Int) =>
    mbud bc bs fun mc10 ms10 =>
    MX1_must mc10 ms10 s0_10 Ex <|
    mgetA 1 this 4 fun v14 =>
    mputZ 10 v14 29 1 <|
    mgetA 1 this 4 fun v22 =>
    mobj 1 this <|
    MX1_allBooks this fun v26 =>
    mobj 10 v22 <|
    MX10_least v22 v26 fun v29 =>
    mgetA 1 this 4 fun v34 =>
    mputZ 10 v34 29 0 <|
    mif ((0 : Int) ≤ v29) (
      mif (p1 = (-1)) (
        mgetA 1 this 4 fun v53 =>
        mgetI 10 v53 19 fun v56 =>
        Qj v56
      ) (
        mgetA 1 this 4 fun v64 =>
        mgetI 10 v64 18 fun v67 =>
        mif (v67 ≤ p1) (
          Qj (-3)
        ) (
          mgetA 1 this 4 fun v74 =>
          mgetA 10 v74 8 fun v77 =>
          maldI 0 v77 p1 fun v81 =>
          Qj v81
        )
      )
    ) (
      Qj v29
    )
  ) fun k10 =>
  mif (p1 < (-1)) (
    k10 0
  ) (
    k10 1
  )
def MX0_best (bc : Nat) (bs : Nat) (p0 : Nat) (p1 : Int) (p2 : Nat) (Qj : Int → MP) : MP :=
  mbud bc bs fun mc4 ms4 =>
  mobj 1 p0 <|
  MX1_best mc4 ms4 p0 p1 (fun (xx4 xq4 : Nat) => mif (xx4 = 0) (   Qj 1 ) (   mbot )) fun v4 =>
  mastL p2 0 v4 <|
  Qj 0
def MX11_best (this : Nat) (p1 : Int) (Qj : Int → MP) : MP :=
  mputI 11 this 0 0 <|
  mjoin (α := Int → MP) (fun (s1_16 : Int) =>
    mobj 11 this <|
    MX11_throwsIf this s1_16 1 fun v17 =>
    mif (v17 = 0) (
      mobj 11 this <|
      MX11_asksWhole this fun v26 =>
      mif ((0 : Int) ≤ v26) (
        mif ((0 : Int) ≤ p1) (
          mgetI 11 this 43 fun v51 =>
          mif (v51 ≤ p1) (
            Qj (-3)
          ) (
            mgetA 11 this 40 fun v58 =>
            maldI 0 v58 p1 fun v62 =>
            Qj v62
          )
        ) (
          mgetI 11 this 44 fun v43 =>
          Qj v43
        )
      ) (
        Qj v26
      )
    ) (
      Qj 0
    )
  ) fun k16 =>
  mif (((-1) : Int) ≤ p1) (
    k16 0
  ) (
    k16 1
  )
def GX10_weigh_29 (this : Nat) (p2 : Int) (p4 : Int) (k82 : MP) (rec29 : Int → MP) (x5_29 : Int) : MP :=
  mif ((w32 (p2 + p4)) < x5_29) (
    k82
  ) (
    mgetI 10 this 26 fun v39 =>
    mif (v39 = 0) (
      mjoin (α := Int → MP) (fun (s1_67 : Int) =>
        mputI 10 this 25 s1_67 <|
        mobj 10 this <|
        MX10_walks this x5_29 <|
        rec29 (w32 (x5_29 + 1))
      ) fun k67 =>
      mif (p2 ≤ x5_29) (
        k67 (mlshl 1 (w32 (2 * (w32 ((w32 (p2 + p4)) - x5_29)))))
      ) (
        k67 0
      )
    ) (
      k82
    )
  )
def MX10_weigh (this : Nat) (p1 : Int) (p2 : Int) (p3 : Int) (p4 : Int) (Qj : Int → MP) : MP :=
  mobj 10 this <|
  MX10_begins this p1 0 <|
  mputZ 10 this 28 1 <|
  mputI 10 this 21 p3 <|
  mputI 10 this 23 0 <|
  mputI 10 this 24 0 <|
  mex fun n29 => jit (GX10_weigh_29 this p2 p4 (mputZ 10 this 28 0 <| mgetI 10 this 26 fun v88 => mif (v88 = 0) (   Qj 1 ) (   Qj 0 ))) (fun _ => mbot) n29 0
def GX1_common_6 (Qj : Int → MP) (rec6 : Int → Int → MP) (x4_6 : Int) (x6_6 : Int) : MP :=
  mif ((mcmp x6_6 0) = 0) (
    Qj x4_6
  ) (
    mand (¬ x6_6 = 0) <|
    rec6 x6_6 (Int.tmod x4_6 x6_6)
  )
def MX1_common (p0 : Int) (p2 : Int) (Qj : Int → MP) : MP :=
  mex fun n6 => jit (GX1_common_6 Qj) (fun _ _ => mbot) n6 p0 p2
def MX1_odds (bc : Nat) (bs : Nat) (this : Nat) (p1 : Int) (p2 : Int) (p3 : Int) (Ex : Nat → Nat → MP) (Qj : Int → MP) : MP :=
  mjoin (α := Int → MP) (fun (s0_18 : Int) =>
    mbud bc bs fun mc18 ms18 =>
    MX1_must mc18 ms18 s0_18 Ex <|
    mobj 1 this <|
    MX1_reads this fun v22 =>
    mif ((0 : Int) ≤ v22) (
      mgetA 1 this 3 fun v35 =>
      mgetA 10 v35 6 fun v38 =>
      mgetA 1 this 4 fun v43 =>
      mgetA 10 v43 6 fun v46 =>
      mgetA 1 this 3 fun v51 =>
      mgetI 10 v51 16 fun v54 =>
      mcpyI v38 0 v46 0 v54 <|
      mgetA 1 this 4 fun v61 =>
      mobj 1 this <|
      MX1_allBooks this fun v65 =>
      mgetI 1 this 14 fun v69 =>
      mobj 10 v61 <|
      MX10_weigh v61 v65 v69 p1 p2 fun v74 =>
      mif (v74 = 0) (
        Qj (-2)
      ) (
        mgetA 1 this 3 fun v86 =>
        mgetI 10 v86 16 fun v89 =>
        mif (p1 < v89) (
          mgetA 1 this 4 fun v100 =>
          mgetL 10 v100 23 fun v103 =>
          mgetA 1 this 4 fun v107 =>
          mgetL 10 v107 24 fun v110 =>
          MX1_common v103 v110 fun v113 =>
          mif (p3 = 0) (
            mgetA 1 this 4 fun v136 =>
            mgetL 10 v136 23 fun v139 =>
            mand (¬ v113 = 0) <|
            Qj (w64 (Int.tdiv v139 v113))
          ) (
            mgetA 1 this 4 fun v123 =>
            mgetL 10 v123 24 fun v126 =>
            mand (¬ v113 = 0) <|
            Qj (w64 (Int.tdiv v126 v113))
          )
        ) (
          Qj (-3)
        )
      )
    ) (
      mgetI 1 this 14 fun v29 =>
      Qj v29
    )
  ) fun k18 =>
  mjoin (α := MP) (
    k18 0
  ) fun k17 =>
  mif (p1 < 0) (
    k17
  ) (
    MX1_isIn p2 0 2 fun v7 =>
    mif (v7 = 0) (
      k17
    ) (
      k18 1
    )
  )
def MX0_odds (bc : Nat) (bs : Nat) (p0 : Nat) (p1 : Int) (p2 : Int) (p3 : Int) (p4 : Nat) (Qj : Int → MP) : MP :=
  mbud bc bs fun mc7 ms7 =>
  mobj 1 p0 <|
  MX1_odds mc7 ms7 p0 p1 p2 p3 (fun (xx7 xq7 : Nat) => mif (xx7 = 0) (   Qj 1 ) (   mbot )) fun v7 =>
  mastL p4 0 v7 <|
  Qj 0
def GX11_common_6 (Qj : Int → MP) (rec6 : Int → Int → MP) (x4_6 : Int) (x6_6 : Int) : MP :=
  mif ((mcmp x6_6 0) ≤ 0) (
    Qj x4_6
  ) (
    mand (¬ x6_6 = 0) <|
    rec6 x6_6 (Int.tmod x4_6 x6_6)
  )
def MX11_common (p0 : Int) (p2 : Int) (Qj : Int → MP) : MP :=
  mex fun n6 => jit (GX11_common_6 Qj) (fun _ _ => mbot) n6 p0 p2
def GX11_odds_152 (this : Nat) (p2 : Int) (v34 : Int) (k210 : Int → Int → MP) (rec152 : Int → Int → Int → MP) (x5_152 : Int) (x7_152 : Int) (x9_152 : Int) : MP :=
  mif ((w32 (v34 + p2)) < x9_152) (
    k210 x5_152 x7_152
  ) (
    mgetA 11 this 34 fun v179 =>
    maldL v179 x9_152 fun v184 =>
    mgetA 11 this 33 fun v194 =>
    maldL v194 x9_152 fun v199 =>
    rec152 (w64 (x5_152 + (w64 ((mlshl 1 (w32 (2 * (w32 ((w32 (v34 + p2)) - x9_152))))) * v184)))) (w64 (x7_152 + (w64 ((mlshl 1 (w32 (2 * (w32 ((w32 (v34 + p2)) - x9_152))))) * v199)))) (w32 (x9_152 + 1))
  )
def GX11_odds_99 (this : Nat) (p2 : Int) (Qj : Int → MP) (v34 : Int) (k131 : MP) (rec99 : Int → MP) (x5_99 : Int) : MP :=
  mif ((w32 (v34 + p2)) < x5_99) (
    k131
  ) (
    mobj 11 this <|
    MX11_laysAll this x5_99 <|
    mgetI 11 this 29 fun v115 =>
    mif (v115 = 0) (
      rec99 (w32 (x5_99 + 1))
    ) (
      Qj (-2)
    )
  )
def MX11_odds (this : Nat) (p1 : Int) (p2 : Int) (p3 : Int) (Qj : Int → MP) : MP :=
  mputI 11 this 0 0 <|
  mjoin (α := Int → MP) (fun (s1_24 : Int) =>
    mobj 11 this <|
    MX11_throwsIf this s1_24 1 fun v25 =>
    mif (v25 = 0) (
      mobj 11 this <|
      MX11_asksWhole this fun v34 =>
      mif ((0 : Int) ≤ v34) (
        mputI 11 this 35 p1 <|
        mgetI 11 this 41 fun v56 =>
        mjoin (α := Int → MP) (fun (s1_72 : Int) =>
          mputI 11 this 36 s1_72 <|
          mjoin (α := MP) (
            mjoin (α := Int → MP) (fun (s0_97 : Int) =>
              mex fun n99 => jit (GX11_odds_99 this p2 Qj v34 (mgetI 11 this 36 fun v132 => mif ((0 : Int) ≤ v132) (   mex fun n152 => jit (GX11_odds_152 this p2 v34 (fun (y5_210 : Int) (y7_210 : Int) => MX11_common y5_210 y7_210 fun v214 => mif (p3 = 0) (   mand (¬ v214 = 0) <|   Qj (w64 (Int.tdiv y5_210 v214)) ) (   mand (¬ v214 = 0) <|   Qj (w64 (Int.tdiv y7_210 v214)) ))) (fun _ _ _ => mbot) n152 0 0 v34 ) (   Qj (-3) ))) (fun _ => mbot) n99 s0_97
            ) fun k97 =>
            mif (p2 = 0) (
              k97 v34
            ) (
              k97 (w32 (v34 + 1))
            )
          ) fun k84 =>
          mif (p2 = 0) (
            mputI 11 this 27 0 <|
            k84
          ) (
            k84
          )
        ) fun k72 =>
        mif (v56 ≤ p1) (
          k72 (-1)
        ) (
          mgetA 11 this 38 fun v63 =>
          maldI 0 v63 p1 fun v67 =>
          k72 v67
        )
      ) (
        Qj v34
      )
    ) (
      Qj 0
    )
  ) fun k24 =>
  mjoin (α := MP) (
    k24 1
  ) fun k19 =>
  mif (p1 < 0) (
    k19
  ) (
    MX11_in p2 0 2 fun v13 =>
    mif (v13 = 0) (
      k19
    ) (
      k24 0
    )
  )
def GX1_shared_35 (this : Nat) (p1 : Int) (p2 : Int) (v2 : Nat) (v9 : Nat) (k181 : Int → Int → MP) (rec35 : Int → Int → Int → MP) (x6_35 : Int) (x7_35 : Int) (x8_35 : Int) : MP :=
  mgetA 1 this 3 fun v38 =>
  mgetI 10 v38 16 fun v41 =>
  mif (v41 ≤ x8_35) (
    k181 x6_35 x7_35
  ) (
    mgetA 1 this 6 fun v48 =>
    maldA 11 v48 p1 fun v52 =>
    maldI 0 v52 x8_35 fun v55 =>
    mgetA 1 this 6 fun v59 =>
    maldA 11 v59 p2 fun v63 =>
    maldI 0 v63 x8_35 fun v66 =>
    mjoin (α := Int → MP) (fun (s0_88 : Int) =>
      mjoin (α := Int → MP) (fun (s0_109 : Int) =>
        mjoin (α := Int → MP) (fun (s1_152 : Int) =>
          mjoin (α := Int → MP) (fun (s1_172 : Int) =>
            rec35 (w32 (x6_35 + s1_152)) (w32 (x7_35 + s1_172)) (w32 (x8_35 + 1))
          ) fun k172 =>
          mjoin (α := MP) (
            k172 0
          ) fun k171 =>
          mif (s0_109 ≤ 0) (
            k171
          ) (
            mif (s0_88 = 0) (
              k172 1
            ) (
              k171
            )
          )
        ) fun k152 =>
        mjoin (α := MP) (
          k152 0
        ) fun k151 =>
        mif (s0_88 ≤ 0) (
          k151
        ) (
          mif (s0_88 = s0_109) (
            mgetA 9 v2 0 fun v127 =>
            maldA 10 v127 v55 fun v132 =>
            mgetA 9 v9 0 fun v135 =>
            maldA 10 v135 v66 fun v140 =>
            mobj 23 v132 <|
            MX23_isNearly v132 v140 fun v141 =>
            mif (v141 = 0) (
              k151
            ) (
              k152 1
            )
          ) (
            k151
          )
        )
      ) fun k109 =>
      mif (v66 = (-1)) (
        k109 0
      ) (
        mgetA 1 this 5 fun v101 =>
        maldA 11 v101 p2 fun v105 =>
        maldI 0 v105 v66 fun v108 =>
        k109 v108
      )
    ) fun k88 =>
    mif (v55 = (-1)) (
      k88 0
    ) (
      mgetA 1 this 5 fun v80 =>
      maldA 11 v80 p1 fun v84 =>
      maldI 0 v84 v55 fun v87 =>
      k88 v87
    )
  )
def MX1_shared (bc : Nat) (bs : Nat) (this : Nat) (p1 : Int) (p2 : Int) (p3 : Int) (Ex : Nat → Nat → MP) (Qj : Int → MP) : MP :=
  mbud bc bs fun mc2 ms2 =>
  mobj 1 this <|
  MX1_bookAt mc2 ms2 this p1 Ex fun v2 =>
  mbud (bc - mc2) (bs - ms2) fun mc9 ms9 =>
  mobj 1 this <|
  MX1_bookAt mc9 ms9 this p2 Ex fun v9 =>
  mobj 1 this <|
  MX1_reads this fun v15 =>
  mif ((0 : Int) ≤ v15) (
    mex fun n35 => jit (GX1_shared_35 this p1 p2 v2 v9 (fun (y6_181 : Int) (y7_181 : Int) => mif (p3 = 0) (   Qj y6_181 ) (   mif (y6_181 ≤ y7_181) (     Qj 0   ) (     Qj 1   ) ))) (fun _ _ _ => mbot) n35 0 0 0
  ) (
    mgetI 1 this 14 fun v22 =>
    Qj v22
  )
def MX0_shared (bc : Nat) (bs : Nat) (p0 : Nat) (p1 : Int) (p2 : Int) (p3 : Int) (p4 : Nat) (Qj : Int → MP) : MP :=
  mbud bc bs fun mc7 ms7 =>
  mobj 1 p0 <|
  MX1_shared mc7 ms7 p0 p1 p2 p3 (fun (xx7 xq7 : Nat) => mif (xx7 = 2) (   Qj 1 ) (   mbot )) fun v7 =>
  mastL p4 0 v7 <|
  Qj 0
def MX11_isSlip (p0 : Int) (Qj : Int → MP) : MP :=
  MX11_in p0 1 5 fun v3 =>
  mand (v3 = 0 ∨ v3 = 1) (
    Qj v3
  )
def GX11_shared_134 (this : Nat) (p1 : Int) (p2 : Int) (k302 : Int → Int → MP) (rec134 : Int → Int → Int → MP) (x5_134 : Int) (x6_134 : Int) (x7_134 : Int) : MP :=
  mgetI 11 this 41 fun v137 =>
  mif (v137 ≤ x7_134) (
    k302 x5_134 x6_134
  ) (
    mgetA 11 this 49 fun v144 =>
    maldI 0 v144 x7_134 fun v149 =>
    mgetA 11 this 47 fun v153 =>
    maldI 0 v153 x7_134 fun v158 =>
    mjoin (α := Int → Int → MP) (fun (x5_296 : Int) (x6_296 : Int) =>
      rec134 x5_296 x6_296 (w32 (x7_134 + 1))
    ) fun k296 =>
    mif (v158 < 0) (
      k296 x5_134 x6_134
    ) (
      mgetA 11 this 46 fun v167 =>
      maldI 0 v167 v158 fun v172 =>
      MX11_isSlip v172 fun v173 =>
      mif (v173 = 0) (
        k296 x5_134 x6_134
      ) (
        mjoin (α := Int → MP) (fun (s1_204 : Int) =>
          mjoin (α := Int → MP) (fun (s1_293 : Int) =>
            k296 (w32 (x5_134 + s1_293)) (w32 (x6_134 + s1_204))
          ) fun k293 =>
          mjoin (α := MP) (
            k293 0
          ) fun k292 =>
          mif (v149 < 0) (
            k292
          ) (
            mgetA 11 this 48 fun v215 =>
            maldI 0 v215 v149 fun v220 =>
            mgetA 11 this 46 fun v222 =>
            maldI 0 v222 v158 fun v227 =>
            mif (v220 = v227) (
              mobj 11 this <|
              MX11_ofNote this p1 v149 0 fun v236 =>
              mobj 11 this <|
              MX11_ofNote this p2 v158 0 fun v244 =>
              mif (v236 = v244) (
                mobj 11 this <|
                MX11_ofNote this p1 v149 2 fun v255 =>
                mobj 11 this <|
                MX11_ofNote this p2 v158 2 fun v263 =>
                mif (v255 = v263) (
                  mobj 11 this <|
                  MX11_ofNote this p1 v149 3 fun v274 =>
                  mobj 11 this <|
                  MX11_ofNote this p2 v158 3 fun v282 =>
                  mif (v274 = v282) (
                    k293 1
                  ) (
                    k292
                  )
                ) (
                  k292
                )
              ) (
                k292
              )
            ) (
              k292
            )
          )
        ) fun k204 =>
        mjoin (α := MP) (
          k204 1
        ) fun k199 =>
        mif (v149 < 0) (
          k199
        ) (
          mgetA 11 this 48 fun v190 =>
          maldI 0 v190 v149 fun v195 =>
          mif (v195 = 0) (
            k199
          ) (
            k204 0
          )
        )
      )
    )
  )
def GX11_shared_91 (this : Nat) (k120 : MP) (rec91 : Int → MP) (x5_91 : Int) : MP :=
  mgetI 11 this 41 fun v94 =>
  mif (v94 ≤ x5_91) (
    k120
  ) (
    mgetA 11 this 49 fun v101 =>
    mgetA 11 this 47 fun v107 =>
    maldI 0 v107 x5_91 fun v112 =>
    mastI v101 x5_91 v112 <|
    rec91 (w32 (x5_91 + 1))
  )
def GX11_shared_58 (this : Nat) (p1 : Int) (k88 : MP) (rec58 : Int → MP) (x5_58 : Int) : MP :=
  mobj 11 this <|
  MX11_notes this p1 fun v62 =>
  mif (v62 ≤ x5_58) (
    k88
  ) (
    mgetA 11 this 48 fun v69 =>
    mgetA 11 this 46 fun v75 =>
    maldI 0 v75 x5_58 fun v80 =>
    mastI v69 x5_58 v80 <|
    rec58 (w32 (x5_58 + 1))
  )
def MX11_shared (this : Nat) (p1 : Int) (p2 : Int) (p3 : Int) (Qj : Int → MP) : MP :=
  mputI 11 this 0 0 <|
  mobj 11 this <|
  MX11_noBook this p1 fun v8 =>
  mjoin (α := Int → MP) (fun (s1_27 : Int) =>
    mobj 11 this <|
    MX11_throwsIf this s1_27 1 fun v28 =>
    mif (v28 = 0) (
      mobj 11 this <|
      MX11_asksWhole this fun v37 =>
      mif ((0 : Int) ≤ v37) (
        mobj 11 this <|
        MX11_follows this p1 <|
        mex fun n58 => jit (GX11_shared_58 this p1 (mex fun n91 => jit (GX11_shared_91 this (mobj 11 this <| MX11_follows this p2 <| mex fun n134 => jit (GX11_shared_134 this p1 p2 (fun (y5_302 : Int) (y6_302 : Int) => mif (p3 = 0) (   Qj y5_302 ) (   mif (y5_302 ≤ y6_302) (     Qj 0   ) (     Qj 1   ) ))) (fun _ _ _ => mbot) n134 0 0 0)) (fun _ => mbot) n91 0)) (fun _ => mbot) n58 0
      ) (
        Qj v37
      )
    ) (
      Qj 0
    )
  ) fun k27 =>
  mjoin (α := MP) (
    k27 1
  ) fun k22 =>
  mif (v8 = 0) (
    mobj 11 this <|
    MX11_noBook this p2 fun v16 =>
    mif (v16 = 0) (
      k27 0
    ) (
      k22
    )
  ) (
    k22
  )
def GX1_alike_31 (this : Nat) (v2 : Nat) (v8 : Nat) (x5_19 : Int) (k162 : MP) (rec31 : Int → MP) (x6_31 : Int) : MP :=
  mif (x6_31 < 0) (
    k162
  ) (
    mgetI 9 v2 2 fun v39 =>
    mjoin (α := MP) (
      rec31 (w32 (x6_31 + (-1)))
    ) fun k156 =>
    mjoin (α := MP) (
      mgetA 1 this 8 fun v56 =>
      maldA 11 v56 x5_19 fun v61 =>
      mastI v61 x6_31 0 <|
      k156
    ) fun k55 =>
    mif (x5_19 = v39) (
      k55
    ) (
      mgetI 9 v8 2 fun v49 =>
      mif (x6_31 = v49) (
        k55
      ) (
        mgetA 9 v2 0 fun v70 =>
        maldA 10 v70 x5_19 fun v75 =>
        mgetA 9 v8 0 fun v78 =>
        maldA 10 v78 x6_31 fun v83 =>
        mobj 23 v75 <|
        MX23_isLike v75 v83 fun v84 =>
        mif (v84 = 0) (
          mgetA 1 this 8 fun v120 =>
          maldA 11 v120 x5_19 fun v125 =>
          mgetA 1 this 8 fun v129 =>
          maldA 11 v129 (w32 (x5_19 + 1)) fun v136 =>
          maldI 0 v136 x6_31 fun v139 =>
          mgetA 1 this 8 fun v141 =>
          maldA 11 v141 x5_19 fun v146 =>
          maldI 0 v146 (w32 (x6_31 + 1)) fun v151 =>
          mastI v125 x6_31 (max v139 v151) <|
          k156
        ) (
          mgetA 1 this 8 fun v91 =>
          maldA 11 v91 x5_19 fun v96 =>
          mgetA 1 this 8 fun v100 =>
          maldA 11 v100 (w32 (x5_19 + 1)) fun v107 =>
          maldI 0 v107 (w32 (x6_31 + 1)) fun v112 =>
          mastI v96 x6_31 (w32 (v112 + 1)) <|
          k156
        )
      )
    )
  )
def GX1_alike_19 (this : Nat) (v2 : Nat) (v8 : Nat) (k168 : MP) (rec19 : Int → MP) (x5_19 : Int) : MP :=
  mif (x5_19 < 0) (
    k168
  ) (
    mgetI 9 v8 2 fun v26 =>
    mex fun n31 => jit (GX1_alike_31 this v2 v8 x5_19 (rec19 (w32 (x5_19 + (-1))))) (fun _ => mbot) n31 v26
  )
def MX1_alike (bc : Nat) (bs : Nat) (this : Nat) (p1 : Int) (p2 : Int) (Ex : Nat → Nat → MP) (Qj : Int → MP) : MP :=
  mbud bc bs fun mc2 ms2 =>
  mobj 1 this <|
  MX1_bookAt mc2 ms2 this p1 Ex fun v2 =>
  mbud (bc - mc2) (bs - ms2) fun mc8 ms8 =>
  mobj 1 this <|
  MX1_bookAt mc8 ms8 this p2 Ex fun v8 =>
  mgetI 9 v2 2 fun v14 =>
  mex fun n19 => jit (GX1_alike_19 this v2 v8 (mgetA 1 this 8 fun v169 => maldA 11 v169 0 fun v173 => maldI 0 v173 0 fun v175 => Qj v175)) (fun _ => mbot) n19 v14
def MX0_alike (bc : Nat) (bs : Nat) (p0 : Nat) (p1 : Int) (p2 : Int) (p3 : Nat) (Qj : Int → MP) : MP :=
  mbud bc bs fun mc5 ms5 =>
  mobj 1 p0 <|
  MX1_alike mc5 ms5 p0 p1 p2 (fun (xx5 xq5 : Nat) => mif (xx5 = 2) (   Qj 1 ) (   mbot )) fun v5 =>
  mastL p3 0 v5 <|
  Qj 0
def GX11_alike_84 (this : Nat) (p1 : Int) (p2 : Int) (x4_42 : Int) (x5_55 : Int) (k133 : Int → MP) (rec84 : Int → Int → MP) (x7_84 : Int) (x8_84 : Int) : MP :=
  mif ((4 : Int) ≤ x8_84) (
    k133 x7_84
  ) (
    mjoin (α := Int → MP) (fun (s0_125 : Int) =>
      rec84 s0_125 (w32 (x8_84 + 1))
    ) fun k125 =>
    mjoin (α := MP) (
      k125 0
    ) fun k124 =>
    mif (x7_84 = 0) (
      k124
    ) (
      mobj 11 this <|
      MX11_ofNote this p1 (w32 (x4_42 - 1)) x8_84 fun v103 =>
      mobj 11 this <|
      MX11_ofNote this p2 (w32 (x5_55 - 1)) x8_84 fun v114 =>
      mif (v103 = v114) (
        k125 1
      ) (
        k124
      )
    )
  )
def GX11_alike_55 (this : Nat) (p1 : Int) (p2 : Int) (x4_42 : Int) (k212 : MP) (rec55 : Int → MP) (x5_55 : Int) : MP :=
  mobj 11 this <|
  MX11_notes this p2 fun v59 =>
  mif (v59 < x5_55) (
    k212
  ) (
    mjoin (α := Int → MP) (fun (x6_192 : Int) =>
      mgetA 11 this 50 fun v193 =>
      mastI v193 (w32 ((w32 (25 * x4_42)) + x5_55)) x6_192 <|
      rec55 (w32 (x5_55 + 1))
    ) fun k192 =>
    mif (x4_42 ≤ 0) (
      k192 0
    ) (
      mif (x5_55 ≤ 0) (
        k192 0
      ) (
        mex fun n84 => jit (GX11_alike_84 this p1 p2 x4_42 x5_55 (fun (y7_133 : Int) => mjoin (α := Int → MP) (fun (s0_190 : Int) =>   k192 s0_190 ) fun k190 => mif (y7_133 = 0) (   mgetA 11 this 50 fun v160 =>   maldI 0 v160 (w32 ((w32 (25 * (w32 (x4_42 - 1)))) + x5_55)) fun v172 =>   mgetA 11 this 50 fun v174 =>   maldI 0 v174 (w32 ((w32 ((w32 (25 * x4_42)) + x5_55)) - 1)) fun v186 =>   k190 (max v172 v186) ) (   mgetA 11 this 50 fun v140 =>   maldI 0 v140 (w32 ((w32 ((w32 (25 * (w32 (x4_42 - 1)))) + x5_55)) - 1)) fun v154 =>   k190 (w32 (1 + v154)) ))) (fun _ _ => mbot) n84 1 0
      )
    )
  )
def GX11_alike_42 (this : Nat) (p1 : Int) (p2 : Int) (k218 : MP) (rec42 : Int → MP) (x4_42 : Int) : MP :=
  mobj 11 this <|
  MX11_notes this p1 fun v46 =>
  mif (v46 < x4_42) (
    k218
  ) (
    mex fun n55 => jit (GX11_alike_55 this p1 p2 x4_42 (rec42 (w32 (x4_42 + 1)))) (fun _ => mbot) n55 0
  )
def MX11_alike (this : Nat) (p1 : Int) (p2 : Int) (Qj : Int → MP) : MP :=
  mputI 11 this 0 0 <|
  mobj 11 this <|
  MX11_noBook this p1 fun v8 =>
  mjoin (α := Int → MP) (fun (s1_27 : Int) =>
    mobj 11 this <|
    MX11_throwsIf this s1_27 1 fun v28 =>
    mif (v28 = 0) (
      mex fun n42 => jit (GX11_alike_42 this p1 p2 (mgetA 11 this 50 fun v219 => mobj 11 this <| MX11_notes this p1 fun v225 => mobj 11 this <| MX11_notes this p2 fun v231 => maldI 0 v219 (w32 ((w32 (25 * v225)) + v231)) fun v235 => Qj v235)) (fun _ => mbot) n42 0
    ) (
      Qj 0
    )
  ) fun k27 =>
  mjoin (α := MP) (
    k27 1
  ) fun k22 =>
  mif (v8 = 0) (
    mobj 11 this <|
    MX11_noBook this p2 fun v16 =>
    mif (v16 = 0) (
      k27 0
    ) (
      k22
    )
  ) (
    k22
  )
def MX1_way (bc : Nat) (bs : Nat) (this : Nat) (p1 : Int) (Ex : Nat → Nat → MP) (Qj : Int → MP) : MP :=
  mbud bc bs fun mc2 ms2 =>
  mobj 1 this <|
  MX1_bookAt mc2 ms2 this p1 Ex fun v2 =>
  mgetI 9 v2 1 fun v7 =>
  mputI 9 v2 1 0 <|
  mgetA 1 this 4 fun v17 =>
  mobj 10 v17 <|
  MX10_least v17 (mshl 1 p1) fun v23 =>
  mputI 9 v2 1 1 <|
  mgetA 1 this 4 fun v34 =>
  mobj 10 v34 <|
  MX10_least v34 (mshl 1 p1) fun v40 =>
  mputI 9 v2 1 v7 <|
  mif (v23 = (-2)) (
    Qj (-2)
  ) (
    mif (v40 = (-2)) (
      Qj (-2)
    ) (
      mjoin (α := Int → MP) (fun (s0_81 : Int) =>
        mjoin (α := Int → MP) (fun (s0_97 : Int) =>
          mif (s0_81 = s0_97) (
            Qj (-3)
          ) (
            mif (s0_97 ≤ s0_81) (
              Qj 1
            ) (
              Qj 0
            )
          )
        ) fun k97 =>
        mif (v40 = (-1)) (
          k97 1000000
        ) (
          k97 v40
        )
      ) fun k81 =>
      mif (v23 = (-1)) (
        k81 1000000
      ) (
        k81 v23
      )
    )
  )
def MX0_way (bc : Nat) (bs : Nat) (p0 : Nat) (p1 : Int) (p2 : Nat) (Qj : Int → MP) : MP :=
  mbud bc bs fun mc4 ms4 =>
  mobj 1 p0 <|
  MX1_way mc4 ms4 p0 p1 (fun (xx4 xq4 : Nat) => mif (xx4 = 2) (   Qj 1 ) (   mbot )) fun v4 =>
  mastL p2 0 v4 <|
  Qj 0
def MX11_way (this : Nat) (p1 : Int) (Qj : Int → MP) : MP :=
  mputI 11 this 0 0 <|
  mobj 11 this <|
  MX11_noBook this p1 fun v8 =>
  mobj 11 this <|
  MX11_throwsIf this v8 1 fun v12 =>
  mif (v12 = 0) (
    mobj 11 this <|
    MX11_asksAll this <|
    mputI 11 this 18 (mshl 1 p1) <|
    mgetA 11 this 19 fun v32 =>
    mastI v32 p1 0 <|
    mobj 11 this <|
    MX11_asks this fun v39 =>
    mgetA 11 this 19 fun v44 =>
    mastI v44 p1 1 <|
    mobj 11 this <|
    MX11_asks this fun v51 =>
    mif (v39 = (-2)) (
      Qj (-2)
    ) (
      mif (v51 = (-2)) (
        Qj (-2)
      ) (
        mjoin (α := Int → MP) (fun (s0_81 : Int) =>
          mjoin (α := Int → MP) (fun (s0_94 : Int) =>
            mif (s0_94 ≤ s0_81) (
              mif (s0_81 ≤ s0_94) (
                Qj (-3)
              ) (
                Qj 1
              )
            ) (
              Qj 0
            )
          ) fun k94 =>
          mif ((0 : Int) ≤ v51) (
            k94 v51
          ) (
            k94 1000
          )
        ) fun k81 =>
        mif ((0 : Int) ≤ v39) (
          k81 v39
        ) (
          k81 1000
        )
      )
    )
  ) (
    Qj 0
  )
def MX1_cheaper (bc : Nat) (bs : Nat) (this : Nat) (p1 : Int) (Ex : Nat → Nat → MP) (Qj : Int → MP) : MP :=
  mbud bc bs fun mc1 ms1 =>
  MX1_isSlip mc1 ms1 p1 Ex <|
  mobj 1 this <|
  MX1_reads this fun v5 =>
  mif ((0 : Int) ≤ v5) (
    mgetA 1 this 1 fun v17 =>
    mgetA 7 v17 4 fun v20 =>
    maldI 0 v20 p1 fun v24 =>
    mif ((2 : Int) ≤ v24) (
      mgetA 1 this 1 fun v34 =>
      mgetA 7 v34 4 fun v37 =>
      mastI v37 p1 1 <|
      mgetA 1 this 4 fun v44 =>
      mobj 1 this <|
      MX1_allBooks this fun v48 =>
      mobj 10 v44 <|
      MX10_least v44 v48 fun v51 =>
      mgetA 1 this 1 fun v56 =>
      mgetA 7 v56 4 fun v59 =>
      mastI v59 p1 v24 <|
      mif ((0 : Int) ≤ v51) (
        mgetI 1 this 14 fun v74 =>
        Qj (w32 (v74 - v51))
      ) (
        Qj v51
      )
    ) (
      Qj 0
    )
  ) (
    mgetI 1 this 14 fun v12 =>
    Qj v12
  )
def MX0_cheaper (bc : Nat) (bs : Nat) (p0 : Nat) (p1 : Int) (p2 : Nat) (Qj : Int → MP) : MP :=
  mbud bc bs fun mc4 ms4 =>
  mobj 1 p0 <|
  MX1_cheaper mc4 ms4 p0 p1 (fun (xx4 xq4 : Nat) => mif (xx4 = 2) (   Qj 1 ) (   mbot )) fun v4 =>
  mastL p2 0 v4 <|
  Qj 0
def MX11_cheaper (this : Nat) (p1 : Int) (Qj : Int → MP) : MP :=
  mputI 11 this 0 0 <|
  MX11_in p1 1 7 fun v10 =>
  mjoin (α := Int → MP) (fun (s1_21 : Int) =>
    mobj 11 this <|
    MX11_throwsIf this s1_21 1 fun v22 =>
    mif (v22 = 0) (
      mobj 11 this <|
      MX11_asksWhole this fun v31 =>
      mjoin (α := MP) (
        Qj (min 0 v31)
      ) fun k51 =>
      mif (v31 < 0) (
        k51
      ) (
        mgetA 11 this 1 fun v40 =>
        maldI 0 v40 (w32 (5 + p1)) fun v46 =>
        mif ((2 : Int) ≤ v46) (
          mgetA 11 this 20 fun v58 =>
          mastI v58 p1 1 <|
          mobj 11 this <|
          MX11_asks this fun v65 =>
          mif ((0 : Int) ≤ v65) (
            Qj (w32 (v31 - v65))
          ) (
            Qj v65
          )
        ) (
          k51
        )
      )
    ) (
      Qj 0
    )
  ) fun k21 =>
  mif (v10 = 0) (
    k21 1
  ) (
    k21 0
  )
def MX9_be (this : Nat) (p1 : Nat) (Qj : MP) : MP :=
  mgetA 9 p1 0 fun v1 =>
  mgetA 9 this 0 fun v6 =>
  mcpyA 10 v1 0 v6 0 24 <|
  mgetI 9 p1 1 fun v17 =>
  mputI 9 this 1 v17 <|
  mgetI 9 p1 2 fun v25 =>
  mputI 9 this 2 v25 <|
  Qj
def GX7_be_27 (this : Nat) (p1 : Nat) (k53 : MP) (rec27 : Int → MP) (x2_27 : Int) : MP :=
  mif ((3 : Int) ≤ x2_27) (
    k53
  ) (
    mgetA 7 this 2 fun v33 =>
    maldA 8 v33 x2_27 fun v37 =>
    mgetA 7 p1 2 fun v39 =>
    maldA 8 v39 x2_27 fun v43 =>
    mobj 9 v37 <|
    MX9_be v37 v43 <|
    rec27 (w32 (x2_27 + 1))
  )
def MX7_be (this : Nat) (p1 : Nat) (Qj : MP) : MP :=
  mgetA 7 p1 0 fun v1 =>
  mgetA 7 this 0 fun v6 =>
  mcpyA 7 v1 0 v6 0 5 <|
  mgetA 7 this 1 fun v15 =>
  mgetA 7 p1 1 fun v19 =>
  mobj 8 v15 <|
  MX8_be v15 v19 <|
  mex fun n27 => jit (GX7_be_27 this p1 (mgetA 7 p1 3 fun v54 => mgetA 7 this 3 fun v59 => mcpyA 9 v54 0 v59 0 10 <| mgetA 7 p1 4 fun v69 => mgetA 7 this 4 fun v74 => mcpyI v69 0 v74 0 8 <| mgetO 7 p1 5 fun v85 => mputR 7 this 5 v85 <| mgetI 7 p1 6 fun v93 => mputI 7 this 6 v93 <| mgetI 7 p1 7 fun v101 => mputI 7 this 7 v101 <| mgetI 7 p1 8 fun v109 => mputI 7 this 8 v109 <| mgetI 7 p1 9 fun v117 => mputI 7 this 9 v117 <| Qj)) (fun _ => mbot) n27 0
def MX1_image (this : Nat) (Qj : MP) : MP :=
  mgetA 1 this 2 fun v1 =>
  mgetA 1 this 1 fun v5 =>
  mobj 7 v1 <|
  MX7_be v1 v5 <|
  mputZ 1 this 17 1 <|
  Qj
def GX11_image_7 (this : Nat) (k32 : MP) (rec7 : Int → MP) (x1_7 : Int) : MP :=
  mif ((1284 : Int) ≤ x1_7) (
    k32
  ) (
    mgetA 11 this 2 fun v15 =>
    mgetA 11 this 1 fun v20 =>
    maldI 0 v20 x1_7 fun v24 =>
    mastI v15 x1_7 v24 <|
    rec7 (w32 (x1_7 + 1))
  )
def MX11_image (this : Nat) (Qj : MP) : MP :=
  mputI 11 this 0 0 <|
  mex fun n7 => jit (GX11_image_7 this (mputZ 11 this 3 1 <| Qj)) (fun _ => mbot) n7 0
def MX1_back (this : Nat) (Qj : Int → MP) : MP :=
  mgetI 1 this 17 fun v1 =>
  mif (v1 = 0) (
    Qj 0
  ) (
    mgetA 1 this 1 fun v10 =>
    mgetA 1 this 2 fun v14 =>
    mobj 7 v10 <|
    MX7_be v10 v14 <|
    mputZ 1 this 16 0 <|
    Qj 1
  )
def GX11_back_16 (this : Nat) (Qj : Int → MP) (rec16 : Int → MP) (x1_16 : Int) : MP :=
  mif ((1284 : Int) ≤ x1_16) (
    Qj 1
  ) (
    mgetA 11 this 1 fun v24 =>
    mgetA 11 this 2 fun v29 =>
    maldI 0 v29 x1_16 fun v33 =>
    mastI v24 x1_16 v33 <|
    rec16 (w32 (x1_16 + 1))
  )
def MX11_back (this : Nat) (Qj : Int → MP) : MP :=
  mputI 11 this 0 0 <|
  mgetI 11 this 3 fun v6 =>
  mif (v6 = 0) (
    Qj 0
  ) (
    mex fun n16 => jit (GX11_back_16 this Qj) (fun _ => mbot) n16 0
  )
def GX1_count_90 (this : Nat) (Qj : Int → MP) (rec90 : Int → Int → MP) (x2_90 : Int) (x3_90 : Int) : MP :=
  mgetA 1 this 1 fun v92 =>
  mgetI 7 v92 7 fun v95 =>
  mif (v95 ≤ x3_90) (
    Qj x2_90
  ) (
    mgetA 1 this 1 fun v103 =>
    mgetA 7 v103 2 fun v106 =>
    maldA 8 v106 x3_90 fun v110 =>
    mgetI 9 v110 2 fun v111 =>
    rec90 (w32 (x2_90 + v111)) (w32 (x3_90 + 1))
  )
def GX1_count_164 (this : Nat) (Qj : Int → MP) (rec164 : Int → Int → MP) (x2_164 : Int) (x3_164 : Int) : MP :=
  mif ((36 : Int) ≤ x3_164) (
    Qj x2_164
  ) (
    mgetA 1 this 1 fun v172 =>
    mgetA 7 v172 1 fun v175 =>
    mgetA 8 v175 0 fun v178 =>
    maldI 0 v178 x3_164 fun v182 =>
    mjoin (α := Int → MP) (fun (s1_214 : Int) =>
      rec164 (w32 (x2_164 + s1_214)) (w32 (x3_164 + 1))
    ) fun k214 =>
    mif (v182 = (-1)) (
      k214 0
    ) (
      mgetA 1 this 1 fun v192 =>
      mgetA 7 v192 0 fun v195 =>
      mgetA 1 this 1 fun v199 =>
      mgetA 7 v199 1 fun v202 =>
      mgetA 8 v202 0 fun v205 =>
      maldI 0 v205 x3_164 fun v209 =>
      maldA 7 v195 v209 fun v210 =>
      mgetI 12 v210 0 fun v211 =>
      k214 v211
    )
  )
def MX1_count (this : Nat) (p1 : Int) (Qj : Int → MP) : MP :=
  mif (p1 = 0) (
    mgetA 1 this 1 fun v49 =>
    mgetI 7 v49 6 fun v52 =>
    Qj v52
  ) (
    mif (p1 = 1) (
      mgetA 1 this 1 fun v57 =>
      mgetA 7 v57 1 fun v60 =>
      mobj 8 v60 <|
      MX8_men v60 0 fun v64 =>
      mgetA 1 this 1 fun v68 =>
      mgetA 7 v68 1 fun v71 =>
      mobj 8 v71 <|
      MX8_men v71 1 fun v75 =>
      Qj (w32 (v64 + v75))
    ) (
      mif (p1 = 2) (
        mgetA 1 this 1 fun v81 =>
        mgetI 7 v81 7 fun v84 =>
        Qj v84
      ) (
        mif (p1 = 3) (
          mex fun n90 => jit (GX1_count_90 this Qj) (fun _ _ => mbot) n90 0 0
        ) (
          mif (p1 = 4) (
            mgetA 1 this 1 fun v125 =>
            mgetI 7 v125 8 fun v128 =>
            Qj v128
          ) (
            mif (p1 = 5) (
              mgetA 1 this 1 fun v133 =>
              mgetI 7 v133 9 fun v136 =>
              Qj v136
            ) (
              mif (p1 = 6) (
                mobj 1 this <|
                MX1_reads this fun v141 =>
                mif (v141 = (-2)) (
                  Qj (-2)
                ) (
                  mgetA 1 this 3 fun v155 =>
                  mgetI 10 v155 13 fun v158 =>
                  Qj v158
                )
              ) (
                mif (p1 = 7) (
                  mex fun n164 => jit (GX1_count_164 this Qj) (fun _ _ => mbot) n164 0 0
                ) (
                  Qj (-1)
                )
              )
            )
          )
        )
      )
    )
  )
def GX11_count_65 (this : Nat) (Qj : Int → MP) (rec65 : Int → Int → MP) (x2_65 : Int) (x3_65 : Int) : MP :=
  mif ((36 : Int) ≤ x3_65) (
    Qj x2_65
  ) (
    mgetA 11 this 1 fun v73 =>
    maldI 0 v73 (w32 (13 + x3_65)) fun v80 =>
    mjoin (α := Int → MP) (fun (s1_89 : Int) =>
      rec65 (w32 (x2_65 + s1_89)) (w32 (x3_65 + 1))
    ) fun k89 =>
    mif (v80 < 0) (
      k89 0
    ) (
      k89 1
    )
  )
def GX11_count_108 (this : Nat) (Qj : Int → MP) (rec108 : Int → Int → MP) (x2_108 : Int) (x3_108 : Int) : MP :=
  mgetA 11 this 1 fun v110 =>
  maldI 0 v110 1 fun v114 =>
  mif (v114 ≤ x3_108) (
    Qj x2_108
  ) (
    mobj 11 this <|
    MX11_notes this x3_108 fun v121 =>
    rec108 (w32 (x2_108 + v121)) (w32 (x3_108 + 1))
  )
def GX11_count_172 (this : Nat) (Qj : Int → MP) (rec172 : Int → Int → MP) (x2_172 : Int) (x3_172 : Int) : MP :=
  mif ((36 : Int) ≤ x3_172) (
    Qj x2_172
  ) (
    mgetA 11 this 1 fun v180 =>
    maldI 0 v180 (w32 (13 + x3_172)) fun v187 =>
    mjoin (α := Int → MP) (fun (s1_210 : Int) =>
      rec172 (w32 (x2_172 + s1_210)) (w32 (x3_172 + 1))
    ) fun k210 =>
    mif (v187 < 0) (
      k210 0
    ) (
      mgetA 11 this 1 fun v193 =>
      maldI 0 v193 (w32 (13 + x3_172)) fun v200 =>
      mobj 11 this <|
      MX11_valueOf this (w32 (Int.tdiv v200 2)) fun v203 =>
      k210 v203
    )
  )
def MX11_count (this : Nat) (p1 : Int) (Qj : Int → MP) : MP :=
  mputI 11 this 0 0 <|
  mif (p1 = 0) (
    mgetA 11 this 1 fun v57 =>
    maldI 0 v57 0 fun v61 =>
    Qj v61
  ) (
    mif (p1 = 1) (
      mex fun n65 => jit (GX11_count_65 this Qj) (fun _ _ => mbot) n65 0 0
    ) (
      mif (p1 = 2) (
        mgetA 11 this 1 fun v100 =>
        maldI 0 v100 1 fun v104 =>
        Qj v104
      ) (
        mif (p1 = 3) (
          mex fun n108 => jit (GX11_count_108 this Qj) (fun _ _ => mbot) n108 0 0
        ) (
          mif (p1 = 4) (
            mgetA 11 this 1 fun v135 =>
            maldI 0 v135 2 fun v139 =>
            Qj v139
          ) (
            mif (p1 = 5) (
              mgetA 11 this 1 fun v142 =>
              maldI 0 v142 3 fun v146 =>
              Qj v146
            ) (
              mif (p1 = 6) (
                mobj 11 this <|
                MX11_asksWhole this fun v149 =>
                mgetI 11 this 29 fun v154 =>
                mif (v154 = 0) (
                  mgetI 11 this 27 fun v166 =>
                  Qj v166
                ) (
                  Qj (-2)
                )
              ) (
                mif (p1 = 7) (
                  mex fun n172 => jit (GX11_count_172 this Qj) (fun _ _ => mbot) n172 0 0
                ) (
                  Qj (-1)
                )
              )
            )
          )
        )
      )
    )
  )
def GL_law_23 (sK : Nat → Nat) (xs : Nat → Int32) (Ln : Nat) (Qj : Int → MP) (v0 : Nat) (v8 : Nat) (v17 : Nat) (rec23 : Int → Nat → Nat → MP) (x4_23 : Int) (bc_23 : Nat) (bs_23 : Nat) : MP :=
  mif ((w32 ((Ln : Int) - 7)) < x4_23) (
    Qj 1
  ) (
    mscr Ln xs x4_23 fun v36 =>
    mjoin (α := Nat → Nat → MP) (fun (bc_2055 : Nat) (bs_2055 : Nat) =>
      rec23 (w32 (x4_23 + 7)) bc_2055 bs_2055
    ) fun k2055 =>
    mif ((mand32 v36 63) = 0) (
      mscr Ln xs (w32 (x4_23 + 1)) fun v194 =>
      mscr Ln xs (w32 (x4_23 + 2)) fun v200 =>
      mscr Ln xs (w32 (x4_23 + 3)) fun v206 =>
      mscr Ln xs (w32 (x4_23 + 4)) fun v212 =>
      mscr Ln xs (w32 (x4_23 + 5)) fun v218 =>
      mobj 1 v0 <|
      MX1_feed v0 v194 v200 v206 v212 v218 fun v219 =>
      mscr Ln xs (w32 (x4_23 + 1)) fun v228 =>
      mscr Ln xs (w32 (x4_23 + 2)) fun v234 =>
      mscr Ln xs (w32 (x4_23 + 3)) fun v240 =>
      mscr Ln xs (w32 (x4_23 + 4)) fun v246 =>
      mscr Ln xs (w32 (x4_23 + 5)) fun v252 =>
      mobj 11 v8 <|
      MX11_feed v8 v228 v234 v240 v246 v252 fun v253 =>
      mif (v219 = v253) (
        k2055 bc_23 bs_23
      ) (
        Qj 0
      )
    ) (
      mif ((mand32 v36 63) = 1) (
        mscr Ln xs (w32 (x4_23 + 1)) fun v267 =>
        mobj 1 v0 <|
        MX1_end v0 v267 fun v268 =>
        mscr Ln xs (w32 (x4_23 + 1)) fun v277 =>
        mobj 11 v8 <|
        MX11_end v8 v277 fun v278 =>
        mif (v268 = v278) (
          k2055 bc_23 bs_23
        ) (
          Qj 0
        )
      ) (
        mif ((mand32 v36 63) = 2) (
          mscr Ln xs (w32 (x4_23 + 1)) fun v292 =>
          mbud bc_23 bs_23 fun mc294 ms294 =>
          MX0_kind sK mc294 ms294 v0 v292 v17 fun v294 =>
          mscr Ln xs (w32 (x4_23 + 1)) fun v305 =>
          mobj 11 v8 <|
          MX11_kind sK v8 v305 fun v306 =>
          mobj 11 v8 <|
          MX11_thrown v8 fun v312 =>
          mif (v312 = v294) (
            mjoin (α := MP) (
              k2055 (bc_23 - mc294) (bs_23 - ms294)
            ) fun k339 =>
            mif (v294 = 0) (
              maldL v17 0 fun v329 =>
              mif ((mcmp v329 v306) = 0) (
                k339
              ) (
                Qj 0
              )
            ) (
              k339
            )
          ) (
            Qj 0
          )
        ) (
          mif ((mand32 v36 63) = 3) (
            mbud bc_23 bs_23 fun mc344 ms344 =>
            MX0_measure sK mc344 ms344 v0 v17 fun v344 =>
            mobj 11 v8 <|
            MX11_measure sK v8 fun v350 =>
            mobj 11 v8 <|
            MX11_thrown v8 fun v356 =>
            mif (v356 = v344) (
              mjoin (α := MP) (
                k2055 (bc_23 - mc344) (bs_23 - ms344)
              ) fun k383 =>
              mif (v344 = 0) (
                maldL v17 0 fun v373 =>
                mif ((mcmp v373 v350) = 0) (
                  k383
                ) (
                  Qj 0
                )
              ) (
                k383
              )
            ) (
              Qj 0
            )
          ) (
            mif ((mand32 v36 63) = 4) (
              mobj 1 v0 <|
              MX1_fault v0 fun v387 =>
              mobj 11 v8 <|
              MX11_fault v8 fun v391 =>
              mif (v387 = v391) (
                k2055 bc_23 bs_23
              ) (
                Qj 0
              )
            ) (
              mif ((mand32 v36 63) = 5) (
                mscr Ln xs (w32 (x4_23 + 1)) fun v405 =>
                mscr Ln xs (w32 (x4_23 + 2)) fun v411 =>
                mscr Ln xs (w32 (x4_23 + 3)) fun v417 =>
                mbud bc_23 bs_23 fun mc418 ms418 =>
                MX0_put mc418 ms418 v0 v405 v411 v417 fun v418 =>
                mscr Ln xs (w32 (x4_23 + 1)) fun v429 =>
                mscr Ln xs (w32 (x4_23 + 2)) fun v435 =>
                mscr Ln xs (w32 (x4_23 + 3)) fun v441 =>
                mobj 11 v8 <|
                MX11_put v8 v429 v435 v441 <|
                mobj 11 v8 <|
                MX11_thrown v8 fun v446 =>
                mif (v446 = v418) (
                  k2055 (bc_23 - mc418) (bs_23 - ms418)
                ) (
                  Qj 0
                )
              ) (
                mif ((mand32 v36 63) = 6) (
                  mscr Ln xs (w32 (x4_23 + 1)) fun v465 =>
                  mscr Ln xs (w32 (x4_23 + 2)) fun v471 =>
                  mbud bc_23 bs_23 fun mc473 ms473 =>
                  MX0_moves mc473 ms473 v0 v465 v471 v17 fun v473 =>
                  mscr Ln xs (w32 (x4_23 + 1)) fun v484 =>
                  mscr Ln xs (w32 (x4_23 + 2)) fun v490 =>
                  mobj 11 v8 <|
                  MX11_moves v8 v484 v490 fun v491 =>
                  mobj 11 v8 <|
                  MX11_thrown v8 fun v497 =>
                  mif (v497 = v473) (
                    mjoin (α := MP) (
                      k2055 (bc_23 - mc473) (bs_23 - ms473)
                    ) fun k524 =>
                    mif (v473 = 0) (
                      maldL v17 0 fun v514 =>
                      mif ((mcmp v514 v491) = 0) (
                        k524
                      ) (
                        Qj 0
                      )
                    ) (
                      k524
                    )
                  ) (
                    Qj 0
                  )
                ) (
                  mif ((mand32 v36 63) = 7) (
                    mscr Ln xs (w32 (x4_23 + 1)) fun v533 =>
                    mbud bc_23 bs_23 fun mc535 ms535 =>
                    MX0_book mc535 ms535 v0 v533 v17 fun v535 =>
                    mscr Ln xs (w32 (x4_23 + 1)) fun v546 =>
                    mobj 11 v8 <|
                    MX11_book v8 v546 fun v547 =>
                    mobj 11 v8 <|
                    MX11_thrown v8 fun v553 =>
                    mif (v553 = v535) (
                      mjoin (α := MP) (
                        k2055 (bc_23 - mc535) (bs_23 - ms535)
                      ) fun k580 =>
                      mif (v535 = 0) (
                        maldL v17 0 fun v570 =>
                        mif ((mcmp v570 v547) = 0) (
                          k580
                        ) (
                          Qj 0
                        )
                      ) (
                        k580
                      )
                    ) (
                      Qj 0
                    )
                  ) (
                    mif ((mand32 v36 63) = 8) (
                      mscr Ln xs (w32 (x4_23 + 1)) fun v589 =>
                      mscr Ln xs (w32 (x4_23 + 2)) fun v595 =>
                      mscr Ln xs (w32 (x4_23 + 3)) fun v601 =>
                      mscr Ln xs (w32 (x4_23 + 4)) fun v607 =>
                      mscr Ln xs (w32 (x4_23 + 5)) fun v613 =>
                      mbud bc_23 bs_23 fun mc615 ms615 =>
                      MX0_note mc615 ms615 v0 v589 v595 v601 v607 v613 v17 fun v615 =>
                      mscr Ln xs (w32 (x4_23 + 1)) fun v626 =>
                      mscr Ln xs (w32 (x4_23 + 2)) fun v632 =>
                      mscr Ln xs (w32 (x4_23 + 3)) fun v638 =>
                      mscr Ln xs (w32 (x4_23 + 4)) fun v644 =>
                      mscr Ln xs (w32 (x4_23 + 5)) fun v650 =>
                      mobj 11 v8 <|
                      MX11_note v8 v626 v632 v638 v644 v650 fun v651 =>
                      mobj 11 v8 <|
                      MX11_thrown v8 fun v657 =>
                      mif (v657 = v615) (
                        mjoin (α := MP) (
                          k2055 (bc_23 - mc615) (bs_23 - ms615)
                        ) fun k684 =>
                        mif (v615 = 0) (
                          maldL v17 0 fun v674 =>
                          mif ((mcmp v674 v651) = 0) (
                            k684
                          ) (
                            Qj 0
                          )
                        ) (
                          k684
                        )
                      ) (
                        Qj 0
                      )
                    ) (
                      mif ((mand32 v36 63) = 9) (
                        mscr Ln xs (w32 (x4_23 + 1)) fun v693 =>
                        mscr Ln xs (w32 (x4_23 + 2)) fun v699 =>
                        mscr Ln xs (w32 (x4_23 + 3)) fun v705 =>
                        mscr Ln xs (w32 (x4_23 + 4)) fun v711 =>
                        mscr Ln xs (w32 (x4_23 + 5)) fun v717 =>
                        mscr Ln xs (w32 (x4_23 + 6)) fun v724 =>
                        mbud bc_23 bs_23 fun mc726 ms726 =>
                        MX0_change mc726 ms726 v0 v693 v699 v705 v711 v717 v724 v17 fun v726 =>
                        mscr Ln xs (w32 (x4_23 + 1)) fun v737 =>
                        mscr Ln xs (w32 (x4_23 + 2)) fun v743 =>
                        mscr Ln xs (w32 (x4_23 + 3)) fun v749 =>
                        mscr Ln xs (w32 (x4_23 + 4)) fun v755 =>
                        mscr Ln xs (w32 (x4_23 + 5)) fun v761 =>
                        mscr Ln xs (w32 (x4_23 + 6)) fun v768 =>
                        mobj 11 v8 <|
                        MX11_change v8 v737 v743 v749 v755 v761 v768 fun v769 =>
                        mobj 11 v8 <|
                        MX11_thrown v8 fun v775 =>
                        mif (v775 = v726) (
                          mjoin (α := MP) (
                            k2055 (bc_23 - mc726) (bs_23 - ms726)
                          ) fun k809 =>
                          mif (v726 = 0) (
                            maldL v17 0 fun v792 =>
                            mjoin (α := Int → MP) (fun (s1_803 : Int) =>
                              mif ((mcmp v792 s1_803) = 0) (
                                k809
                              ) (
                                Qj 0
                              )
                            ) fun k803 =>
                            mif (v769 = 0) (
                              k803 0
                            ) (
                              k803 1
                            )
                          ) (
                            k809
                          )
                        ) (
                          Qj 0
                        )
                      ) (
                        mif ((mand32 v36 63) = 10) (
                          mscr Ln xs (w32 (x4_23 + 1)) fun v818 =>
                          mscr Ln xs (w32 (x4_23 + 2)) fun v824 =>
                          mscr Ln xs (w32 (x4_23 + 3)) fun v830 =>
                          mbud bc_23 bs_23 fun mc832 ms832 =>
                          MX0_look mc832 ms832 v0 v818 v824 v830 v17 fun v832 =>
                          mscr Ln xs (w32 (x4_23 + 1)) fun v843 =>
                          mscr Ln xs (w32 (x4_23 + 2)) fun v849 =>
                          mscr Ln xs (w32 (x4_23 + 3)) fun v855 =>
                          mobj 11 v8 <|
                          MX11_look v8 v843 v849 v855 fun v856 =>
                          mobj 11 v8 <|
                          MX11_thrown v8 fun v862 =>
                          mif (v862 = v832) (
                            mjoin (α := MP) (
                              k2055 (bc_23 - mc832) (bs_23 - ms832)
                            ) fun k889 =>
                            mif (v832 = 0) (
                              maldL v17 0 fun v879 =>
                              mif ((mcmp v879 v856) = 0) (
                                k889
                              ) (
                                Qj 0
                              )
                            ) (
                              k889
                            )
                          ) (
                            Qj 0
                          )
                        ) (
                          mif ((mand32 v36 63) = 11) (
                            mscr Ln xs (w32 (x4_23 + 1)) fun v898 =>
                            mscr Ln xs (w32 (x4_23 + 2)) fun v904 =>
                            mscr Ln xs (w32 (x4_23 + 3)) fun v910 =>
                            mscr Ln xs (w32 (x4_23 + 4)) fun v916 =>
                            mbud bc_23 bs_23 fun mc918 ms918 =>
                            MX0_write mc918 ms918 v0 v898 v904 v910 v916 v17 fun v918 =>
                            mscr Ln xs (w32 (x4_23 + 1)) fun v929 =>
                            mscr Ln xs (w32 (x4_23 + 2)) fun v935 =>
                            mscr Ln xs (w32 (x4_23 + 3)) fun v941 =>
                            mscr Ln xs (w32 (x4_23 + 4)) fun v947 =>
                            mobj 11 v8 <|
                            MX11_write v8 v929 v935 v941 v947 fun v948 =>
                            mobj 11 v8 <|
                            MX11_thrown v8 fun v954 =>
                            mif (v954 = v918) (
                              mjoin (α := MP) (
                                k2055 (bc_23 - mc918) (bs_23 - ms918)
                              ) fun k981 =>
                              mif (v918 = 0) (
                                maldL v17 0 fun v971 =>
                                mif ((mcmp v971 v948) = 0) (
                                  k981
                                ) (
                                  Qj 0
                                )
                              ) (
                                k981
                              )
                            ) (
                              Qj 0
                            )
                          ) (
                            mif ((mand32 v36 63) = 12) (
                              mscr Ln xs (w32 (x4_23 + 1)) fun v990 =>
                              mscr Ln xs (w32 (x4_23 + 2)) fun v996 =>
                              mbud bc_23 bs_23 fun mc998 ms998 =>
                              MX0_price mc998 ms998 v0 v990 v996 v17 fun v998 =>
                              mscr Ln xs (w32 (x4_23 + 1)) fun v1009 =>
                              mscr Ln xs (w32 (x4_23 + 2)) fun v1015 =>
                              mobj 11 v8 <|
                              MX11_price v8 v1009 v1015 fun v1016 =>
                              mobj 11 v8 <|
                              MX11_thrown v8 fun v1022 =>
                              mif (v1022 = v998) (
                                mjoin (α := MP) (
                                  k2055 (bc_23 - mc998) (bs_23 - ms998)
                                ) fun k1049 =>
                                mif (v998 = 0) (
                                  maldL v17 0 fun v1039 =>
                                  mif ((mcmp v1039 v1016) = 0) (
                                    k1049
                                  ) (
                                    Qj 0
                                  )
                                ) (
                                  k1049
                                )
                              ) (
                                Qj 0
                              )
                            ) (
                              mif ((mand32 v36 63) = 13) (
                                mscr Ln xs (w32 (x4_23 + 1)) fun v1058 =>
                                mbud bc_23 bs_23 fun mc1059 ms1059 =>
                                MX0_length mc1059 ms1059 v0 v1058 fun v1059 =>
                                mscr Ln xs (w32 (x4_23 + 1)) fun v1070 =>
                                mobj 11 v8 <|
                                MX11_length v8 v1070 <|
                                mobj 11 v8 <|
                                MX11_thrown v8 fun v1075 =>
                                mif (v1075 = v1059) (
                                  k2055 (bc_23 - mc1059) (bs_23 - ms1059)
                                ) (
                                  Qj 0
                                )
                              ) (
                                mif ((mand32 v36 63) = 14) (
                                  mscr Ln xs (w32 (x4_23 + 1)) fun v1094 =>
                                  mscr Ln xs (w32 (x4_23 + 2)) fun v1100 =>
                                  mscr Ln xs (w32 (x4_23 + 3)) fun v1106 =>
                                  mscr Ln xs (w32 (x4_23 + 4)) fun v1112 =>
                                  mbud bc_23 bs_23 fun mc1114 ms1114 =>
                                  MX0_picture mc1114 ms1114 v0 v1094 v1100 v1106 v1112 v17 fun v1114 =>
                                  mscr Ln xs (w32 (x4_23 + 1)) fun v1125 =>
                                  mscr Ln xs (w32 (x4_23 + 2)) fun v1131 =>
                                  mscr Ln xs (w32 (x4_23 + 3)) fun v1137 =>
                                  mscr Ln xs (w32 (x4_23 + 4)) fun v1143 =>
                                  mobj 11 v8 <|
                                  MX11_picture v8 v1125 v1131 v1137 v1143 fun v1144 =>
                                  mobj 11 v8 <|
                                  MX11_thrown v8 fun v1150 =>
                                  mif (v1150 = v1114) (
                                    mjoin (α := MP) (
                                      k2055 (bc_23 - mc1114) (bs_23 - ms1114)
                                    ) fun k1177 =>
                                    mif (v1114 = 0) (
                                      maldL v17 0 fun v1167 =>
                                      mif ((mcmp v1167 v1144) = 0) (
                                        k1177
                                      ) (
                                        Qj 0
                                      )
                                    ) (
                                      k1177
                                    )
                                  ) (
                                    Qj 0
                                  )
                                ) (
                                  mif ((mand32 v36 63) = 15) (
                                    mobj 1 v0 <|
                                    MX1_least v0 fun v1181 =>
                                    mobj 11 v8 <|
                                    MX11_least v8 fun v1185 =>
                                    mif (v1181 = v1185) (
                                      k2055 bc_23 bs_23
                                    ) (
                                      Qj 0
                                    )
                                  ) (
                                    mif ((mand32 v36 63) = 16) (
                                      mobj 1 v0 <|
                                      MX1_many v0 fun v1194 =>
                                      mobj 11 v8 <|
                                      MX11_many v8 fun v1198 =>
                                      mif (v1194 = v1198) (
                                        k2055 bc_23 bs_23
                                      ) (
                                        Qj 0
                                      )
                                    ) (
                                      mif ((mand32 v36 63) = 17) (
                                        mscr Ln xs (w32 (x4_23 + 1)) fun v1212 =>
                                        mbud bc_23 bs_23 fun mc1214 ms1214 =>
                                        MX0_read mc1214 ms1214 v0 v1212 v17 fun v1214 =>
                                        mscr Ln xs (w32 (x4_23 + 1)) fun v1225 =>
                                        mobj 11 v8 <|
                                        MX11_read v8 v1225 fun v1226 =>
                                        mobj 11 v8 <|
                                        MX11_thrown v8 fun v1232 =>
                                        mif (v1232 = v1214) (
                                          mjoin (α := MP) (
                                            k2055 (bc_23 - mc1214) (bs_23 - ms1214)
                                          ) fun k1259 =>
                                          mif (v1214 = 0) (
                                            maldL v17 0 fun v1249 =>
                                            mif ((mcmp v1249 v1226) = 0) (
                                              k1259
                                            ) (
                                              Qj 0
                                            )
                                          ) (
                                            k1259
                                          )
                                        ) (
                                          Qj 0
                                        )
                                      ) (
                                        mif ((mand32 v36 63) = 18) (
                                          mscr Ln xs (w32 (x4_23 + 1)) fun v1268 =>
                                          mbud bc_23 bs_23 fun mc1270 ms1270 =>
                                          MX0_readNext mc1270 ms1270 v0 v1268 v17 fun v1270 =>
                                          mscr Ln xs (w32 (x4_23 + 1)) fun v1281 =>
                                          mobj 11 v8 <|
                                          MX11_readNext v8 v1281 fun v1282 =>
                                          mobj 11 v8 <|
                                          MX11_thrown v8 fun v1288 =>
                                          mif (v1288 = v1270) (
                                            mjoin (α := MP) (
                                              k2055 (bc_23 - mc1270) (bs_23 - ms1270)
                                            ) fun k1315 =>
                                            mif (v1270 = 0) (
                                              maldL v17 0 fun v1305 =>
                                              mif ((mcmp v1305 v1282) = 0) (
                                                k1315
                                              ) (
                                                Qj 0
                                              )
                                            ) (
                                              k1315
                                            )
                                          ) (
                                            Qj 0
                                          )
                                        ) (
                                          mif ((mand32 v36 63) = 19) (
                                            mscr Ln xs (w32 (x4_23 + 1)) fun v1324 =>
                                            mscr Ln xs (w32 (x4_23 + 2)) fun v1330 =>
                                            mbud bc_23 bs_23 fun mc1332 ms1332 =>
                                            MX0_slip mc1332 ms1332 v0 v1324 v1330 v17 fun v1332 =>
                                            mscr Ln xs (w32 (x4_23 + 1)) fun v1343 =>
                                            mscr Ln xs (w32 (x4_23 + 2)) fun v1349 =>
                                            mobj 11 v8 <|
                                            MX11_slip v8 v1343 v1349 fun v1350 =>
                                            mobj 11 v8 <|
                                            MX11_thrown v8 fun v1356 =>
                                            mif (v1356 = v1332) (
                                              mjoin (α := MP) (
                                                k2055 (bc_23 - mc1332) (bs_23 - ms1332)
                                              ) fun k1383 =>
                                              mif (v1332 = 0) (
                                                maldL v17 0 fun v1373 =>
                                                mif ((mcmp v1373 v1350) = 0) (
                                                  k1383
                                                ) (
                                                  Qj 0
                                                )
                                              ) (
                                                k1383
                                              )
                                            ) (
                                              Qj 0
                                            )
                                          ) (
                                            mif ((mand32 v36 63) = 20) (
                                              mscr Ln xs (w32 (x4_23 + 1)) fun v1392 =>
                                              mscr Ln xs (w32 (x4_23 + 2)) fun v1398 =>
                                              mbud bc_23 bs_23 fun mc1400 ms1400 =>
                                              MX0_slips mc1400 ms1400 v0 v1392 v1398 v17 fun v1400 =>
                                              mscr Ln xs (w32 (x4_23 + 1)) fun v1411 =>
                                              mscr Ln xs (w32 (x4_23 + 2)) fun v1417 =>
                                              mobj 11 v8 <|
                                              MX11_slips v8 v1411 v1417 fun v1418 =>
                                              mobj 11 v8 <|
                                              MX11_thrown v8 fun v1424 =>
                                              mif (v1424 = v1400) (
                                                mjoin (α := MP) (
                                                  k2055 (bc_23 - mc1400) (bs_23 - ms1400)
                                                ) fun k1451 =>
                                                mif (v1400 = 0) (
                                                  maldL v17 0 fun v1441 =>
                                                  mif ((mcmp v1441 v1418) = 0) (
                                                    k1451
                                                  ) (
                                                    Qj 0
                                                  )
                                                ) (
                                                  k1451
                                                )
                                              ) (
                                                Qj 0
                                              )
                                            ) (
                                              mif ((mand32 v36 63) = 21) (
                                                mscr Ln xs (w32 (x4_23 + 1)) fun v1460 =>
                                                mbud bc_23 bs_23 fun mc1462 ms1462 =>
                                                MX0_breaks mc1462 ms1462 v0 v1460 v17 fun v1462 =>
                                                mscr Ln xs (w32 (x4_23 + 1)) fun v1473 =>
                                                mobj 11 v8 <|
                                                MX11_breaks v8 v1473 fun v1474 =>
                                                mobj 11 v8 <|
                                                MX11_thrown v8 fun v1480 =>
                                                mif (v1480 = v1462) (
                                                  mjoin (α := MP) (
                                                    k2055 (bc_23 - mc1462) (bs_23 - ms1462)
                                                  ) fun k1507 =>
                                                  mif (v1462 = 0) (
                                                    maldL v17 0 fun v1497 =>
                                                    mif ((mcmp v1497 v1474) = 0) (
                                                      k1507
                                                    ) (
                                                      Qj 0
                                                    )
                                                  ) (
                                                    k1507
                                                  )
                                                ) (
                                                  Qj 0
                                                )
                                              ) (
                                                mif ((mand32 v36 63) = 22) (
                                                  mscr Ln xs (w32 (x4_23 + 1)) fun v1516 =>
                                                  mbud bc_23 bs_23 fun mc1518 ms1518 =>
                                                  MX0_brief mc1518 ms1518 v0 v1516 v17 fun v1518 =>
                                                  mscr Ln xs (w32 (x4_23 + 1)) fun v1529 =>
                                                  mobj 11 v8 <|
                                                  MX11_brief v8 v1529 fun v1530 =>
                                                  mobj 11 v8 <|
                                                  MX11_thrown v8 fun v1536 =>
                                                  mif (v1536 = v1518) (
                                                    mjoin (α := MP) (
                                                      k2055 (bc_23 - mc1518) (bs_23 - ms1518)
                                                    ) fun k1563 =>
                                                    mif (v1518 = 0) (
                                                      maldL v17 0 fun v1553 =>
                                                      mif ((mcmp v1553 v1530) = 0) (
                                                        k1563
                                                      ) (
                                                        Qj 0
                                                      )
                                                    ) (
                                                      k1563
                                                    )
                                                  ) (
                                                    Qj 0
                                                  )
                                                ) (
                                                  mif ((mand32 v36 63) = 23) (
                                                    mobj 1 v0 <|
                                                    MX1_part v0 fun v1567 =>
                                                    mobj 11 v8 <|
                                                    MX11_part v8 fun v1571 =>
                                                    mif (v1567 = v1571) (
                                                      k2055 bc_23 bs_23
                                                    ) (
                                                      Qj 0
                                                    )
                                                  ) (
                                                    mif ((mand32 v36 63) = 24) (
                                                      mscr Ln xs (w32 (x4_23 + 1)) fun v1585 =>
                                                      mbud bc_23 bs_23 fun mc1587 ms1587 =>
                                                      MX0_best mc1587 ms1587 v0 v1585 v17 fun v1587 =>
                                                      mscr Ln xs (w32 (x4_23 + 1)) fun v1598 =>
                                                      mobj 11 v8 <|
                                                      MX11_best v8 v1598 fun v1599 =>
                                                      mobj 11 v8 <|
                                                      MX11_thrown v8 fun v1605 =>
                                                      mif (v1605 = v1587) (
                                                        mjoin (α := MP) (
                                                          k2055 (bc_23 - mc1587) (bs_23 - ms1587)
                                                        ) fun k1632 =>
                                                        mif (v1587 = 0) (
                                                          maldL v17 0 fun v1622 =>
                                                          mif ((mcmp v1622 v1599) = 0) (
                                                            k1632
                                                          ) (
                                                            Qj 0
                                                          )
                                                        ) (
                                                          k1632
                                                        )
                                                      ) (
                                                        Qj 0
                                                      )
                                                    ) (
                                                      mif ((mand32 v36 63) = 25) (
                                                        mscr Ln xs (w32 (x4_23 + 1)) fun v1641 =>
                                                        mscr Ln xs (w32 (x4_23 + 2)) fun v1647 =>
                                                        mscr Ln xs (w32 (x4_23 + 3)) fun v1653 =>
                                                        mjoin (α := Int → MP) (fun (s3_1662 : Int) =>
                                                          mbud bc_23 bs_23 fun mc1663 ms1663 =>
                                                          MX0_odds mc1663 ms1663 v0 v1641 v1647 s3_1662 v17 fun v1663 =>
                                                          mscr Ln xs (w32 (x4_23 + 1)) fun v1674 =>
                                                          mscr Ln xs (w32 (x4_23 + 2)) fun v1680 =>
                                                          mscr Ln xs (w32 (x4_23 + 3)) fun v1686 =>
                                                          mjoin (α := Int → MP) (fun (s3_1695 : Int) =>
                                                            mobj 11 v8 <|
                                                            MX11_odds v8 v1674 v1680 s3_1695 fun v1695 =>
                                                            mobj 11 v8 <|
                                                            MX11_thrown v8 fun v1701 =>
                                                            mif (v1701 = v1663) (
                                                              mjoin (α := MP) (
                                                                k2055 (bc_23 - mc1663) (bs_23 - ms1663)
                                                              ) fun k1727 =>
                                                              mif (v1663 = 0) (
                                                                maldL v17 0 fun v1718 =>
                                                                mif ((mcmp v1718 v1695) = 0) (
                                                                  k1727
                                                                ) (
                                                                  Qj 0
                                                                )
                                                              ) (
                                                                k1727
                                                              )
                                                            ) (
                                                              Qj 0
                                                            )
                                                          ) fun k1695 =>
                                                          mif (v1686 = 0) (
                                                            k1695 0
                                                          ) (
                                                            k1695 1
                                                          )
                                                        ) fun k1662 =>
                                                        mif (v1653 = 0) (
                                                          k1662 0
                                                        ) (
                                                          k1662 1
                                                        )
                                                      ) (
                                                        mif ((mand32 v36 63) = 26) (
                                                          mscr Ln xs (w32 (x4_23 + 1)) fun v1736 =>
                                                          mscr Ln xs (w32 (x4_23 + 2)) fun v1742 =>
                                                          mscr Ln xs (w32 (x4_23 + 3)) fun v1748 =>
                                                          mjoin (α := Int → MP) (fun (s3_1757 : Int) =>
                                                            mbud bc_23 bs_23 fun mc1758 ms1758 =>
                                                            MX0_shared mc1758 ms1758 v0 v1736 v1742 s3_1757 v17 fun v1758 =>
                                                            mscr Ln xs (w32 (x4_23 + 1)) fun v1769 =>
                                                            mscr Ln xs (w32 (x4_23 + 2)) fun v1775 =>
                                                            mscr Ln xs (w32 (x4_23 + 3)) fun v1781 =>
                                                            mjoin (α := Int → MP) (fun (s3_1790 : Int) =>
                                                              mobj 11 v8 <|
                                                              MX11_shared v8 v1769 v1775 s3_1790 fun v1790 =>
                                                              mobj 11 v8 <|
                                                              MX11_thrown v8 fun v1796 =>
                                                              mif (v1796 = v1758) (
                                                                mjoin (α := MP) (
                                                                  k2055 (bc_23 - mc1758) (bs_23 - ms1758)
                                                                ) fun k1823 =>
                                                                mif (v1758 = 0) (
                                                                  maldL v17 0 fun v1813 =>
                                                                  mif ((mcmp v1813 v1790) = 0) (
                                                                    k1823
                                                                  ) (
                                                                    Qj 0
                                                                  )
                                                                ) (
                                                                  k1823
                                                                )
                                                              ) (
                                                                Qj 0
                                                              )
                                                            ) fun k1790 =>
                                                            mif (v1781 = 0) (
                                                              k1790 0
                                                            ) (
                                                              k1790 1
                                                            )
                                                          ) fun k1757 =>
                                                          mif (v1748 = 0) (
                                                            k1757 0
                                                          ) (
                                                            k1757 1
                                                          )
                                                        ) (
                                                          mif ((mand32 v36 63) = 27) (
                                                            mscr Ln xs (w32 (x4_23 + 1)) fun v1832 =>
                                                            mscr Ln xs (w32 (x4_23 + 2)) fun v1838 =>
                                                            mbud bc_23 bs_23 fun mc1840 ms1840 =>
                                                            MX0_alike mc1840 ms1840 v0 v1832 v1838 v17 fun v1840 =>
                                                            mscr Ln xs (w32 (x4_23 + 1)) fun v1851 =>
                                                            mscr Ln xs (w32 (x4_23 + 2)) fun v1857 =>
                                                            mobj 11 v8 <|
                                                            MX11_alike v8 v1851 v1857 fun v1858 =>
                                                            mobj 11 v8 <|
                                                            MX11_thrown v8 fun v1864 =>
                                                            mif (v1864 = v1840) (
                                                              mjoin (α := MP) (
                                                                k2055 (bc_23 - mc1840) (bs_23 - ms1840)
                                                              ) fun k1891 =>
                                                              mif (v1840 = 0) (
                                                                maldL v17 0 fun v1881 =>
                                                                mif ((mcmp v1881 v1858) = 0) (
                                                                  k1891
                                                                ) (
                                                                  Qj 0
                                                                )
                                                              ) (
                                                                k1891
                                                              )
                                                            ) (
                                                              Qj 0
                                                            )
                                                          ) (
                                                            mif ((mand32 v36 63) = 28) (
                                                              mscr Ln xs (w32 (x4_23 + 1)) fun v1900 =>
                                                              mbud bc_23 bs_23 fun mc1902 ms1902 =>
                                                              MX0_way mc1902 ms1902 v0 v1900 v17 fun v1902 =>
                                                              mscr Ln xs (w32 (x4_23 + 1)) fun v1913 =>
                                                              mobj 11 v8 <|
                                                              MX11_way v8 v1913 fun v1914 =>
                                                              mobj 11 v8 <|
                                                              MX11_thrown v8 fun v1920 =>
                                                              mif (v1920 = v1902) (
                                                                mjoin (α := MP) (
                                                                  k2055 (bc_23 - mc1902) (bs_23 - ms1902)
                                                                ) fun k1947 =>
                                                                mif (v1902 = 0) (
                                                                  maldL v17 0 fun v1937 =>
                                                                  mif ((mcmp v1937 v1914) = 0) (
                                                                    k1947
                                                                  ) (
                                                                    Qj 0
                                                                  )
                                                                ) (
                                                                  k1947
                                                                )
                                                              ) (
                                                                Qj 0
                                                              )
                                                            ) (
                                                              mif ((mand32 v36 63) = 29) (
                                                                mscr Ln xs (w32 (x4_23 + 1)) fun v1956 =>
                                                                mbud bc_23 bs_23 fun mc1958 ms1958 =>
                                                                MX0_cheaper mc1958 ms1958 v0 v1956 v17 fun v1958 =>
                                                                mscr Ln xs (w32 (x4_23 + 1)) fun v1969 =>
                                                                mobj 11 v8 <|
                                                                MX11_cheaper v8 v1969 fun v1970 =>
                                                                mobj 11 v8 <|
                                                                MX11_thrown v8 fun v1976 =>
                                                                mif (v1976 = v1958) (
                                                                  mjoin (α := MP) (
                                                                    k2055 (bc_23 - mc1958) (bs_23 - ms1958)
                                                                  ) fun k2003 =>
                                                                  mif (v1958 = 0) (
                                                                    maldL v17 0 fun v1993 =>
                                                                    mif ((mcmp v1993 v1970) = 0) (
                                                                      k2003
                                                                    ) (
                                                                      Qj 0
                                                                    )
                                                                  ) (
                                                                    k2003
                                                                  )
                                                                ) (
                                                                  Qj 0
                                                                )
                                                              ) (
                                                                mif ((mand32 v36 63) = 30) (
                                                                  mobj 1 v0 <|
                                                                  MX1_image v0 <|
                                                                  mobj 11 v8 <|
                                                                  MX11_image v8 <|
                                                                  k2055 bc_23 bs_23
                                                                ) (
                                                                  mif ((mand32 v36 63) = 31) (
                                                                    mobj 1 v0 <|
                                                                    MX1_back v0 fun v2018 =>
                                                                    mobj 11 v8 <|
                                                                    MX11_back v8 fun v2022 =>
                                                                    mif (v2018 = v2022) (
                                                                      k2055 bc_23 bs_23
                                                                    ) (
                                                                      Qj 0
                                                                    )
                                                                  ) (
                                                                    mif ((mand32 v36 63) = 32) (
                                                                      mscr Ln xs (w32 (x4_23 + 1)) fun v2036 =>
                                                                      mobj 1 v0 <|
                                                                      MX1_count v0 v2036 fun v2037 =>
                                                                      mscr Ln xs (w32 (x4_23 + 1)) fun v2046 =>
                                                                      mobj 11 v8 <|
                                                                      MX11_count v8 v2046 fun v2047 =>
                                                                      mif (v2037 = v2047) (
                                                                        k2055 bc_23 bs_23
                                                                      ) (
                                                                        Qj 0
                                                                      )
                                                                    ) (
                                                                      k2055 bc_23 bs_23
                                                                    )
                                                                  )
                                                                )
                                                              )
                                                            )
                                                          )
                                                        )
                                                      )
                                                    )
                                                  )
                                                )
                                              )
                                            )
                                          )
                                        )
                                      )
                                    )
                                  )
                                )
                              )
                            )
                          )
                        )
                      )
                    )
                  )
                )
              )
            )
          )
        )
      )
    )
  )
def ML_law (sK : Nat → Nat) (bc : Nat) (bs : Nat) (p0 : Nat) (xs : Nat → Int32) (Ln : Nat) (Qj : Int → MP) : MP :=
  mnew 1 18 bc bs fun v0 =>
  mbud (bc - 1) (bs - 18) fun mc4 ms4 =>
  MX1_init sK mc4 ms4 v0 <|
  mnew 11 52 ((bc - 1) - mc4) ((bs - 18) - ms4) fun v8 =>
  mbud (((bc - 1) - mc4) - 1) (((bs - 18) - ms4) - 52) fun mc12 ms12 =>
  MX11_init mc12 ms12 v8 <|
  mnewT 3 1 ((((bc - 1) - mc4) - 1) - mc12) ((((bs - 18) - ms4) - 52) - ms12) fun v17 =>
  mex fun n23 => jit (GL_law_23 sK xs Ln Qj v0 v8 v17) (fun _ _ _ => mbot) n23 0 (((((bc - 1) - mc4) - 1) - mc12) - 1) (((((bs - 18) - ms4) - 52) - ms12) - (nI 1).toNatClampNeg)
