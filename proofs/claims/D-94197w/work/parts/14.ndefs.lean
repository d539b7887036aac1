set_option maxRecDepth 100000
def HX11_feed_60 (k106 : NP) (rec60 : Int → NP) (x6_60 : Int) : NP :=
  nif ((20 : Int) ≤ x6_60) (
    k106
  ) (
    nget 5 fun v72 =>
    nald 4 5 (w32 (Int.tdiv x6_60 4)) fun v86 =>
    nast 3 400 (w32 (v72 + x6_60)) (mnB (mi2b (mshr v86 (w32 (24 - (w32 (8 * (Int.tmod x6_60 4)))))))) <|
    rec60 (w32 (x6_60 + 1))
  )
def NX11_feed (p1 : Int) (p2 : Int) (p3 : Int) (p4 : Int) (p5 : Int) (Qj : Int → NP) : NP :=
  nset 0 0 <|
  nget 5 fun v6 =>
  nif ((w32 (v6 + 20)) ≤ 400) (
    nast 4 5 0 p1 <|
    nast 4 5 1 p2 <|
    nast 4 5 2 p3 <|
    nast 4 5 3 p4 <|
    nast 4 5 4 p5 <|
    nex fun n60 => jit (HX11_feed_60 (nget 5 fun v108 => nset 5 (w32 (v108 + 20)) <| nget 5 fun v118 => Qj v118)) (fun _ => nbot) n60 0
  ) (
    Qj (-1)
  )
def NX11_end (p1 : Int) (Qj : Int → NP) : NP :=
  nset 0 0 <|
  nif (p1 < 0) (
    Qj 0
  ) (
    nget 5 fun v11 =>
    nif (p1 ≤ v11) (
      nset 5 p1 <|
      Qj 1
    ) (
      Qj 0
    )
  )
def NX11_isAt (p1 : Int) (p2 : Int) (Qj : Int → NP) : NP :=
  nget 6 fun v1 =>
  nget 7 fun v5 =>
  njoin (α := NP) (
    Qj 0
  ) fun k41 =>
  nif (v5 ≤ v1) (
    k41
  ) (
    nget 6 fun v16 =>
    nald 3 400 v16 fun v19 =>
    nif (v19 < p1) (
      k41
    ) (
      nget 6 fun v29 =>
      nald 3 400 v29 fun v32 =>
      nif (p2 < v32) (
        k41
      ) (
        Qj 1
      )
    )
  )
def HX11_blanks_0 (k24 : NP) (rec0 : NP) : NP :=
  NX11_isAt 32 32 fun v5 =>
  nif (v5 = 0) (
    k24
  ) (
    nget 6 fun v13 =>
    nset 6 (w32 (v13 + 1)) <|
    rec0
  )
def NX11_blanks (Qj : NP) : NP :=
  nex fun n0 => jit (HX11_blanks_0 (nget 6 fun v26 => nset 8 v26 <| Qj)) nbot n0
def HX11_letters_4 (Qj : NP) (rec4 : NP) : NP :=
  NX11_isAt 97 122 fun v9 =>
  nif (v9 = 0) (
    Qj
  ) (
    nget 6 fun v17 =>
    nset 6 (w32 (v17 + 1)) <|
    rec4
  )
def NX11_letters (Qj : NP) : NP :=
  NX11_blanks <|
  nex fun n4 => jit (HX11_letters_4 Qj) nbot n4
def HX11_isWord_24 (sK : Nat → Nat) (p1 : Nat) (Qj : Int → NP) (rec24 : Int → Int → NP) (x2_24 : Int) (x3_24 : Int) : NP :=
  nif (x2_24 = 0) (
    nand (x2_24 = 0 ∨ x2_24 = 1) (
      Qj x2_24
    )
  ) (
    nslen sK p1 fun v30 =>
    nif (v30 ≤ x3_24) (
      nand (x2_24 = 0 ∨ x2_24 = 1) (
        Qj x2_24
      )
    ) (
      nget 8 fun v41 =>
      nald 3 400 (w32 (v41 + x3_24)) fun v46 =>
      nschr sK p1 x3_24 fun v49 =>
      njoin (α := Int → NP) (fun (s0_60 : Int) =>
        rec24 s0_60 (w32 (x3_24 + 1))
      ) fun k60 =>
      nif (v46 = v49) (
        k60 1
      ) (
        k60 0
      )
    )
  )
def NX11_isWord (sK : Nat → Nat) (p1 : Nat) (Qj : Int → NP) : NP :=
  nget 6 fun v1 =>
  nget 8 fun v5 =>
  nslen sK p1 fun v10 =>
  njoin (α := Int → NP) (fun (s0_21 : Int) =>
    nex fun n24 => jit (HX11_isWord_24 sK p1 Qj) (fun _ _ => nbot) n24 s0_21 0
  ) fun k21 =>
  nif ((w32 (v1 - v5)) = v10) (
    k21 1
  ) (
    k21 0
  )
def HX11_number_6 (k65 : Int → NP) (rec6 : Int → NP) (x3_6 : Int) : NP :=
  NX11_isAt 48 57 fun v11 =>
  nif (v11 = 0) (
    k65 x3_6
  ) (
    nget 6 fun v18 =>
    nget 8 fun v22 =>
    njoin (α := Int → NP) (fun (s0_51 : Int) =>
      nget 6 fun v54 =>
      nset 6 (w32 (v54 + 1)) <|
      rec6 s0_51
    ) fun k51 =>
    nif ((3 : Int) ≤ (w32 (v18 - v22))) (
      k51 x3_6
    ) (
      nget 6 fun v39 =>
      nald 3 400 v39 fun v42 =>
      k51 (w32 ((w32 ((w32 (10 * x3_6)) + v42)) - 48))
    )
  )
def NX11_number (p1 : Int) (p2 : Int) (Qj : Int → NP) : NP :=
  NX11_blanks <|
  nex fun n6 => jit (HX11_number_6 (fun (y3_65 : Int) => nget 6 fun v66 => nget 8 fun v70 => njoin (α := NP) (   Qj (-1) ) fun k99 => nif (v66 = v70) (   k99 ) (   nget 6 fun v77 =>   nget 8 fun v81 =>   nif ((3 : Int) < (w32 (v77 - v81))) (     k99   ) (     nif (y3_65 < p1) (       k99     ) (       nif (y3_65 ≤ p2) (         Qj y3_65       ) (         k99       )     )   ) ))) (fun _ => nbot) n6 0
def NX11_readKindLine (sK : Nat → Nat) (p1 : Int) (Qj : Int → NP) : NP :=
  NX11_isWord sK (sK 4) fun v3 =>
  njoin (α := Int → NP) (fun (s0_66 : Int) =>
    nast 5 12 (w32 (2 * p1)) s0_66 <|
    njoin (α := Int → NP) (fun (s2_104 : Int) =>
      nast 5 12 (w32 ((w32 (2 * p1)) + 1)) s2_104 <|
      njoin (α := NP) (
        Qj 0
      ) fun k126 =>
      nif (s0_66 < 0) (
        k126
      ) (
        nald 5 12 (w32 ((w32 (2 * p1)) + 1)) fun v118 =>
        nif (v118 < 0) (
          k126
        ) (
          Qj 1
        )
      )
    ) fun k104 =>
    njoin (α := NP) (
      k104 0
    ) fun k103 =>
    nif (s0_66 < 0) (
      k103
    ) (
      nif ((3 : Int) ≤ s0_66) (
        k103
      ) (
        NX11_number 1 5 fun v97 =>
        k104 v97
      )
    )
  ) fun k66 =>
  nif (v3 = 0) (
    NX11_isWord sK (sK 5) fun v16 =>
    nif (v16 = 0) (
      NX11_isWord sK (sK 6) fun v29 =>
      nif (v29 = 0) (
        NX11_isWord sK (sK 7) fun v42 =>
        nif (v42 = 0) (
          NX11_isWord sK (sK 8) fun v55 =>
          nif (v55 = 0) (
            k66 (-1)
          ) (
            k66 4
          )
        ) (
          k66 3
        )
      ) (
        k66 2
      )
    ) (
      k66 1
    )
  ) (
    k66 0
  )
def NX11_keepsAt (p1 : Int) (p2 : Int) (Qj : Int → NP) : NP :=
  nast 1 2125 p1 p2 <|
  nif (p2 < 0) (
    Qj 0
  ) (
    Qj 1
  )
def NX11_sign (p1 : Int) (Qj : Int → NP) : NP :=
  NX11_blanks <|
  NX11_isAt p1 p1 fun v7 =>
  nif (v7 = 0) (
    Qj 0
  ) (
    nget 6 fun v17 =>
    nset 6 (w32 (v17 + 1)) <|
    Qj 1
  )
def NX11_factAt (sK : Nat → Nat) (Qj : Int → NP) : NP :=
  NX11_isWord sK (sK 0) fun v3 =>
  nif (v3 = 0) (
    NX11_isWord sK (sK 1) fun v16 =>
    nif (v16 = 0) (
      NX11_isWord sK (sK 2) fun v29 =>
      nif (v29 = 0) (
        NX11_isWord sK (sK 3) fun v42 =>
        nif (v42 = 0) (
          Qj (-1)
        ) (
          Qj 3
        )
      ) (
        Qj 2
      )
    ) (
      Qj 1
    )
  ) (
    Qj 0
  )
def NX11_passes (sK : Nat → Nat) (p1 : Nat) (Qj : Int → NP) : NP :=
  NX11_letters <|
  NX11_isWord sK p1 fun v6 =>
  nif (v6 = 0) (
    nget 8 fun v16 =>
    nset 6 v16 <|
    Qj 0
  ) (
    Qj 1
  )
def NX11_emits (p1 : Int) (p2 : Int) (Qj : NP) : NP :=
  nget 12 fun v5 =>
  nast 1 2125 (w32 (1325 + (w32 (2 * v5)))) p1 <|
  nast 1 2125 (w32 ((w32 (1325 + (w32 (2 * v5)))) + 1)) p2 <|
  nget 12 fun v29 =>
  nset 12 (w32 (v29 + 1)) <|
  Qj
def NX11_readPart (sK : Nat → Nat) (Qj : Int → NP) : NP :=
  NX11_letters <|
  nget 6 fun v7 =>
  nget 8 fun v11 =>
  njoin (α := Int → NP) (fun (x1_47 : Int) =>
    nif (x1_47 < 0) (
      Qj 0
    ) (
      Qj 1
    )
  ) fun k47 =>
  nif (v7 ≤ v11) (
    NX11_number 0 999 fun v36 =>
    NX11_emits 6 v36 <|
    k47 v36
  ) (
    NX11_factAt sK fun v18 =>
    NX11_emits v18 0 <|
    k47 v18
  )
def HX11_readSum_9 (sK : Nat → Nat) (Qj : Int → NP) (rec9 : NP) : NP :=
  NX11_sign 43 fun v12 =>
  nif (v12 = 0) (
    Qj 1
  ) (
    NX11_readPart sK fun v19 =>
    nif (v19 = 0) (
      Qj 0
    ) (
      NX11_emits 7 0 rec9
    )
  )
def NX11_readSum (sK : Nat → Nat) (Qj : Int → NP) : NP :=
  NX11_readPart sK fun v1 =>
  nif (v1 = 0) (
    Qj 0
  ) (
    nex fun n9 => jit (HX11_readSum_9 sK Qj) nbot n9
  )
def HX11_readAllOf_9 (sK : Nat → Nat) (rJX11_readAtom : (Int → NP) → NP) (Qj : Int → NP) (rec9 : NP) : NP :=
  NX11_passes sK (sK 11) fun v12 =>
  nif (v12 = 0) (
    Qj 1
  ) (
    rJX11_readAtom fun v19 =>
    nif (v19 = 0) (
      Qj 0
    ) (
      NX11_emits 11 0 rec9
    )
  )
def NX11_readAllOfF (sK : Nat → Nat) (rJX11_readAllOf : (Int → NP) → NP) (rJX11_readAtom : (Int → NP) → NP) (rJX11_readCond : (Int → NP) → NP) (Qj : Int → NP) : NP :=
  rJX11_readAtom fun v1 =>
  nif (v1 = 0) (
    Qj 0
  ) (
    nex fun n9 => jit (HX11_readAllOf_9 sK rJX11_readAtom Qj) nbot n9
  )
def NX11_readAtomF (sK : Nat → Nat) (rJX11_readAllOf : (Int → NP) → NP) (rJX11_readAtom : (Int → NP) → NP) (rJX11_readCond : (Int → NP) → NP) (Qj : Int → NP) : NP :=
  NX11_sign 40 fun v3 =>
  nif (v3 = 0) (
    NX11_passes sK (sK 13) fun v59 =>
    nif (v59 = 0) (
      NX11_passes sK (sK 14) fun v117 =>
      njoin (α := NP) (
        njoin (α := Int → NP) (fun (s1_144 : Int) =>
          NX11_emits s1_144 0 <|
          Qj 1
        ) fun k144 =>
        nif (v117 = 0) (
          k144 5
        ) (
          k144 4
        )
      ) fun k134 =>
      nif (v117 = 0) (
        NX11_passes sK (sK 15) fun v128 =>
        nif (v128 = 0) (
          NX11_readSum sK fun v151 =>
          nif (v151 = 0) (
            Qj 0
          ) (
            NX11_sign 60 fun v162 =>
            njoin (α := NP) (
              NX11_readSum sK fun v180 =>
              nif (v180 = 0) (
                Qj 0
              ) (
                njoin (α := Int → NP) (fun (s1_200 : Int) =>
                  NX11_emits s1_200 0 <|
                  Qj 1
                ) fun k200 =>
                nif (v162 = 0) (
                  k200 9
                ) (
                  k200 8
                )
              )
            ) fun k179 =>
            nif (v162 = 0) (
              NX11_sign 62 fun v173 =>
              nif (v173 = 0) (
                Qj 0
              ) (
                k179
              )
            ) (
              k179
            )
          )
        ) (
          k134
        )
      ) (
        k134
      )
    ) (
      nget 9 fun v66 =>
      nif (v66 = 6) (
        Qj 0
      ) (
        nget 9 fun v78 =>
        nset 9 (w32 (v78 + 1)) <|
        rJX11_readAtom fun v87 =>
        nif (v87 = 0) (
          Qj 0
        ) (
          nget 9 fun v97 =>
          nset 9 (w32 (v97 - 1)) <|
          NX11_emits 10 0 <|
          Qj 1
        )
      )
    )
  ) (
    nget 9 fun v10 =>
    nif (v10 = 6) (
      Qj 0
    ) (
      nget 9 fun v22 =>
      nset 9 (w32 (v22 + 1)) <|
      rJX11_readCond fun v31 =>
      nif (v31 = 0) (
        Qj 0
      ) (
        nget 9 fun v41 =>
        nset 9 (w32 (v41 - 1)) <|
        NX11_sign 41 fun v52 =>
        nand (v52 = 0 ∨ v52 = 1) (
          Qj v52
        )
      )
    )
  )
def HX11_readCond_9 (sK : Nat → Nat) (rJX11_readAllOf : (Int → NP) → NP) (Qj : Int → NP) (rec9 : NP) : NP :=
  NX11_passes sK (sK 12) fun v12 =>
  nif (v12 = 0) (
    Qj 1
  ) (
    rJX11_readAllOf fun v19 =>
    nif (v19 = 0) (
      Qj 0
    ) (
      NX11_emits 12 0 rec9
    )
  )
def NX11_readCondF (sK : Nat → Nat) (rJX11_readAllOf : (Int → NP) → NP) (rJX11_readAtom : (Int → NP) → NP) (rJX11_readCond : (Int → NP) → NP) (Qj : Int → NP) : NP :=
  rJX11_readAllOf fun v1 =>
  nif (v1 = 0) (
    Qj 0
  ) (
    nex fun n9 => jit (HX11_readCond_9 sK rJX11_readAllOf Qj) nbot n9
  )
def NX11_readAllOfR (sK : Nat → Nat) : Nat → ((Int → NP) → NP) × ((Int → NP) → NP) × ((Int → NP) → NP)
  | 0 => ((fun _ => nbot), (fun _ => nbot), (fun _ => nbot))
  | n + 1 => (NX11_readAllOfF sK (NX11_readAllOfR sK n).1 (NX11_readAllOfR sK n).2.1 (NX11_readAllOfR sK n).2.2, NX11_readAtomF sK (NX11_readAllOfR sK n).1 (NX11_readAllOfR sK n).2.1 (NX11_readAllOfR sK n).2.2, NX11_readCondF sK (NX11_readAllOfR sK n).1 (NX11_readAllOfR sK n).2.1 (NX11_readAllOfR sK n).2.2)
def NX11_readAllOf (sK : Nat → Nat) (n : Nat) : (Int → NP) → NP := (NX11_readAllOfR sK n).1
def NX11_readAtom (sK : Nat → Nat) (n : Nat) : (Int → NP) → NP := (NX11_readAllOfR sK n).2.1
def NX11_readCond (sK : Nat → Nat) (n : Nat) : (Int → NP) → NP := (NX11_readAllOfR sK n).2.2
def NX11_readMeasureLine (sK : Nat → Nat) (p1 : Int) (Qj : Int → NP) : NP :=
  NX11_isWord sK (sK 9) fun v11 =>
  nif (v11 = 0) (
    Qj 0
  ) (
    NX11_number 0 999 fun v24 =>
    NX11_keepsAt (w32 (1285 + (w32 (4 * p1)))) v24 fun v27 =>
    nif (v27 = 0) (
      Qj 0
    ) (
      nast 1 2125 (w32 ((w32 (1285 + (w32 (4 * p1)))) + 1)) (-1) <|
      NX11_sign 42 fun v47 =>
      njoin (α := NP) (
        nget 12 fun v81 =>
        nast 1 2125 (w32 ((w32 (1285 + (w32 (4 * p1)))) + 2)) v81 <|
        nset 9 0 <|
        NX11_passes sK (sK 10) fun v93 =>
        njoin (α := NP) (
          nget 12 fun v116 =>
          nast 1 2125 (w32 ((w32 (1285 + (w32 (4 * p1)))) + 3)) v116 <|
          Qj 1
        ) fun k108 =>
        nif (v93 = 0) (
          k108
        ) (
          NX11_readCond sK 40 fun v100 =>
          nif (v100 = 0) (
            Qj 0
          ) (
            k108
          )
        )
      ) fun k73 =>
      nif (v47 = 0) (
        k73
      ) (
        NX11_letters <|
        NX11_factAt sK fun v62 =>
        NX11_keepsAt (w32 ((w32 (1285 + (w32 (4 * p1)))) + 1)) v62 fun v65 =>
        nif (v65 = 0) (
          Qj 0
        ) (
          k73
        )
      )
    )
  )
def HX11_readAll_42 (sK : Nat → Nat) (p1 : Int) (Qj : Int → NP) (k103 : Int → NP) (rec42 : Int → NP) (x2_42 : Int) : NP :=
  NX11_letters <|
  njoin (α := Int → NP) (fun (s1_58 : Int) =>
    nif (x2_42 = s1_58) (
      Qj (-1)
    ) (
      njoin (α := NP) (
        NX11_blanks <|
        nget 6 fun v93 =>
        nget 7 fun v97 =>
        nif (v93 = v97) (
          k103 x2_42
        ) (
          NX11_isAt 59 59 fun v112 =>
          nif (v112 = 0) (
            Qj (-1)
          ) (
            nget 6 fun v122 =>
            nset 6 (w32 (v122 + 1)) <|
            rec42 (w32 (x2_42 + 1))
          )
        )
      ) fun k88 =>
      nif (p1 = 0) (
        NX11_readMeasureLine sK x2_42 fun v80 =>
        nif (v80 = 0) (
          Qj (-1)
        ) (
          k88
        )
      ) (
        NX11_readKindLine sK x2_42 fun v69 =>
        nif (v69 = 0) (
          Qj (-1)
        ) (
          k88
        )
      )
    )
  ) fun k58 =>
  nif (p1 = 0) (
    k58 10
  ) (
    k58 6
  )
def NX11_readAll (sK : Nat → Nat) (p1 : Int) (Qj : Int → NP) : NP :=
  nget 5 fun v2 =>
  nset 7 v2 <|
  nset 5 0 <|
  nset 6 0 <|
  nset 12 0 <|
  NX11_blanks <|
  nget 6 fun v28 =>
  nget 7 fun v32 =>
  nif (v28 = v32) (
    Qj 0
  ) (
    nex fun n42 => jit (HX11_readAll_42 sK p1 Qj (fun (y2_103 : Int) => Qj (w32 (y2_103 + 1)))) (fun _ => nbot) n42 0
  )
def NX11_in (p0 : Int) (p1 : Int) (p2 : Int) (Qj : Int → NP) : NP :=
  njoin (α := NP) (
    Qj 0
  ) fun k14 =>
  nif (p0 < p1) (
    k14
  ) (
    nif (p2 < p0) (
      k14
    ) (
      Qj 1
    )
  )
def NX11_throwsIf (p1 : Int) (p2 : Int) (Qj : Int → NP) : NP :=
  nif (p1 = 0) (
    nand (p1 = 0 ∨ p1 = 1) (
      Qj p1
    )
  ) (
    nset 0 p2 <|
    nand (p1 = 0 ∨ p1 = 1) (
      Qj p1
    )
  )
def HX11_kind_111 (v7 : Int) (v88 : Int) (k143 : NP) (rec111 : Int → NP) (x4_111 : Int) : NP :=
  nif ((w32 (2 * v7)) ≤ x4_111) (
    k143
  ) (
    nald 5 12 x4_111 fun v135 =>
    nast 1 2125 (w32 ((w32 ((w32 (49 + (w32 (14 * v88)))) + 2)) + x4_111)) v135 <|
    rec111 (w32 (x4_111 + 1))
  )
def NX11_kind (sK : Nat → Nat) (p1 : Int) (Qj : Int → NP) : NP :=
  nset 0 0 <|
  NX11_readAll sK 1 fun v7 =>
  njoin (α := Int → NP) (fun (s1_24 : Int) =>
    nset 10 s1_24 <|
    njoin (α := Int → NP) (fun (s1_47 : Int) =>
      NX11_throwsIf s1_47 1 fun v48 =>
      nif (v48 = 0) (
        nald 1 2125 0 fun v60 =>
        njoin (α := Int → NP) (fun (s1_70 : Int) =>
          NX11_throwsIf s1_70 2 fun v71 =>
          nif (v71 = 0) (
            nald 1 2125 0 fun v88 =>
            nast 1 2125 (w32 (49 + (w32 (14 * v88)))) p1 <|
            nast 1 2125 (w32 ((w32 (49 + (w32 (14 * v88)))) + 1)) v7 <|
            nex fun n111 => jit (HX11_kind_111 v7 v88 (nald 1 2125 0 fun v149 => nast 1 2125 0 (w32 (v149 + 1)) <| nald 1 2125 0 fun v158 => Qj (w32 (v158 - 1)))) (fun _ => nbot) n111 0
          ) (
            Qj 0
          )
        ) fun k70 =>
        nif (v60 = 5) (
          k70 1
        ) (
          k70 0
        )
      ) (
        Qj 0
      )
    ) fun k47 =>
    njoin (α := NP) (
      k47 1
    ) fun k42 =>
    nif (v7 < 0) (
      k42
    ) (
      NX11_in p1 0 20 fun v36 =>
      nif (v36 = 0) (
        k42
      ) (
        k47 0
      )
    )
  ) fun k24 =>
  nif ((0 : Int) ≤ v7) (
    k24 (-1)
  ) (
    nget 8 fun v17 =>
    k24 v17
  )
def NX11_thrown (Qj : Int → NP) : NP :=
  nget 0 fun v1 =>
  Qj v1
def HX11_measure_57 (k90 : NP) (rec57 : Int → NP) (x2_57 : Int) : NP :=
  nif ((841 : Int) ≤ x2_57) (
    k90
  ) (
    nald 1 2125 (w32 (1284 + x2_57)) fun v82 =>
    nast 1 2125 (w32 (443 + x2_57)) v82 <|
    rec57 (w32 (x2_57 + 1))
  )
def NX11_measure (sK : Nat → Nat) (Qj : Int → NP) : NP :=
  nset 0 0 <|
  NX11_readAll sK 0 fun v7 =>
  njoin (α := Int → NP) (fun (s1_24 : Int) =>
    nset 10 s1_24 <|
    njoin (α := Int → NP) (fun (s1_37 : Int) =>
      NX11_throwsIf s1_37 1 fun v38 =>
      nif (v38 = 0) (
        nast 1 2125 1284 v7 <|
        nex fun n57 => jit (HX11_measure_57 (nast 1 2125 4 1 <| Qj v7)) (fun _ => nbot) n57 0
      ) (
        Qj 0
      )
    ) fun k37 =>
    nif ((0 : Int) ≤ v7) (
      k37 0
    ) (
      k37 1
    )
  ) fun k24 =>
  nif ((0 : Int) ≤ v7) (
    k24 (-1)
  ) (
    nget 8 fun v17 =>
    k24 v17
  )
def NX11_fault (Qj : Int → NP) : NP :=
  nset 0 0 <|
  nget 10 fun v6 =>
  Qj v6
def NX11_noSquare (p0 : Int) (Qj : Int → NP) : NP :=
  NX11_in p0 0 35 fun v4 =>
  nif (v4 = 0) (
    Qj 1
  ) (
    Qj 0
  )
def NX11_none (p1 : Int) (p2 : Int) (Qj : Int → NP) : NP :=
  nald 1 2125 p2 fun v7 =>
  NX11_in p1 0 (w32 (v7 - 1)) fun v10 =>
  nif (v10 = 0) (
    Qj 1
  ) (
    Qj 0
  )
def NX11_noKind (p1 : Int) (Qj : Int → NP) : NP :=
  NX11_none p1 0 fun v3 =>
  nand (v3 = 0 ∨ v3 = 1) (
    Qj v3
  )
def NX11_man (p0 : Int) (p1 : Int) (Qj : Int → NP) : NP :=
  nif ((0 : Int) ≤ p0) (
    Qj (w32 ((w32 (2 * p0)) + p1))
  ) (
    Qj (-1)
  )
def NX11_put (p1 : Int) (p2 : Int) (p3 : Int) (Qj : NP) : NP :=
  nset 0 0 <|
  NX11_noSquare p1 fun v7 =>
  njoin (α := Int → NP) (fun (s1_31 : Int) =>
    NX11_throwsIf s1_31 1 fun v32 =>
    nif (v32 = 0) (
      njoin (α := Int → NP) (fun (s1_58 : Int) =>
        NX11_throwsIf s1_58 2 fun v59 =>
        nif (v59 = 0) (
          NX11_man p2 p3 fun v76 =>
          nast 1 2125 (w32 (13 + p1)) v76 <|
          Qj
        ) (
          Qj
        )
      ) fun k58 =>
      njoin (α := NP) (
        k58 0
      ) fun k57 =>
      nif (p2 = (-1)) (
        k57
      ) (
        NX11_in p3 0 1 fun v47 =>
        nif (v47 = 0) (
          k58 1
        ) (
          k57
        )
      )
    ) (
      Qj
    )
  ) fun k31 =>
  njoin (α := NP) (
    k31 1
  ) fun k26 =>
  nif (v7 = 0) (
    njoin (α := NP) (
      k31 0
    ) fun k30 =>
    nif (p2 = (-1)) (
      k30
    ) (
      NX11_noKind p2 fun v20 =>
      nif (v20 = 0) (
        k30
      ) (
        k26
      )
    )
  ) (
    k26
  )
def HX11_begins_2 (Qj : NP) (rec2 : Int → NP) (x1_2 : Int) : NP :=
  nif ((36 : Int) ≤ x1_2) (
    Qj
  ) (
    nald 1 2125 (w32 (13 + x1_2)) fun v21 =>
    nast 8 1116 x1_2 v21 <|
    rec2 (w32 (x1_2 + 1))
  )
def NX11_begins (Qj : NP) : NP :=
  nex fun n2 => jit (HX11_begins_2 Qj) (fun _ => nbot) n2 0
def NX11_at (p1 : Int) (p2 : Int) (Qj : Int → NP) : NP :=
  nald 8 1116 (w32 ((w32 (36 * p1)) + p2)) fun v10 =>
  Qj v10
def NX11_sideOf (p0 : Int) (Qj : Int → NP) : NP :=
  Qj (mand32 p0 1)
def NX11_off (p0 : Int) (p1 : Int) (p2 : Int) (Qj : Int → NP) : NP :=
  NX11_in (w32 ((Int.tmod p0 6) + p1)) 0 5 fun v18 =>
  njoin (α := NP) (
    Qj (-1)
  ) fun k44 =>
  nif (v18 = 0) (
    k44
  ) (
    NX11_in (w32 ((w32 (Int.tdiv p0 6)) + p2)) 0 5 fun v28 =>
    nif (v28 = 0) (
      k44
    ) (
      Qj (w32 ((w32 (6 * (w32 ((w32 (Int.tdiv p0 6)) + p2)))) + (w32 ((Int.tmod p0 6) + p1))))
    )
  )
def NX11_may (p1 : Int) (p2 : Int) (p3 : Int) (Qj : NP) : NP :=
  nast 9 40176 (w32 ((w32 ((w32 (1296 * p1)) + (w32 (36 * p2)))) + p3)) (mnZ 1) <|
  Qj
def HX11_along_6 (p1 : Int) (p2 : Int) (p3 : Int) (p4 : Int) (p5 : Int) (p6 : Int) (Qj : NP) (rec6 : Int → Int → NP) (x7_6 : Int) (x8_6 : Int) : NP :=
  nif (p5 ≤ x8_6) (
    Qj
  ) (
    NX11_off x7_6 p3 p4 fun v18 =>
    nif ((0 : Int) ≤ v18) (
      NX11_at p1 v18 fun v33 =>
      njoin (α := NP) (
        nif (v33 < 0) (
          rec6 v18 (w32 (x8_6 + 1))
        ) (
          Qj
        )
      ) fun k73 =>
      njoin (α := NP) (
        NX11_may p1 p2 v18 k73
      ) fun k65 =>
      nif (v33 < 0) (
        k65
      ) (
        nif (p6 = 0) (
          NX11_sideOf v33 fun v50 =>
          NX11_at p1 p2 fun v56 =>
          NX11_sideOf v56 fun v59 =>
          nif (v50 = v59) (
            k73
          ) (
            k65
          )
        ) (
          k73
        )
      )
    ) (
      Qj
    )
  )
def NX11_along (p1 : Int) (p2 : Int) (p3 : Int) (p4 : Int) (p5 : Int) (p6 : Int) (Qj : NP) : NP :=
  nex fun n6 => jit (HX11_along_6 p1 p2 p3 p4 p5 p6 Qj) (fun _ _ => nbot) n6 p2 0
def HX11_leaps_12 (p1 : Int) (p2 : Int) (x3_3 : Int) (k48 : NP) (rec12 : Int → NP) (x4_12 : Int) : NP :=
  nif ((2 : Int) < x4_12) (
    k48
  ) (
    njoin (α := NP) (
      rec12 (w32 (x4_12 + 1))
    ) fun k42 =>
    nif ((w32 ((w32 (x3_3 * x3_3)) + (w32 (x4_12 * x4_12)))) = 5) (
      NX11_along p1 p2 x3_3 x4_12 1 0 k42
    ) (
      k42
    )
  )
def HX11_leaps_3 (p1 : Int) (p2 : Int) (Qj : NP) (rec3 : Int → NP) (x3_3 : Int) : NP :=
  nif ((2 : Int) < x3_3) (
    Qj
  ) (
    nex fun n12 => jit (HX11_leaps_12 p1 p2 x3_3 (rec3 (w32 (x3_3 + 1)))) (fun _ => nbot) n12 (-2)
  )
def NX11_leaps (p1 : Int) (p2 : Int) (Qj : NP) : NP :=
  nex fun n3 => jit (HX11_leaps_3 p1 p2 Qj) (fun _ => nbot) n3 (-2)
def HX11_bites_3 (p1 : Int) (p2 : Int) (p3 : Int) (Qj : NP) (rec3 : Int → NP) (x4_3 : Int) : NP :=
  nif ((1 : Int) < x4_3) (
    Qj
  ) (
    NX11_off p2 x4_3 p3 fun v13 =>
    njoin (α := NP) (
      rec3 (w32 (x4_3 + 2))
    ) fun k44 =>
    nif (v13 < 0) (
      k44
    ) (
      NX11_at p1 v13 fun v27 =>
      nif (v27 < 0) (
        k44
      ) (
        NX11_along p1 p2 x4_3 p3 1 0 k44
      )
    )
  )
def NX11_bites (p1 : Int) (p2 : Int) (p3 : Int) (Qj : NP) : NP :=
  nex fun n3 => jit (HX11_bites_3 p1 p2 p3 Qj) (fun _ => nbot) n3 (-1)
def HX11_goes_187 (p1 : Int) (p2 : Int) (v78 : Int) (x9_172 : Int) (k212 : NP) (rec187 : Int → NP) (x10_187 : Int) : NP :=
  nif ((1 : Int) < x10_187) (
    k212
  ) (
    NX11_along p1 p2 x9_172 x10_187 v78 0 <|
    rec187 (w32 (x10_187 + 2))
  )
def HX11_goes_172 (p1 : Int) (p2 : Int) (v62 : Int) (v78 : Int) (k218 : NP) (rec172 : Int → NP) (x9_172 : Int) : NP :=
  nif ((1 : Int) < x9_172) (
    k218
  ) (
    nif (v62 = 1) (
      nex fun n187 => jit (HX11_goes_187 p1 p2 v78 x9_172 (rec172 (w32 (x9_172 + 2)))) (fun _ => nbot) n187 (-1)
    ) (
      k218
    )
  )
def HX11_goes_128 (p1 : Int) (p2 : Int) (v62 : Int) (v78 : Int) (k169 : NP) (rec128 : Int → NP) (x9_128 : Int) : NP :=
  nif ((1 : Int) < x9_128) (
    k169
  ) (
    nif (v62 = 0) (
      NX11_along p1 p2 x9_128 0 v78 0 <|
      NX11_along p1 p2 0 x9_128 v78 0 <|
      rec128 (w32 (x9_128 + 2))
    ) (
      k169
    )
  )
def HX11_goes_35 (p1 : Int) (p2 : Int) (Qj : NP) (v3 : Int) (s0_19 : Int) (rec35 : Int → NP) (x6_35 : Int) : NP :=
  nald 1 2125 (w32 ((w32 (49 + (w32 (14 * (w32 (Int.tdiv v3 2)))))) + 1)) fun v45 =>
  nif (v45 ≤ x6_35) (
    Qj
  ) (
    nald 1 2125 (w32 ((w32 ((w32 (49 + (w32 (14 * (w32 (Int.tdiv v3 2)))))) + 2)) + (w32 (2 * x6_35)))) fun v62 =>
    nald 1 2125 (w32 ((w32 ((w32 (49 + (w32 (14 * (w32 (Int.tdiv v3 2)))))) + 3)) + (w32 (2 * x6_35)))) fun v78 =>
    njoin (α := NP) (
      njoin (α := NP) (
        njoin (α := NP) (
          nex fun n128 => jit (HX11_goes_128 p1 p2 v62 v78 (nex fun n172 => jit (HX11_goes_172 p1 p2 v62 v78 (rec35 (w32 (x6_35 + 1)))) (fun _ => nbot) n172 (-1))) (fun _ => nbot) n128 (-1)
        ) fun k125 =>
        nif (v62 = 4) (
          NX11_bites p1 p2 s0_19 k125
        ) (
          k125
        )
      ) fun k111 =>
      nif (v62 = 3) (
        NX11_leaps p1 p2 k111
      ) (
        k111
      )
    ) fun k99 =>
    nif (v62 = 2) (
      NX11_along p1 p2 0 s0_19 v78 1 k99
    ) (
      k99
    )
  )
def NX11_goes (p1 : Int) (p2 : Int) (Qj : NP) : NP :=
  NX11_at p1 p2 fun v3 =>
  NX11_sideOf v3 fun v8 =>
  njoin (α := Int → NP) (fun (s0_19 : Int) =>
    nex fun n35 => jit (HX11_goes_35 p1 p2 Qj v3 s0_19) (fun _ => nbot) n35 0
  ) fun k19 =>
  nif (v8 = 0) (
    k19 1
  ) (
    k19 (-1)
  )
def HX11_finds_30 (p1 : Int) (p2 : Int) (Qj : NP) (rec30 : Int → NP) (x3_30 : Int) : NP :=
  nif ((36 : Int) ≤ x3_30) (
    Qj
  ) (
    NX11_at p1 x3_30 fun v39 =>
    njoin (α := NP) (
      rec30 (w32 (x3_30 + 1))
    ) fun k64 =>
    nif (v39 < 0) (
      k64
    ) (
      NX11_at p1 x3_30 fun v48 =>
      NX11_sideOf v48 fun v51 =>
      nif (v51 = p2) (
        NX11_goes p1 x3_30 k64
      ) (
        k64
      )
    )
  )
def HX11_finds_2 (p1 : Int) (k28 : NP) (rec2 : Int → NP) (x3_2 : Int) : NP :=
  nif ((1296 : Int) ≤ x3_2) (
    k28
  ) (
    nast 9 40176 (w32 ((w32 (1296 * p1)) + x3_2)) (mnZ 0) <|
    rec2 (w32 (x3_2 + 1))
  )
def NX11_finds (p1 : Int) (p2 : Int) (Qj : NP) : NP :=
  nex fun n2 => jit (HX11_finds_2 p1 (nex fun n30 => jit (HX11_finds_30 p1 p2 Qj) (fun _ => nbot) n30 0)) (fun _ => nbot) n2 0
def HX11_manyAt_4 (p1 : Int) (Qj : Int → NP) (rec4 : Int → Int → NP) (x2_4 : Int) (x3_4 : Int) : NP :=
  nif ((1296 : Int) ≤ x3_4) (
    Qj x2_4
  ) (
    nald 9 40176 (w32 ((w32 (1296 * p1)) + x3_4)) fun v23 =>
    njoin (α := Int → NP) (fun (s1_32 : Int) =>
      rec4 (w32 (x2_4 + s1_32)) (w32 (x3_4 + 1))
    ) fun k32 =>
    nif (v23 = 0) (
      k32 0
    ) (
      k32 1
    )
  )
def NX11_manyAt (p1 : Int) (Qj : Int → NP) : NP :=
  nex fun n4 => jit (HX11_manyAt_4 p1 Qj) (fun _ _ => nbot) n4 0 0
def HX11_moveAt_5 (p1 : Int) (Qj : Int → NP) (rec5 : Int → Int → NP) (x3_5 : Int) (x4_5 : Int) : NP :=
  nif ((1296 : Int) ≤ x4_5) (
    Qj (-1)
  ) (
    nald 9 40176 (w32 ((w32 (1296 * p1)) + x4_5)) fun v25 =>
    njoin (α := Int → NP) (fun (x3_42 : Int) =>
      rec5 x3_42 (w32 (x4_5 + 1))
    ) fun k42 =>
    nif (v25 = 0) (
      k42 x3_5
    ) (
      nif (x3_5 = 0) (
        Qj x4_5
      ) (
        k42 (w32 (x3_5 + (-1)))
      )
    )
  )
def NX11_moveAt (p1 : Int) (p2 : Int) (Qj : Int → NP) : NP :=
  nex fun n5 => jit (HX11_moveAt_5 p1 Qj) (fun _ _ => nbot) n5 p2 0
def NX11_moves (p1 : Int) (p2 : Int) (Qj : Int → NP) : NP :=
  nset 0 0 <|
  NX11_in p1 0 1 fun v9 =>
  njoin (α := Int → NP) (fun (s1_25 : Int) =>
    NX11_throwsIf s1_25 1 fun v26 =>
    nif (v26 = 0) (
      NX11_begins <|
      NX11_finds 0 p1 <|
      nif ((0 : Int) ≤ p2) (
        NX11_moveAt 0 p2 fun v59 =>
        Qj v59
      ) (
        NX11_manyAt 0 fun v50 =>
        Qj v50
      )
    ) (
      Qj 0
    )
  ) fun k25 =>
  njoin (α := NP) (
    k25 1
  ) fun k20 =>
  nif (v9 = 0) (
    k20
  ) (
    nif (((-1) : Int) ≤ p2) (
      k25 0
    ) (
      k20
    )
  )
def NX11_book (p1 : Int) (Qj : Int → NP) : NP :=
  nset 0 0 <|
  NX11_in p1 0 1 fun v9 =>
  njoin (α := Int → NP) (fun (s1_20 : Int) =>
    NX11_throwsIf s1_20 1 fun v21 =>
    nif (v21 = 0) (
      nald 1 2125 1 fun v33 =>
      njoin (α := Int → NP) (fun (s1_43 : Int) =>
        NX11_throwsIf s1_43 2 fun v44 =>
        nif (v44 = 0) (
          nald 1 2125 1 fun v57 =>
          nast 1 2125 (w32 (119 + (w32 (98 * v57)))) p1 <|
          nast 1 2125 (w32 ((w32 (119 + (w32 (98 * v57)))) + 1)) 0 <|
          nald 1 2125 1 fun v93 =>
          nast 1 2125 1 (w32 (v93 + 1)) <|
          Qj v57
        ) (
          Qj 0
        )
      ) fun k43 =>
      nif (v33 = 3) (
        k43 1
      ) (
        k43 0
      )
    ) (
      Qj 0
    )
  ) fun k20 =>
  nif (v9 = 0) (
    k20 1
  ) (
    k20 0
  )
def NX11_noBook (p1 : Int) (Qj : Int → NP) : NP :=
  NX11_none p1 1 fun v3 =>
  nand (v3 = 0 ∨ v3 = 1) (
    Qj v3
  )
def NX11_badNote (p0 : Int) (p1 : Int) (p2 : Int) (Qj : Int → NP) : NP :=
  NX11_in p0 (-1) 5 fun v3 =>
  njoin (α := NP) (
    Qj 1
  ) fun k27 =>
  nif (v3 = 0) (
    k27
  ) (
    NX11_in p1 0 5 fun v12 =>
    nif (v12 = 0) (
      k27
    ) (
      NX11_in p2 0 5 fun v21 =>
      nif (v21 = 0) (
        k27
      ) (
        Qj 0
      )
    )
  )
def NX11_ofBook (p1 : Int) (p2 : Int) (Qj : Int → NP) : NP :=
  nald 1 2125 (w32 ((w32 (119 + (w32 (98 * p1)))) + p2)) fun v13 =>
  Qj v13
def NX11_notes (p1 : Int) (Qj : Int → NP) : NP :=
  NX11_ofBook p1 1 fun v3 =>
  Qj v3
def NX11_setsNote (p1 : Int) (p2 : Int) (p3 : Int) (p4 : Int) (p5 : Int) (p6 : Int) (Qj : NP) : NP :=
  nast 1 2125 (w32 ((w32 ((w32 (119 + (w32 (98 * p1)))) + 2)) + (w32 (4 * p2)))) p3 <|
  nast 1 2125 (w32 ((w32 ((w32 ((w32 (119 + (w32 (98 * p1)))) + 2)) + (w32 (4 * p2)))) + 1)) p4 <|
  nast 1 2125 (w32 ((w32 ((w32 ((w32 (119 + (w32 (98 * p1)))) + 2)) + (w32 (4 * p2)))) + 2)) p5 <|
  nast 1 2125 (w32 ((w32 ((w32 ((w32 (119 + (w32 (98 * p1)))) + 2)) + (w32 (4 * p2)))) + 3)) p6 <|
  Qj
def NX11_addsNote (p1 : Int) (p2 : Int) (p3 : Int) (p4 : Int) (p5 : Int) (Qj : Int → NP) : NP :=
  NX11_notes p1 fun v4 =>
  NX11_setsNote p1 v4 p2 p3 p4 p5 <|
  nald 1 2125 (w32 ((w32 (119 + (w32 (98 * p1)))) + 1)) fun v30 =>
  nast 1 2125 (w32 ((w32 (119 + (w32 (98 * p1)))) + 1)) (w32 (v30 + 1)) <|
  NX11_notes p1 fun v36 =>
  Qj (w32 (v36 - 1))
def NX11_note (p1 : Int) (p2 : Int) (p3 : Int) (p4 : Int) (p5 : Int) (Qj : Int → NP) : NP :=
  nset 0 0 <|
  NX11_noBook p1 fun v8 =>
  njoin (α := Int → NP) (fun (s1_27 : Int) =>
    NX11_throwsIf s1_27 1 fun v28 =>
    nif (v28 = 0) (
      NX11_badNote p3 p4 p5 fun v40 =>
      NX11_throwsIf v40 2 fun v44 =>
      nif (v44 = 0) (
        NX11_notes p1 fun v53 =>
        njoin (α := Int → NP) (fun (s1_66 : Int) =>
          NX11_throwsIf s1_66 3 fun v67 =>
          nif (v67 = 0) (
            NX11_addsNote p1 p2 p3 p4 p5 fun v83 =>
            Qj v83
          ) (
            Qj 0
          )
        ) fun k66 =>
        nif (v53 = 24) (
          k66 1
        ) (
          k66 0
        )
      ) (
        Qj 0
      )
    ) (
      Qj 0
    )
  ) fun k27 =>
  njoin (α := NP) (
    k27 1
  ) fun k22 =>
  nif (v8 = 0) (
    NX11_noKind p2 fun v16 =>
    nif (v16 = 0) (
      k27 0
    ) (
      k22
    )
  ) (
    k22
  )
def NX11_noNote (p1 : Int) (p2 : Int) (Qj : Int → NP) : NP :=
  NX11_noBook p1 fun v2 =>
  njoin (α := NP) (
    Qj 1
  ) fun k23 =>
  nif (v2 = 0) (
    NX11_notes p1 fun v12 =>
    NX11_in p2 0 (w32 (v12 - 1)) fun v17 =>
    nif (v17 = 0) (
      k23
    ) (
      Qj 0
    )
  ) (
    k23
  )
def NX11_ofNote (p1 : Int) (p2 : Int) (p3 : Int) (Qj : Int → NP) : NP :=
  NX11_ofBook p1 (w32 ((w32 (2 + (w32 (4 * p2)))) + p3)) fun v9 =>
  Qj v9
def NX11_change (p1 : Int) (p2 : Int) (p3 : Int) (p4 : Int) (p5 : Int) (p6 : Int) (Qj : Int → NP) : NP :=
  nset 0 0 <|
  NX11_noNote p1 p2 fun v9 =>
  njoin (α := Int → NP) (fun (s1_28 : Int) =>
    NX11_throwsIf s1_28 1 fun v29 =>
    nif (v29 = 0) (
      NX11_badNote p4 p5 p6 fun v42 =>
      NX11_throwsIf v42 2 fun v46 =>
      nif (v46 = 0) (
        NX11_ofNote p1 p2 0 fun v58 =>
        njoin (α := Int → NP) (fun (s0_106 : Int) =>
          NX11_setsNote p1 p2 p3 p4 p5 p6 <|
          nand (s0_106 = 0 ∨ s0_106 = 1) (
            Qj s0_106
          )
        ) fun k106 =>
        njoin (α := NP) (
          k106 1
        ) fun k101 =>
        nif (v58 = p3) (
          NX11_ofNote p1 p2 1 fun v69 =>
          nif (v69 = p4) (
            NX11_ofNote p1 p2 2 fun v81 =>
            nif (v81 = p5) (
              NX11_ofNote p1 p2 3 fun v93 =>
              nif (v93 = p6) (
                k106 0
              ) (
                k101
              )
            ) (
              k101
            )
          ) (
            k101
          )
        ) (
          k101
        )
      ) (
        Qj 0
      )
    ) (
      Qj 0
    )
  ) fun k28 =>
  njoin (α := NP) (
    k28 1
  ) fun k23 =>
  nif (v9 = 0) (
    NX11_noKind p3 fun v17 =>
    nif (v17 = 0) (
      k28 0
    ) (
      k23
    )
  ) (
    k23
  )
def NX11_look (p1 : Int) (p2 : Int) (p3 : Int) (Qj : Int → NP) : NP :=
  nset 0 0 <|
  NX11_noNote p1 p2 fun v9 =>
  NX11_throwsIf v9 1 fun v13 =>
  njoin (α := NP) (
    Qj 0
  ) fun k41 =>
  nif (v13 = 0) (
    NX11_in p3 0 3 fun v23 =>
    njoin (α := Int → NP) (fun (s1_34 : Int) =>
      NX11_throwsIf s1_34 2 fun v35 =>
      nif (v35 = 0) (
        NX11_ofNote p1 p2 p3 fun v49 =>
        Qj v49
      ) (
        k41
      )
    ) fun k34 =>
    nif (v23 = 0) (
      k34 1
    ) (
      k34 0
    )
  ) (
    k41
  )
def NX11_draw (Qj : Int → NP) : NP :=
  nget 51 fun v5 =>
  nset 51 (w32 ((w32 (1103515245 * v5)) + 12345)) <|
  nget 51 fun v17 =>
  Qj (mand32 (mshr v17 16) 32767)
def HX11_makes_2 (p1 : Int) (k33 : NP) (rec2 : Int → NP) (x3_2 : Int) : NP :=
  nif ((36 : Int) ≤ x3_2) (
    k33
  ) (
    NX11_at p1 x3_2 fun v23 =>
    nast 8 1116 (w32 ((w32 (36 * (w32 (p1 + 1)))) + x3_2)) v23 <|
    rec2 (w32 (x3_2 + 1))
  )
def NX11_makes (p1 : Int) (p2 : Int) (Qj : NP) : NP :=
  nex fun n2 => jit (HX11_makes_2 p1 (NX11_at p1 (w32 (Int.tdiv p2 36)) fun v54 => nast 8 1116 (w32 ((w32 (36 * (w32 (p1 + 1)))) + (Int.tmod p2 36))) v54 <| nast 8 1116 (w32 ((w32 (36 * (w32 (p1 + 1)))) + (w32 (Int.tdiv p2 36)))) (-1) <| Qj)) (fun _ => nbot) n2 0
def HX11_write_133 (p1 : Int) (p2 : Int) (p3 : Int) (Qj : Int → NP) (v77 : Int) (rec133 : Int → NP) (x6_133 : Int) : NP :=
  nif (p2 ≤ x6_133) (
    Qj v77
  ) (
    NX11_finds x6_133 (Int.tmod x6_133 2) <|
    NX11_manyAt x6_133 fun v152 =>
    nif (v152 = 0) (
      Qj v77
    ) (
      NX11_draw fun v169 =>
      nand (¬ v152 = 0) <|
      NX11_moveAt x6_133 (Int.tmod v169 v152) fun v175 =>
      NX11_at x6_133 (w32 (Int.tdiv v175 36)) fun v195 =>
      njoin (α := Int → NP) (fun (s0_237 : Int) =>
        NX11_draw fun v240 =>
        njoin (α := Int → Int → Int → NP) (fun (x10_326 : Int) (x11_326 : Int) (x12_326 : Int) =>
          NX11_addsNote v77 x10_326 (-1) x11_326 x12_326 fun v336 =>
          NX11_makes x6_133 v175 <|
          rec133 (w32 (x6_133 + 1))
        ) fun k326 =>
        nif (p3 ≤ (Int.tmod v240 10)) (
          k326 (w32 (Int.tdiv v195 2)) (Int.tmod (Int.tmod v175 36) 6) s0_237
        ) (
          NX11_draw fun v251 =>
          nif ((Int.tmod v251 3) = 0) (
            nald 1 2125 0 fun v272 =>
            nand (¬ v272 = 0) <|
            k326 (Int.tmod (w32 ((w32 (Int.tdiv v195 2)) + 1)) v272) (Int.tmod (Int.tmod v175 36) 6) s0_237
          ) (
            nif ((Int.tmod v251 3) = 1) (
              njoin (α := Int → NP) (fun (s0_302 : Int) =>
                k326 (w32 (Int.tdiv v195 2)) s0_302 s0_237
              ) fun k302 =>
              nif ((Int.tmod (Int.tmod v175 36) 6) = 5) (
                k302 (w32 ((Int.tmod (Int.tmod v175 36) 6) - 1))
              ) (
                k302 (w32 ((Int.tmod (Int.tmod v175 36) 6) + 1))
              )
            ) (
              njoin (α := Int → NP) (fun (s0_324 : Int) =>
                k326 (w32 (Int.tdiv v195 2)) (Int.tmod (Int.tmod v175 36) 6) s0_324
              ) fun k324 =>
              nif (s0_237 = 5) (
                k324 (w32 (s0_237 - 1))
              ) (
                k324 (w32 (s0_237 + 1))
              )
            )
          )
        )
      ) fun k237 =>
      njoin (α := NP) (
        k237 (w32 (Int.tdiv (Int.tmod v175 36) 6))
      ) fun k232 =>
      nif (p1 = 1) (
        nif ((Int.tmod x6_133 2) = 1) (
          k237 (w32 (5 - (w32 (Int.tdiv (Int.tmod v175 36) 6))))
        ) (
          k232
        )
      ) (
        k232
      )
    )
  )
def NX11_write (p1 : Int) (p2 : Int) (p3 : Int) (p4 : Int) (Qj : Int → NP) : NP :=
  nset 0 0 <|
  NX11_in p1 0 1 fun v9 =>
  njoin (α := Int → NP) (fun (s1_40 : Int) =>
    NX11_throwsIf s1_40 1 fun v41 =>
    nif (v41 = 0) (
      nald 1 2125 1 fun v53 =>
      njoin (α := Int → NP) (fun (s1_63 : Int) =>
        NX11_throwsIf s1_63 2 fun v64 =>
        nif (v64 = 0) (
          nald 1 2125 1 fun v77 =>
          nast 1 2125 (w32 (119 + (w32 (98 * v77)))) p1 <|
          nast 1 2125 (w32 ((w32 (119 + (w32 (98 * v77)))) + 1)) 0 <|
          nald 1 2125 1 fun v116 =>
          nast 1 2125 1 (w32 (v116 + 1)) <|
          nset 51 p4 <|
          NX11_begins <|
          nex fun n133 => jit (HX11_write_133 p1 p2 p3 Qj v77) (fun _ => nbot) n133 0
        ) (
          Qj 0
        )
      ) fun k63 =>
      nif (v53 = 3) (
        k63 1
      ) (
        k63 0
      )
    ) (
      Qj 0
    )
  ) fun k40 =>
  njoin (α := NP) (
    k40 1
  ) fun k35 =>
  nif (v9 = 0) (
    k35
  ) (
    NX11_in p2 1 24 fun v19 =>
    nif (v19 = 0) (
      k35
    ) (
      NX11_in p3 0 9 fun v29 =>
      nif (v29 = 0) (
        k35
      ) (
        k40 0
      )
    )
  )
def NX11_price (p1 : Int) (p2 : Int) (Qj : Int → NP) : NP :=
  nset 0 0 <|
  NX11_in p1 1 7 fun v10 =>
  njoin (α := Int → NP) (fun (s1_21 : Int) =>
    NX11_throwsIf s1_21 1 fun v22 =>
    nif (v22 = 0) (
      NX11_in p2 0 9 fun v33 =>
      njoin (α := Int → NP) (fun (s1_44 : Int) =>
        NX11_throwsIf s1_44 2 fun v45 =>
        nif (v45 = 0) (
          nald 1 2125 (w32 (5 + p1)) fun v60 =>
          nast 1 2125 (w32 (5 + p1)) p2 <|
          Qj v60
        ) (
          Qj 0
        )
      ) fun k44 =>
      nif (v33 = 0) (
        k44 1
      ) (
        k44 0
      )
    ) (
      Qj 0
    )
  ) fun k21 =>
  nif (v10 = 0) (
    k21 1
  ) (
    k21 0
  )
def NX11_length (p1 : Int) (Qj : NP) : NP :=
  nset 0 0 <|
  NX11_in p1 (-1) 30 fun v10 =>
  njoin (α := Int → NP) (fun (s1_21 : Int) =>
    NX11_throwsIf s1_21 1 fun v22 =>
    nif (v22 = 0) (
      nast 1 2125 3 p1 <|
      Qj
    ) (
      Qj
    )
  ) fun k21 =>
  nif (v10 = 0) (
    k21 1
  ) (
    k21 0
  )
def NX11_picture (p1 : Int) (p2 : Int) (p3 : Int) (p4 : Int) (Qj : Int → NP) : NP :=
  nset 0 0 <|
  NX11_noSquare p2 fun v7 =>
  njoin (α := Int → NP) (fun (s1_31 : Int) =>
    NX11_throwsIf s1_31 1 fun v32 =>
    nif (v32 = 0) (
      NX11_in p1 0 30 fun v43 =>
      njoin (α := Int → NP) (fun (s1_69 : Int) =>
        NX11_throwsIf s1_69 2 fun v70 =>
        nif (v70 = 0) (
          nald 1 2125 2 fun v82 =>
          njoin (α := Int → NP) (fun (s1_93 : Int) =>
            NX11_throwsIf s1_93 3 fun v94 =>
            nif (v94 = 0) (
              nald 1 2125 2 fun v111 =>
              nast 1 2125 (w32 (413 + (w32 (3 * v111)))) p1 <|
              nast 1 2125 (w32 ((w32 (413 + (w32 (3 * v111)))) + 1)) p2 <|
              NX11_man p3 p4 fun v145 =>
              nast 1 2125 (w32 ((w32 (413 + (w32 (3 * v111)))) + 2)) v145 <|
              nald 1 2125 2 fun v155 =>
              nast 1 2125 2 (w32 (v155 + 1)) <|
              nald 1 2125 2 fun v164 =>
              Qj v164
            ) (
              Qj 0
            )
          ) fun k93 =>
          nif (v82 = 10) (
            k93 1
          ) (
            k93 0
          )
        ) (
          Qj 0
        )
      ) fun k69 =>
      njoin (α := NP) (
        k69 1
      ) fun k64 =>
      nif (v43 = 0) (
        k64
      ) (
        njoin (α := NP) (
          k69 0
        ) fun k68 =>
        nif (p3 = (-1)) (
          k68
        ) (
          NX11_in p4 0 1 fun v58 =>
          nif (v58 = 0) (
            k64
          ) (
            k68
          )
        )
      )
    ) (
      Qj 0
    )
  ) fun k31 =>
  njoin (α := NP) (
    k31 1
  ) fun k26 =>
  nif (v7 = 0) (
    njoin (α := NP) (
      k31 0
    ) fun k30 =>
    nif (p3 = (-1)) (
      k30
    ) (
      NX11_noKind p3 fun v20 =>
      nif (v20 = 0) (
        k30
      ) (
        k26
      )
    )
  ) (
    k26
  )
def HX11_asksAll_46 (Qj : NP) (rec46 : Int → NP) (x1_46 : Int) : NP :=
  nif ((8 : Int) ≤ x1_46) (
    Qj
  ) (
    nald 1 2125 (w32 (5 + x1_46)) fun v64 =>
    nast 11 8 x1_46 v64 <|
    rec46 (w32 (x1_46 + 1))
  )
def HX11_asksAll_16 (k44 : NP) (rec16 : Int → NP) (x1_16 : Int) : NP :=
  nald 1 2125 1 fun v22 =>
  nif (v22 ≤ x1_16) (
    k44
  ) (
    NX11_ofBook x1_16 0 fun v34 =>
    nast 10 3 x1_16 v34 <|
    rec16 (w32 (x1_16 + 1))
  )
def NX11_asksAll (Qj : NP) : NP :=
  nald 1 2125 1 fun v7 =>
  nset 18 (w32 ((mshl 1 v7) - 1)) <|
  nex fun n16 => jit (HX11_asksAll_16 (nex fun n46 => jit (HX11_asksAll_46 Qj) (fun _ => nbot) n46 0)) (fun _ => nbot) n16 0
def NX11_isAsked (p1 : Int) (Qj : Int → NP) : NP :=
  nget 18 fun v1 =>
  nif ((mand32 (mshr v1 p1) 1) = 1) (
    Qj 1
  ) (
    Qj 0
  )
def NX11_sumAt (p0 : Int) (p1 : Int) (p2 : Int) (Qj : Int → NP) : NP :=
  Qj (w32 ((w32 (25 * (w32 ((w32 (31 * p0)) + p1)))) + p2))
def NX11_fitAt (p0 : Int) (p1 : Int) (p2 : Int) (Qj : Int → NP) : NP :=
  Qj (w32 ((w32 ((w32 ((w32 (3 * p0)) + p1)) * 24)) + p2))
def NX11_ofMove (p1 : Int) (p2 : Int) (p3 : Int) (Qj : Int → NP) : NP :=
  njoin (α := NP) (
    Qj 1000
  ) fun k8 =>
  nif (p1 = 0) (
    k8
  ) (
    nif (p2 = 0) (
      k8
    ) (
      NX11_sumAt p3 (w32 (p1 - 1)) (w32 (p2 - 1)) fun v25 =>
      nald 15 2325 v25 fun v28 =>
      NX11_fitAt (w32 (p1 - 1)) p3 (w32 (p2 - 1)) fun v40 =>
      nald 13 2232 v40 fun v43 =>
      Qj (w32 (v28 + v43))
    )
  )
def NX11_ofLost (p1 : Int) (p2 : Int) (p3 : Int) (Qj : Int → NP) : NP :=
  njoin (α := NP) (
    Qj 1000
  ) fun k14 =>
  nif (p1 = 0) (
    k14
  ) (
    nald 11 8 6 fun v10 =>
    nif (v10 = 0) (
      k14
    ) (
      NX11_sumAt p3 (w32 (p1 - 1)) p2 fun v29 =>
      nald 15 2325 v29 fun v32 =>
      nald 11 8 6 fun v39 =>
      Qj (w32 (v32 + v39))
    )
  )
def HX11_isTwice_23 (p1 : Int) (p2 : Int) (Qj : Int → NP) (rec23 : Int → Int → NP) (x3_23 : Int) (x4_23 : Int) : NP :=
  nif ((4 : Int) ≤ x4_23) (
    nand (x3_23 = 0 ∨ x3_23 = 1) (
      Qj x3_23
    )
  ) (
    nif (x3_23 = 0) (
      nand (x3_23 = 0 ∨ x3_23 = 1) (
        Qj x3_23
      )
    ) (
      NX11_ofNote p1 p2 x4_23 fun v38 =>
      NX11_ofNote p1 (w32 (p2 - 1)) x4_23 fun v48 =>
      njoin (α := Int → NP) (fun (s0_59 : Int) =>
        rec23 s0_59 (w32 (x4_23 + 1))
      ) fun k59 =>
      nif (v38 = v48) (
        k59 1
      ) (
        k59 0
      )
    )
  )
def NX11_isTwice (p1 : Int) (p2 : Int) (Qj : Int → NP) : NP :=
  njoin (α := Int → NP) (fun (s0_19 : Int) =>
    nex fun n23 => jit (HX11_isTwice_23 p1 p2 Qj) (fun _ _ => nbot) n23 s0_19 0
  ) fun k19 =>
  njoin (α := NP) (
    k19 0
  ) fun k18 =>
  nif (p2 ≤ 0) (
    k18
  ) (
    nald 11 8 7 fun v10 =>
    nif (v10 ≤ 0) (
      k18
    ) (
      k19 1
    )
  )
def NX11_ofTwice (p1 : Int) (p2 : Int) (p3 : Int) (Qj : Int → NP) : NP :=
  njoin (α := NP) (
    Qj 1000
  ) fun k15 =>
  nif (p2 = 0) (
    k15
  ) (
    NX11_isTwice p3 (w32 (p2 - 1)) fun v9 =>
    nif (v9 = 0) (
      k15
    ) (
      NX11_sumAt p3 p1 (w32 (p2 - 1)) fun v30 =>
      nald 15 2325 v30 fun v33 =>
      nald 11 8 7 fun v40 =>
      Qj (w32 (v33 + v40))
    )
  )
def HX11_sums_2 (p1 : Int) (p2 : Int) (Qj : NP) (rec2 : Int → NP) (x3_2 : Int) : NP :=
  NX11_notes p1 fun v5 =>
  nif (v5 < x3_2) (
    Qj
  ) (
    njoin (α := Int → NP) (fun (s0_48 : Int) =>
      NX11_sumAt p1 p2 x3_2 fun v57 =>
      nast 15 2325 v57 (min 1000 s0_48) <|
      rec2 (w32 (x3_2 + 1))
    ) fun k48 =>
    nif ((w32 (p2 + x3_2)) = 0) (
      k48 0
    ) (
      NX11_ofMove p2 x3_2 p1 fun v25 =>
      NX11_ofLost p2 x3_2 p1 fun v32 =>
      NX11_ofTwice p2 x3_2 p1 fun v39 =>
      k48 (min v25 (min v32 v39))
    )
  )
def NX11_sums (p1 : Int) (p2 : Int) (Qj : NP) : NP :=
  nex fun n2 => jit (HX11_sums_2 p1 p2 Qj) (fun _ => nbot) n2 0
def HX11_prices_46 (p1 : Int) (x2_12 : Int) (k79 : Int → NP) (rec46 : Int → Int → NP) (x3_46 : Int) (x4_46 : Int) : NP :=
  NX11_notes x2_12 fun v50 =>
  nif (v50 < x4_46) (
    k79 x3_46
  ) (
    NX11_sumAt x2_12 p1 x4_46 fun v65 =>
    nald 15 2325 v65 fun v68 =>
    rec46 (min x3_46 v68) (w32 (x4_46 + 1))
  )
def HX11_prices_12 (p1 : Int) (Qj : NP) (rec12 : Int → NP) (x2_12 : Int) : NP :=
  nald 1 2125 1 fun v18 =>
  nif (v18 ≤ x2_12) (
    Qj
  ) (
    NX11_isAsked x2_12 fun v24 =>
    njoin (α := NP) (
      rec12 (w32 (x2_12 + 1))
    ) fun k113 =>
    nif (v24 = 0) (
      k113
    ) (
      NX11_sums x2_12 p1 <|
      nex fun n46 => jit (HX11_prices_46 p1 x2_12 (fun (y3_79 : Int) => nget 25 fun v81 => nset 25 (w32 (v81 + y3_79)) <| nget 26 fun v91 => NX11_notes x2_12 fun v102 => NX11_sumAt x2_12 p1 v102 fun v105 => nald 15 2325 v105 fun v108 => nset 26 (w32 (v91 + v108)) <| k113)) (fun _ _ => nbot) n46 1000 0
    )
  )
def NX11_prices (p1 : Int) (Qj : NP) : NP :=
  nset 25 0 <|
  nset 26 0 <|
  nex fun n12 => jit (HX11_prices_12 p1 Qj) (fun _ => nbot) n12 0
def NX11_valueOf (p1 : Int) (Qj : Int → NP) : NP :=
  nald 1 2125 (w32 (49 + (w32 (14 * p1)))) fun v11 =>
  Qj v11
def HX11_holdsLine_11 (p1 : Int) (k258 : Int → NP) (rec11 : Int → Int → NP) (x2_11 : Int) (x3_11 : Int) : NP :=
  nald 1 2125 (w32 (p1 + 3)) fun v19 =>
  nif (v19 ≤ x3_11) (
    k258 x2_11
  ) (
    nald 1 2125 (w32 (484 + (w32 (2 * x3_11)))) fun v34 =>
    njoin (α := Int → NP) (fun (x2_252 : Int) =>
      rec11 x2_252 (w32 (x3_11 + 1))
    ) fun k252 =>
    nif ((6 : Int) < v34) (
      nif (v34 = 10) (
        nald 7 400 (w32 (x2_11 - 1)) fun v109 =>
        nast 7 400 (w32 (x2_11 - 1)) (w32 (1 - v109)) <|
        k252 x2_11
      ) (
        nald 7 400 (w32 ((w32 (x2_11 + (-1))) - 1)) fun v125 =>
        nald 7 400 (w32 (x2_11 + (-1))) fun v133 =>
        njoin (α := Int → NP) (fun (s0_217 : Int) =>
          njoin (α := Int → NP) (fun (s2_251 : Int) =>
            nast 7 400 (w32 ((w32 (x2_11 + (-1))) - 1)) s2_251 <|
            k252 (w32 (x2_11 + (-1)))
          ) fun k251 =>
          nif (v34 = 7) (
            k251 (w32 (v125 + v133))
          ) (
            nif (s0_217 = 0) (
              k251 0
            ) (
              k251 1
            )
          )
        ) fun k217 =>
        nif (v34 = 8) (
          nif (v133 ≤ v125) (
            k217 0
          ) (
            k217 1
          )
        ) (
          nif (v34 = 9) (
            nif (v125 ≤ v133) (
              k217 0
            ) (
              k217 1
            )
          ) (
            nif (v34 = 11) (
              nif ((w32 (v125 + v133)) = 2) (
                k217 1
              ) (
                k217 0
              )
            ) (
              nif ((w32 (v125 + v133)) ≤ 0) (
                k217 0
              ) (
                k217 1
              )
            )
          )
        )
      )
    ) (
      njoin (α := Int → NP) (fun (s2_80 : Int) =>
        nast 7 400 x2_11 s2_80 <|
        k252 (w32 (x2_11 + 1))
      ) fun k80 =>
      nif (v34 = 6) (
        nald 1 2125 (w32 ((w32 (484 + (w32 (2 * x3_11)))) + 1)) fun v69 =>
        k80 v69
      ) (
        nald 6 6 v34 fun v79 =>
        k80 v79
      )
    )
  )
def NX11_holdsLine (p1 : Int) (Qj : Int → NP) : NP :=
  nald 1 2125 (w32 (p1 + 2)) fun v9 =>
  nex fun n11 => jit (HX11_holdsLine_11 p1 (fun (y2_258 : Int) => njoin (α := NP) (   Qj 1 ) fun k272 => nif (y2_258 = 0) (   k272 ) (   nald 7 400 0 fun v267 =>   nif (v267 = 1) (     k272   ) (     Qj 0   ) ))) (fun _ _ => nbot) n11 0 v9
def HX11_measured_4 (Qj : Int → NP) (rec4 : Int → Int → NP) (x1_4 : Int) (x2_4 : Int) : NP :=
  nald 1 2125 443 fun v12 =>
  nif (v12 ≤ x2_4) (
    Qj x1_4
  ) (
    NX11_holdsLine (w32 (444 + (w32 (4 * x2_4)))) fun v26 =>
    njoin (α := Int → NP) (fun (x1_70 : Int) =>
      rec4 x1_70 (w32 (x2_4 + 1))
    ) fun k70 =>
    nif (v26 = 0) (
      k70 x1_4
    ) (
      nald 1 2125 (w32 (444 + (w32 (4 * x2_4)))) fun v38 =>
      nald 1 2125 (w32 ((w32 (444 + (w32 (4 * x2_4)))) + 1)) fun v46 =>
      njoin (α := Int → NP) (fun (s2_67 : Int) =>
        k70 (w32 (x1_4 + (w32 (v38 * s2_67))))
      ) fun k67 =>
      nif ((0 : Int) ≤ v46) (
        nald 1 2125 (w32 ((w32 (444 + (w32 (4 * x2_4)))) + 1)) fun v65 =>
        nald 6 6 v65 fun v66 =>
        k67 v66
      ) (
        k67 1
      )
    )
  )
def NX11_measured (Qj : Int → NP) : NP :=
  nex fun n4 => jit (HX11_measured_4 Qj) (fun _ _ => nbot) n4 0 0
def HX11_measures_121 (p1 : Int) (v19 : Int) (v39 : Int) (k204 : NP) (rec121 : Int → NP) (x6_121 : Int) : NP :=
  nif ((36 : Int) ≤ x6_121) (
    k204
  ) (
    nald 6 6 3 fun v134 =>
    NX11_at p1 x6_121 fun v139 =>
    njoin (α := Int → NP) (fun (s3_168 : Int) =>
      nast 6 6 3 (w32 (v134 + s3_168)) <|
      nald 9 40176 (w32 ((w32 ((w32 (1296 * p1)) + (w32 (36 * x6_121)))) + (Int.tmod v19 36))) fun v187 =>
      njoin (α := NP) (
        rec121 (w32 (x6_121 + 1))
      ) fun k198 =>
      nif (v187 = 0) (
        k198
      ) (
        nast 6 6 5 0 <|
        k198
      )
    ) fun k168 =>
    njoin (α := NP) (
      k168 0
    ) fun k167 =>
    nif (v139 < 0) (
      k167
    ) (
      NX11_at p1 x6_121 fun v149 =>
      NX11_sideOf v149 fun v152 =>
      NX11_sideOf v39 fun v157 =>
      nif (v152 = v157) (
        k168 1
      ) (
        k167
      )
    )
  )
def NX11_measures (p1 : Int) (Qj : NP) : NP :=
  nif (p1 = 0) (
    nast 22 31 0 0 <|
    Qj
  ) (
    nald 12 31 (w32 (p1 - 1)) fun v19 =>
    NX11_at (w32 (p1 - 1)) (Int.tmod v19 36) fun v31 =>
    NX11_at p1 (Int.tmod v19 36) fun v39 =>
    njoin (α := Int → NP) (fun (s2_66 : Int) =>
      nast 6 6 0 s2_66 <|
      NX11_valueOf (w32 (Int.tdiv v39 2)) fun v77 =>
      nast 6 6 1 v77 <|
      nast 6 6 2 p1 <|
      njoin (α := Int → NP) (fun (s2_103 : Int) =>
        nast 6 6 4 s2_103 <|
        nast 6 6 5 1 <|
        nast 6 6 3 0 <|
        nex fun n121 => jit (HX11_measures_121 p1 v19 v39 (nald 22 31 (w32 (p1 - 1)) fun v216 => nald 1 2125 4 fun v222 => njoin (α := Int → NP) (fun (s3_235 : Int) =>   nast 22 31 p1 (w32 (v216 + s3_235)) <|   Qj ) fun k235 => nif (v222 = 1) (   NX11_measured fun v228 =>   k235 v228 ) (   k235 0 ))) (fun _ => nbot) n121 0
      ) fun k103 =>
      nif ((0 : Int) ≤ v31) (
        k103 1
      ) (
        k103 0
      )
    ) fun k66 =>
    nif ((0 : Int) ≤ v31) (
      NX11_valueOf (w32 (Int.tdiv v31 2)) fun v63 =>
      k66 v63
    ) (
      k66 0
    )
  )
def HX11_isBarred_4 (p1 : Int) (Qj : Int → NP) (rec4 : Int → Int → NP) (x2_4 : Int) (x3_4 : Int) : NP :=
  nald 1 2125 2 fun v10 =>
  nif (v10 ≤ x3_4) (
    nand (x2_4 = 0 ∨ x2_4 = 1) (
      Qj x2_4
    )
  ) (
    nget 30 fun v15 =>
    nif (v15 = 0) (
      njoin (α := Int → NP) (fun (s0_76 : Int) =>
        rec4 s0_76 (w32 (x3_4 + 1))
      ) fun k76 =>
      njoin (α := NP) (
        k76 1
      ) fun k71 =>
      nif (x2_4 = 0) (
        nald 1 2125 (w32 (413 + (w32 (3 * x3_4)))) fun v40 =>
        njoin (α := NP) (
          k76 0
        ) fun k75 =>
        nif (v40 = p1) (
          nald 1 2125 (w32 ((w32 (413 + (w32 (3 * x3_4)))) + 1)) fun v55 =>
          NX11_at p1 v55 fun v56 =>
          nald 1 2125 (w32 ((w32 (413 + (w32 (3 * x3_4)))) + 2)) fun v67 =>
          nif (v56 = v67) (
            k75
          ) (
            k71
          )
        ) (
          k75
        )
      ) (
        k71
      )
    ) (
      nand (x2_4 = 0 ∨ x2_4 = 1) (
        Qj x2_4
      )
    )
  )
def NX11_isBarred (p1 : Int) (Qj : Int → NP) : NP :=
  nex fun n4 => jit (HX11_isBarred_4 p1 Qj) (fun _ _ => nbot) n4 0 0
def HX11_isLongEnough_34 (p1 : Int) (Qj : Int → NP) (rec34 : Int → Int → NP) (x2_34 : Int) (x3_34 : Int) : NP :=
  nald 1 2125 2 fun v40 =>
  nif (v40 ≤ x3_34) (
    nand (x2_34 = 0 ∨ x2_34 = 1) (
      Qj x2_34
    )
  ) (
    nget 30 fun v45 =>
    nif (v45 = 0) (
      njoin (α := Int → NP) (fun (s0_76 : Int) =>
        rec34 s0_76 (w32 (x3_34 + 1))
      ) fun k76 =>
      njoin (α := NP) (
        k76 0
      ) fun k75 =>
      nif (x2_34 = 0) (
        k75
      ) (
        nald 1 2125 (w32 (413 + (w32 (3 * x3_34)))) fun v66 =>
        nif (p1 < v66) (
          k75
        ) (
          k76 1
        )
      )
    ) (
      nand (x2_34 = 0 ∨ x2_34 = 1) (
        Qj x2_34
      )
    )
  )
def NX11_isLongEnough (p1 : Int) (Qj : Int → NP) : NP :=
  nget 30 fun v1 =>
  njoin (α := Int → NP) (fun (s0_31 : Int) =>
    nex fun n34 => jit (HX11_isLongEnough_34 p1 Qj) (fun _ _ => nbot) n34 s0_31 0
  ) fun k31 =>
  njoin (α := NP) (
    k31 1
  ) fun k26 =>
  nif (v1 = 0) (
    nald 1 2125 3 fun v12 =>
    nif (v12 < 0) (
      k26
    ) (
      nald 1 2125 3 fun v21 =>
      nif (v21 = p1) (
        k26
      ) (
        k31 0
      )
    )
  ) (
    k26
  )
def HX11_takes_2 (p1 : Nat) (p2 : Int) (Qj : Int → NP) (rec2 : Int → NP) (x3_2 : Int) : NP :=
  nif (p2 ≤ x3_2) (
    Qj p2
  ) (
    nald 12 31 x3_2 fun v14 =>
    nast p1 30 x3_2 v14 <|
    rec2 (w32 (x3_2 + 1))
  )
def NX11_takes (p1 : Nat) (p2 : Int) (Qj : Int → NP) : NP :=
  nex fun n2 => jit (HX11_takes_2 p1 p2 Qj) (fun _ => nbot) n2 0
def NX11_meets (p1 : Int) (p2 : Int) (Qj : NP) : NP :=
  nget 26 fun v1 =>
  nif (p2 < v1) (
    Qj
  ) (
    NX11_isBarred p1 fun v10 =>
    nif (v10 = 0) (
      NX11_isLongEnough p1 fun v18 =>
      nif (v18 = 0) (
        Qj
      ) (
        nget 26 fun v30 =>
        nald 17 24 v30 fun v34 =>
        nast 17 24 v30 (w64 (v34 + 1)) <|
        nget 35 fun v39 =>
        njoin (α := NP) (
          nget 37 fun v77 =>
          nset 37 (w32 (v77 + 1)) <|
          nget 37 fun v86 =>
          njoin (α := NP) (
            nget 37 fun v107 =>
            njoin (α := NP) (
              nget 37 fun v128 =>
              nif ((200 : Int) < v128) (
                Qj
              ) (
                nget 37 fun v138 =>
                njoin (α := NP) (
                  NX11_takes 21 p1 fun v166 =>
                  nset 43 v166 <|
                  nald 22 31 p1 fun v178 =>
                  nset 44 v178 <|
                  Qj
                ) fun k159 =>
                nif (v138 ≤ 1) (
                  k159
                ) (
                  nald 22 31 p1 fun v150 =>
                  nget 44 fun v152 =>
                  nif (v150 < v152) (
                    k159
                  ) (
                    Qj
                  )
                )
              )
            ) fun k127 =>
            nif (v107 = 2) (
              NX11_takes 20 p1 fun v121 =>
              nset 42 v121 <|
              k127
            ) (
              k127
            )
          ) fun k106 =>
          nif (v86 = 1) (
            NX11_takes 19 p1 fun v100 =>
            nset 41 v100 <|
            k106
          ) (
            k106
          )
        ) fun k75 =>
        nif (p1 ≤ v39) (
          k75
        ) (
          nget 35 fun v51 =>
          nald 12 31 v51 fun v54 =>
          nget 36 fun v56 =>
          nif (v54 = v56) (
            nget 26 fun v67 =>
            nald 18 24 v67 fun v71 =>
            nast 18 24 v67 (w64 (v71 + 1)) <|
            k75
          ) (
            k75
          )
        )
      )
    ) (
      Qj
    )
  )
def NX11_goesOn (p1 : Int) (Qj : Int → NP) : NP :=
  njoin (α := NP) (
    Qj 0
  ) fun k35 =>
  nif ((30 : Int) ≤ p1) (
    k35
  ) (
    nget 30 fun v7 =>
    njoin (α := NP) (
      NX11_isBarred p1 fun v25 =>
      nif (v25 = 0) (
        Qj 1
      ) (
        k35
      )
    ) fun k23 =>
    nif (v7 = 0) (
      nald 1 2125 3 fun v18 =>
      nif (v18 = p1) (
        k35
      ) (
        k23
      )
    ) (
      k23
    )
  )
def NX11_lays (p1 : Int) (p2 : Int) (Qj : NP) : NP :=
  nget 27 fun v2 =>
  nset 27 (w32 (v2 + 1)) <|
  nget 29 fun v12 =>
  njoin (α := Int → NP) (fun (s1_33 : Int) =>
    nsetZ 29 s1_33 <|
    nget 28 fun v38 =>
    nset 28 (max v38 p1) <|
    NX11_finds p1 (Int.tmod p1 2) <|
    NX11_measures p1 <|
    NX11_meets p1 p2 <|
    NX11_goesOn p1 fun v74 =>
    nif (v74 = 0) (
      nast 16 31 p1 1296 <|
      Qj
    ) (
      nast 16 31 p1 0 <|
      Qj
    )
  ) fun k33 =>
  njoin (α := NP) (
    k33 1
  ) fun k28 =>
  nif (v12 = 0) (
    nget 27 fun v19 =>
    nif (v19 ≤ 8000) (
      k33 0
    ) (
      k28
    )
  ) (
    k28
  )
def NX11_fits (p0 : Int) (p1 : Int) (p2 : Int) (p3 : Int) (p4 : Int) (p5 : Int) (p6 : Int) (Qj : Int → NP) : NP :=
  njoin (α := Int → NP) (fun (s0_11 : Int) =>
    njoin (α := Int → NP) (fun (s0_25 : Int) =>
      nif (p0 = 0) (
        njoin (α := NP) (
          Qj 0
        ) fun k86 =>
        nif (p1 = 0) (
          k86
        ) (
          nif (p2 = 0) (
            k86
          ) (
            nif (s0_11 = 0) (
              k86
            ) (
              nif (s0_25 = 0) (
                k86
              ) (
                Qj 1
              )
            )
          )
        )
      ) (
        nif (p0 = 1) (
          njoin (α := NP) (
            Qj 0
          ) fun k110 =>
          nif (p1 = 0) (
            nif (p2 = 0) (
              k110
            ) (
              nif (s0_11 = 0) (
                k110
              ) (
                nif (s0_25 = 0) (
                  k110
                ) (
                  Qj 1
                )
              )
            )
          ) (
            k110
          )
        ) (
          nif (p0 = 2) (
            njoin (α := NP) (
              Qj 0
            ) fun k140 =>
            nif (p1 = 0) (
              k140
            ) (
              nif (p2 = 0) (
                k140
              ) (
                nif ((mabs (w32 (p3 - p5))) = 1) (
                  nif (s0_25 = 0) (
                    k140
                  ) (
                    Qj 1
                  )
                ) (
                  k140
                )
              )
            )
          ) (
            nif (p0 = 3) (
              njoin (α := NP) (
                Qj 0
              ) fun k171 =>
              nif (p1 = 0) (
                k171
              ) (
                nif (p2 = 0) (
                  k171
                ) (
                  nif (s0_11 = 0) (
                    k171
                  ) (
                    nif ((mabs (w32 (p4 - p6))) = 1) (
                      Qj 1
                    ) (
                      k171
                    )
                  )
                )
              )
            ) (
              nif (p0 = 4) (
                njoin (α := NP) (
                  Qj 0
                ) fun k204 =>
                nif (p1 = 0) (
                  k204
                ) (
                  nif (p2 = 0) (
                    k204
                  ) (
                    nif (s0_11 = 0) (
                      k204
                    ) (
                      nif (s0_25 = 0) (
                        nif ((w32 (5 - p4)) = p6) (
                          Qj 1
                        ) (
                          k204
                        )
                      ) (
                        k204
                      )
                    )
                  )
                )
              ) (
                njoin (α := NP) (
                  Qj 0
                ) fun k228 =>
                nif (p1 = 0) (
                  k228
                ) (
                  nif (p2 = 0) (
                    nif (s0_11 = 0) (
                      k228
                    ) (
                      nif (s0_25 = 0) (
                        k228
                      ) (
                        Qj 1
                      )
                    )
                  ) (
                    k228
                  )
                )
              )
            )
          )
        )
      )
    ) fun k25 =>
    nif (p4 = p6) (
      k25 1
    ) (
      k25 0
    )
  ) fun k11 =>
  nif (p3 = p5) (
    k11 1
  ) (
    k11 0
  )
def HX11_tries_130 (p2 : Int) (p3 : Int) (v5 : Int) (s0_61 : Int) (s0_82 : Int) (s0_117 : Int) (k237 : Int → Int → NP) (rec130 : Int → Int → Int → NP) (x10_130 : Int) (x11_130 : Int) (x12_130 : Int) : NP :=
  nif ((6 : Int) ≤ x12_130) (
    k237 x10_130 x11_130
  ) (
    njoin (α := Int → Int → NP) (fun (x10_231 : Int) (x11_231 : Int) =>
      rec130 x10_231 x11_231 (w32 (x12_130 + 1))
    ) fun k231 =>
    njoin (α := NP) (
      NX11_ofNote p2 p3 2 fun v162 =>
      NX11_ofNote p2 p3 3 fun v169 =>
      NX11_fits x12_130 s0_82 s0_117 v162 v169 (Int.tmod (Int.tmod v5 36) 6) s0_61 fun v179 =>
      nif (v179 = 0) (
        k231 x10_130 x11_130
      ) (
        njoin (α := Int → NP) (fun (s0_204 : Int) =>
          njoin (α := Int → NP) (fun (s0_220 : Int) =>
            k231 (min x10_130 s0_204) s0_220
          ) fun k220 =>
          nif (x10_130 ≤ s0_204) (
            k220 x11_130
          ) (
            k220 x12_130
          )
        ) fun k204 =>
        nif (x12_130 = 0) (
          k204 0
        ) (
          nald 11 8 x12_130 fun v203 =>
          k204 v203
        )
      )
    ) fun k152 =>
    nif (x12_130 ≤ 0) (
      k152
    ) (
      nald 11 8 x12_130 fun v148 =>
      nif (v148 = 0) (
        k231 x10_130 x11_130
      ) (
        k152
      )
    )
  )
def NX11_tries (p1 : Int) (p2 : Int) (p3 : Int) (Qj : NP) : NP :=
  nald 12 31 p1 fun v5 =>
  NX11_at p1 (w32 (Int.tdiv v5 36)) fun v15 =>
  nald 10 3 p2 fun v32 =>
  njoin (α := Int → NP) (fun (s0_61 : Int) =>
    NX11_ofNote p2 p3 0 fun v67 =>
    njoin (α := Int → NP) (fun (s0_82 : Int) =>
      NX11_ofNote p2 p3 1 fun v88 =>
      njoin (α := Int → NP) (fun (s0_117 : Int) =>
        nex fun n130 => jit (HX11_tries_130 p2 p3 v5 s0_61 s0_82 s0_117 (fun (y10_237 : Int) (y11_237 : Int) => NX11_fitAt p1 p2 p3 fun v244 => nast 13 2232 v244 y10_237 <| NX11_fitAt p1 p2 p3 fun v257 => nast 14 2232 v257 y11_237 <| Qj)) (fun _ _ _ => nbot) n130 1000 0 0
      ) fun k117 =>
      njoin (α := NP) (
        k117 1
      ) fun k112 =>
      nif (v88 < 0) (
        k112
      ) (
        NX11_ofNote p2 p3 1 fun v98 =>
        nif (v98 = (Int.tmod (w32 (Int.tdiv v5 36)) 6)) (
          k112
        ) (
          k117 0
        )
      )
    ) fun k82 =>
    nif (v67 = (w32 (Int.tdiv v15 2))) (
      k82 1
    ) (
      k82 0
    )
  ) fun k61 =>
  njoin (α := NP) (
    k61 (w32 (Int.tdiv (Int.tmod v5 36) 6))
  ) fun k56 =>
  nif (v32 = 1) (
    NX11_sideOf v15 fun v39 =>
    nif (v39 = 1) (
      k61 (w32 (5 - (w32 (Int.tdiv (Int.tmod v5 36) 6))))
    ) (
      k56
    )
  ) (
    k56
  )
def HX11_laysAll_156 (x2_58 : Int) (x4_142 : Int) (k191 : NP) (rec156 : Int → NP) (x5_156 : Int) : NP :=
  NX11_notes x4_142 fun v161 =>
  nif (v161 ≤ x5_156) (
    k191
  ) (
    NX11_isAsked x4_142 fun v170 =>
    nif (v170 = 0) (
      k191
    ) (
      NX11_tries x2_58 x4_142 x5_156 <|
      rec156 (w32 (x5_156 + 1))
    )
  )
def HX11_laysAll_142 (x2_58 : Int) (k197 : NP) (rec142 : Int → NP) (x4_142 : Int) : NP :=
  nald 1 2125 1 fun v149 =>
  nif (v149 ≤ x4_142) (
    k197
  ) (
    nex fun n156 => jit (HX11_laysAll_156 x2_58 x4_142 (rec142 (w32 (x4_142 + 1)))) (fun _ => nbot) n156 0
  )
def HX11_laysAll_76 (x2_58 : Int) (k104 : Int → NP) (rec76 : Int → NP) (x3_76 : Int) : NP :=
  nif ((1296 : Int) ≤ x3_76) (
    k104 x3_76
  ) (
    nald 9 40176 (w32 ((w32 (1296 * x2_58)) + x3_76)) fun v94 =>
    nif (v94 = 0) (
      rec76 (w32 (x3_76 + 1))
    ) (
      k104 x3_76
    )
  )
def HX11_laysAll_58 (p1 : Int) (Qj : NP) (rec58 : Int → NP) (x2_58 : Int) : NP :=
  nif (x2_58 < 0) (
    Qj
  ) (
    nget 29 fun v63 =>
    nif (v63 = 0) (
      nald 16 31 x2_58 fun v74 =>
      nex fun n76 => jit (HX11_laysAll_76 x2_58 (fun (y3_104 : Int) => nif (y3_104 = 1296) (   rec58 (w32 (x2_58 + (-1))) ) (   nast 16 31 x2_58 (w32 (y3_104 + 1)) <|   nast 12 31 x2_58 y3_104 <|   NX11_makes x2_58 y3_104 <|   nex fun n142 => jit (HX11_laysAll_142 x2_58 (NX11_prices (w32 (x2_58 + 1)) <| nget 25 fun v205 => nif (v205 ≤ p1) (   NX11_lays (w32 (x2_58 + 1)) p1 <|   rec58 (w32 (x2_58 + 1)) ) (   rec58 x2_58 ))) (fun _ => nbot) n142 0 ))) (fun _ => nbot) n76 v74
    ) (
      Qj
    )
  )
def HX11_laysAll_2 (k31 : NP) (rec2 : Int → NP) (x2_2 : Int) : NP :=
  nif (((24 : Nat) : Int) ≤ x2_2) (
    k31
  ) (
    nast 17 24 x2_2 0 <|
    nast 18 24 x2_2 0 <|
    rec2 (w32 (x2_2 + 1))
  )
def NX11_laysAll (p1 : Int) (Qj : NP) : NP :=
  nex fun n2 => jit (HX11_laysAll_2 (nset 37 0 <| nset 28 0 <| NX11_begins <| NX11_prices 0 <| NX11_lays 0 p1 <| nex fun n58 => jit (HX11_laysAll_58 p1 Qj) (fun _ => nbot) n58 0)) (fun _ => nbot) n2 0
def HX11_asks_23 (Qj : Int → NP) (rec23 : Int → NP) (x1_23 : Int) : NP :=
  nif ((20 : Int) < x1_23) (
    Qj (-1)
  ) (
    NX11_laysAll x1_23 <|
    nget 29 fun v35 =>
    nif (v35 = 0) (
      nget 37 fun v45 =>
      nif (v45 ≤ 0) (
        rec23 (w32 (x1_23 + 1))
      ) (
        Qj x1_23
      )
    ) (
      Qj (-2)
    )
  )
def NX11_asks (Qj : Int → NP) : NP :=
  nset 27 0 <|
  nsetZ 29 0 <|
  nsetZ 30 0 <|
  nset 35 30 <|
  nex fun n23 => jit (HX11_asks_23 Qj) (fun _ => nbot) n23 0
def NX11_asksWhole (Qj : Int → NP) : NP :=
  NX11_asksAll <|
  NX11_asks fun v5 =>
  Qj v5
def NX11_least (Qj : Int → NP) : NP :=
  nset 0 0 <|
  NX11_asksWhole fun v6 =>
  Qj v6
def NX11_many (Qj : Int → NP) : NP :=
  nset 0 0 <|
  NX11_asksWhole fun v6 =>
  nif ((0 : Int) ≤ v6) (
    nget 37 fun v19 =>
    Qj v19
  ) (
    Qj v6
  )
def NX11_read (p1 : Int) (Qj : Int → NP) : NP :=
  nset 0 0 <|
  njoin (α := Int → NP) (fun (s1_16 : Int) =>
    NX11_throwsIf s1_16 1 fun v17 =>
    nif (v17 = 0) (
      NX11_asksWhole fun v26 =>
      nif ((0 : Int) ≤ v26) (
        nif ((0 : Int) ≤ p1) (
          nget 41 fun v51 =>
          nif (v51 ≤ p1) (
            Qj (-3)
          ) (
            nald 19 30 p1 fun v62 =>
            Qj v62
          )
        ) (
          nget 41 fun v43 =>
          Qj v43
        )
      ) (
        Qj v26
      )
    ) (
      Qj 0
    )
  ) fun k16 =>
  nif (((-1) : Int) ≤ p1) (
    k16 0
  ) (
    k16 1
  )
def NX11_readNext (p1 : Int) (Qj : Int → NP) : NP :=
  nset 0 0 <|
  njoin (α := Int → NP) (fun (s1_16 : Int) =>
    NX11_throwsIf s1_16 1 fun v17 =>
    nif (v17 = 0) (
      NX11_asksWhole fun v26 =>
      nif ((0 : Int) ≤ v26) (
        nget 37 fun v39 =>
        nif ((2 : Int) ≤ v39) (
          nif ((0 : Int) ≤ p1) (
            nget 42 fun v64 =>
            nif (v64 ≤ p1) (
              Qj (-3)
            ) (
              nald 20 30 p1 fun v75 =>
              Qj v75
            )
          ) (
            nget 42 fun v56 =>
            Qj v56
          )
        ) (
          Qj (-3)
        )
      ) (
        Qj v26
      )
    ) (
      Qj 0
    )
  ) fun k16 =>
  nif (((-1) : Int) ≤ p1) (
    k16 0
  ) (
    k16 1
  )
def HX11_follows_92 (p1 : Int) (Qj : NP) (rec92 : Int → Int → NP) (x2_92 : Int) (x3_92 : Int) : NP :=
  nif ((w32 (x2_92 + x3_92)) ≤ 0) (
    Qj
  ) (
    NX11_sumAt p1 x2_92 x3_92 fun v105 =>
    nald 15 2325 v105 fun v108 =>
    NX11_ofMove x2_92 x3_92 p1 fun v117 =>
    njoin (α := Int → Int → NP) (fun (x2_192 : Int) (x3_192 : Int) =>
      rec92 x2_192 x3_192
    ) fun k192 =>
    nif (v108 = v117) (
      NX11_fitAt (w32 (x2_92 + (-1))) p1 (w32 (x3_92 + (-1))) fun v141 =>
      nald 14 2232 v141 fun v144 =>
      nast 23 24 (w32 (x3_92 + (-1))) v144 <|
      nast 24 30 (w32 (x2_92 + (-1))) (w32 (x3_92 + (-1))) <|
      k192 (w32 (x2_92 + (-1))) (w32 (x3_92 + (-1)))
    ) (
      NX11_ofLost x2_92 x3_92 p1 fun v162 =>
      nif (v108 = v162) (
        nast 24 30 (w32 (x2_92 + (-1))) (-1) <|
        k192 (w32 (x2_92 + (-1))) x3_92
      ) (
        nast 23 24 (w32 (x3_92 + (-1))) 7 <|
        k192 x2_92 (w32 (x3_92 + (-1)))
      )
    )
  )
def HX11_follows_45 (p1 : Int) (x2_12 : Int) (k67 : NP) (rec45 : Int → NP) (x3_45 : Int) : NP :=
  NX11_notes p1 fun v48 =>
  nif (v48 ≤ x3_45) (
    k67
  ) (
    NX11_tries x2_12 p1 x3_45 <|
    rec45 (w32 (x3_45 + 1))
  )
def HX11_follows_12 (p1 : Int) (k81 : NP) (rec12 : Int → NP) (x2_12 : Int) : NP :=
  nget 41 fun v14 =>
  nif (v14 ≤ x2_12) (
    k81
  ) (
    nald 19 30 x2_12 fun v30 =>
    nast 12 31 x2_12 v30 <|
    nald 19 30 x2_12 fun v39 =>
    NX11_makes x2_12 v39 <|
    nex fun n45 => jit (HX11_follows_45 p1 x2_12 (NX11_sums p1 (w32 (x2_12 + 1)) <| rec12 (w32 (x2_12 + 1)))) (fun _ => nbot) n45 0
  )
def NX11_follows (p1 : Int) (Qj : NP) : NP :=
  NX11_begins <|
  NX11_sums p1 0 <|
  nex fun n12 => jit (HX11_follows_12 p1 (nget 41 fun v82 => NX11_notes p1 fun v88 => nex fun n92 => jit (HX11_follows_92 p1 Qj) (fun _ _ => nbot) n92 v82 v88)) (fun _ => nbot) n12 0
def NX11_slip (p1 : Int) (p2 : Int) (Qj : Int → NP) : NP :=
  nset 0 0 <|
  NX11_noNote p1 p2 fun v9 =>
  NX11_throwsIf v9 1 fun v13 =>
  nif (v13 = 0) (
    NX11_asksWhole fun v22 =>
    nif ((0 : Int) ≤ v22) (
      NX11_follows p1 <|
      nald 23 24 p2 fun v42 =>
      Qj v42
    ) (
      Qj v22
    )
  ) (
    Qj 0
  )
def HX11_slips_100 (p2 : Int) (Qj : Int → NP) (rec100 : Int → Int → NP) (x4_100 : Int) (x5_100 : Int) : NP :=
  nget 41 fun v103 =>
  nif (v103 ≤ x5_100) (
    Qj x4_100
  ) (
    nif (p2 = 6) (
      nald 24 30 x5_100 fun v123 =>
      njoin (α := Int → NP) (fun (s1_132 : Int) =>
        rec100 (w32 (x4_100 + s1_132)) (w32 (x5_100 + 1))
      ) fun k132 =>
      nif ((0 : Int) ≤ v123) (
        k132 0
      ) (
        k132 1
      )
    ) (
      Qj x4_100
    )
  )
def HX11_slips_60 (p1 : Int) (p2 : Int) (k97 : Int → NP) (rec60 : Int → Int → NP) (x4_60 : Int) (x5_60 : Int) : NP :=
  NX11_notes p1 fun v64 =>
  nif (v64 ≤ x5_60) (
    k97 x4_60
  ) (
    nald 23 24 x5_60 fun v78 =>
    njoin (α := Int → NP) (fun (s1_88 : Int) =>
      rec60 (w32 (x4_60 + s1_88)) (w32 (x5_60 + 1))
    ) fun k88 =>
    nif (v78 = p2) (
      k88 1
    ) (
      k88 0
    )
  )
def NX11_slips (p1 : Int) (p2 : Int) (Qj : Int → NP) : NP :=
  nset 0 0 <|
  NX11_noBook p1 fun v8 =>
  njoin (α := Int → NP) (fun (s1_29 : Int) =>
    NX11_throwsIf s1_29 1 fun v30 =>
    nif (v30 = 0) (
      NX11_asksWhole fun v39 =>
      nif ((0 : Int) ≤ v39) (
        NX11_follows p1 <|
        nex fun n60 => jit (HX11_slips_60 p1 p2 (fun (y4_97 : Int) => nex fun n100 => jit (HX11_slips_100 p2 Qj) (fun _ _ => nbot) n100 y4_97 0)) (fun _ _ => nbot) n60 0 0
      ) (
        Qj v39
      )
    ) (
      Qj 0
    )
  ) fun k29 =>
  njoin (α := NP) (
    k29 1
  ) fun k24 =>
  nif (v8 = 0) (
    NX11_in p2 1 7 fun v18 =>
    nif (v18 = 0) (
      k24
    ) (
      k29 0
    )
  ) (
    k24
  )
def HX11_breaks_33 (k52 : NP) (rec33 : Int → NP) (x2_33 : Int) : NP :=
  nif ((8 : Int) ≤ x2_33) (
    k52
  ) (
    nast 11 8 x2_33 0 <|
    rec33 (w32 (x2_33 + 1))
  )
def NX11_breaks (p1 : Int) (Qj : Int → NP) : NP :=
  nset 0 0 <|
  NX11_noBook p1 fun v8 =>
  NX11_throwsIf v8 1 fun v12 =>
  nif (v12 = 0) (
    NX11_asksAll <|
    nset 18 (mshl 1 p1) <|
    nex fun n33 => jit (HX11_breaks_33 (nset 27 0 <| nsetZ 29 0 <| nsetZ 30 1 <| nset 35 30 <| NX11_laysAll 0 <| nget 29 fun v79 => nif (v79 = 0) (   nget 28 fun v91 =>   NX11_notes p1 fun v96 =>   nif (v91 = v96) (     Qj (-3)   ) (     nget 28 fun v108 =>     Qj v108   ) ) (   Qj (-2) ))) (fun _ => nbot) n33 0
  ) (
    Qj 0
  )
def HX11_brief_105 (p1 : Int) (Qj : Int → NP) (v93 : Int) (rec105 : Int → Int → NP) (x4_105 : Int) (x5_105 : Int) : NP :=
  nif ((36 : Int) ≤ x5_105) (
    Qj x4_105
  ) (
    nald 19 30 p1 fun v134 =>
    nald 9 40176 (w32 ((w32 ((w32 (1296 * p1)) + (w32 (36 * x5_105)))) + (Int.tmod v134 36))) fun v139 =>
    njoin (α := Int → NP) (fun (s1_161 : Int) =>
      rec105 (w32 (x4_105 + s1_161)) (w32 (x5_105 + 1))
    ) fun k161 =>
    njoin (α := NP) (
      k161 0
    ) fun k160 =>
    nif (v139 = 0) (
      k160
    ) (
      NX11_at p1 x5_105 fun v147 =>
      nif ((w32 (Int.tdiv v147 2)) = (w32 (Int.tdiv v93 2))) (
        k161 1
      ) (
        k160
      )
    )
  )
def HX11_brief_52 (p1 : Int) (k74 : NP) (rec52 : Int → NP) (x3_52 : Int) : NP :=
  nif (p1 ≤ x3_52) (
    k74
  ) (
    nald 19 30 x3_52 fun v64 =>
    NX11_makes x3_52 v64 <|
    rec52 (w32 (x3_52 + 1))
  )
def NX11_brief (p1 : Int) (Qj : Int → NP) : NP :=
  nset 0 0 <|
  njoin (α := Int → NP) (fun (s1_15 : Int) =>
    NX11_throwsIf s1_15 1 fun v16 =>
    nif (v16 = 0) (
      NX11_asksWhole fun v25 =>
      nif ((0 : Int) ≤ v25) (
        nget 41 fun v37 =>
        nif (p1 < v37) (
          NX11_begins <|
          nex fun n52 => jit (HX11_brief_52 p1 (NX11_finds p1 (Int.tmod p1 2) <| nald 19 30 p1 fun v89 => NX11_at p1 (w32 (Int.tdiv v89 36)) fun v93 => nex fun n105 => jit (HX11_brief_105 p1 Qj v93) (fun _ _ => nbot) n105 0 0)) (fun _ => nbot) n52 0
        ) (
          Qj (-3)
        )
      ) (
        Qj v25
      )
    ) (
      Qj 0
    )
  ) fun k15 =>
  nif ((0 : Int) ≤ p1) (
    k15 0
  ) (
    k15 1
  )
def HX11_part_29 (Qj : Int → NP) (rec29 : Int → NP) (x2_29 : Int) : NP :=
  nget 41 fun v31 =>
  nif (v31 ≤ x2_29) (
    Qj x2_29
  ) (
    nget 42 fun v39 =>
    nif (v39 ≤ x2_29) (
      Qj x2_29
    ) (
      nald 19 30 x2_29 fun v50 =>
      nald 20 30 x2_29 fun v56 =>
      nif (v50 = v56) (
        rec29 (w32 (x2_29 + 1))
      ) (
        Qj x2_29
      )
    )
  )
def NX11_part (Qj : Int → NP) : NP :=
  nset 0 0 <|
  NX11_asksWhole fun v6 =>
  nif ((0 : Int) ≤ v6) (
    nget 37 fun v17 =>
    nif ((2 : Int) ≤ v17) (
      nex fun n29 => jit (HX11_part_29 Qj) (fun _ => nbot) n29 0
    ) (
      Qj (-3)
    )
  ) (
    Qj v6
  )
def NX11_best (p1 : Int) (Qj : Int → NP) : NP :=
  nset 0 0 <|
  njoin (α := Int → NP) (fun (s1_16 : Int) =>
    NX11_throwsIf s1_16 1 fun v17 =>
    nif (v17 = 0) (
      NX11_asksWhole fun v26 =>
      nif ((0 : Int) ≤ v26) (
        nif ((0 : Int) ≤ p1) (
          nget 43 fun v51 =>
          nif (v51 ≤ p1) (
            Qj (-3)
          ) (
            nald 21 30 p1 fun v62 =>
            Qj v62
          )
        ) (
          nget 44 fun v43 =>
          Qj v43
        )
      ) (
        Qj v26
      )
    ) (
      Qj 0
    )
  ) fun k16 =>
  nif (((-1) : Int) ≤ p1) (
    k16 0
  ) (
    k16 1
  )
def HX11_common_6 (Qj : Int → NP) (rec6 : Int → Int → NP) (x4_6 : Int) (x6_6 : Int) : NP :=
  nif ((mcmp x6_6 0) ≤ 0) (
    Qj x4_6
  ) (
    nand (¬ x6_6 = 0) <|
    rec6 x6_6 (Int.tmod x4_6 x6_6)
  )
def NX11_common (p0 : Int) (p2 : Int) (Qj : Int → NP) : NP :=
  nex fun n6 => jit (HX11_common_6 Qj) (fun _ _ => nbot) n6 p0 p2
def HX11_odds_152 (p2 : Int) (v34 : Int) (k210 : Int → Int → NP) (rec152 : Int → Int → Int → NP) (x5_152 : Int) (x7_152 : Int) (x9_152 : Int) : NP :=
  nif ((w32 (v34 + p2)) < x9_152) (
    k210 x5_152 x7_152
  ) (
    nald 18 24 x9_152 fun v184 =>
    nald 17 24 x9_152 fun v199 =>
    rec152 (w64 (x5_152 + (w64 ((mlshl 1 (w32 (2 * (w32 ((w32 (v34 + p2)) - x9_152))))) * v184)))) (w64 (x7_152 + (w64 ((mlshl 1 (w32 (2 * (w32 ((w32 (v34 + p2)) - x9_152))))) * v199)))) (w32 (x9_152 + 1))
  )
def HX11_odds_99 (p2 : Int) (Qj : Int → NP) (v34 : Int) (k131 : NP) (rec99 : Int → NP) (x5_99 : Int) : NP :=
  nif ((w32 (v34 + p2)) < x5_99) (
    k131
  ) (
    NX11_laysAll x5_99 <|
    nget 29 fun v115 =>
    nif (v115 = 0) (
      rec99 (w32 (x5_99 + 1))
    ) (
      Qj (-2)
    )
  )
def NX11_odds (p1 : Int) (p2 : Int) (p3 : Int) (Qj : Int → NP) : NP :=
  nset 0 0 <|
  njoin (α := Int → NP) (fun (s1_24 : Int) =>
    NX11_throwsIf s1_24 1 fun v25 =>
    nif (v25 = 0) (
      NX11_asksWhole fun v34 =>
      nif ((0 : Int) ≤ v34) (
        nset 35 p1 <|
        nget 41 fun v56 =>
        njoin (α := Int → NP) (fun (s1_72 : Int) =>
          nset 36 s1_72 <|
          njoin (α := NP) (
            njoin (α := Int → NP) (fun (s0_97 : Int) =>
              nex fun n99 => jit (HX11_odds_99 p2 Qj v34 (nget 36 fun v132 => nif ((0 : Int) ≤ v132) (   nex fun n152 => jit (HX11_odds_152 p2 v34 (fun (y5_210 : Int) (y7_210 : Int) => NX11_common y5_210 y7_210 fun v214 => nif (p3 = 0) (   nand (¬ v214 = 0) <|   Qj (w64 (Int.tdiv y5_210 v214)) ) (   nand (¬ v214 = 0) <|   Qj (w64 (Int.tdiv y7_210 v214)) ))) (fun _ _ _ => nbot) n152 0 0 v34 ) (   Qj (-3) ))) (fun _ => nbot) n99 s0_97
            ) fun k97 =>
            nif (p2 = 0) (
              k97 v34
            ) (
              k97 (w32 (v34 + 1))
            )
          ) fun k84 =>
          nif (p2 = 0) (
            nset 27 0 <|
            k84
          ) (
            k84
          )
        ) fun k72 =>
        nif (v56 ≤ p1) (
          k72 (-1)
        ) (
          nald 19 30 p1 fun v67 =>
          k72 v67
        )
      ) (
        Qj v34
      )
    ) (
      Qj 0
    )
  ) fun k24 =>
  njoin (α := NP) (
    k24 1
  ) fun k19 =>
  nif (p1 < 0) (
    k19
  ) (
    NX11_in p2 0 2 fun v13 =>
    nif (v13 = 0) (
      k19
    ) (
      k24 0
    )
  )
def NX11_isSlip (p0 : Int) (Qj : Int → NP) : NP :=
  NX11_in p0 1 5 fun v3 =>
  nand (v3 = 0 ∨ v3 = 1) (
    Qj v3
  )
def HX11_shared_134 (p1 : Int) (p2 : Int) (k302 : Int → Int → NP) (rec134 : Int → Int → Int → NP) (x5_134 : Int) (x6_134 : Int) (x7_134 : Int) : NP :=
  nget 41 fun v137 =>
  nif (v137 ≤ x7_134) (
    k302 x5_134 x6_134
  ) (
    nald 26 30 x7_134 fun v149 =>
    nald 24 30 x7_134 fun v158 =>
    njoin (α := Int → Int → NP) (fun (x5_296 : Int) (x6_296 : Int) =>
      rec134 x5_296 x6_296 (w32 (x7_134 + 1))
    ) fun k296 =>
    nif (v158 < 0) (
      k296 x5_134 x6_134
    ) (
      nald 23 24 v158 fun v172 =>
      NX11_isSlip v172 fun v173 =>
      nif (v173 = 0) (
        k296 x5_134 x6_134
      ) (
        njoin (α := Int → NP) (fun (s1_204 : Int) =>
          njoin (α := Int → NP) (fun (s1_293 : Int) =>
            k296 (w32 (x5_134 + s1_293)) (w32 (x6_134 + s1_204))
          ) fun k293 =>
          njoin (α := NP) (
            k293 0
          ) fun k292 =>
          nif (v149 < 0) (
            k292
          ) (
            nald 25 24 v149 fun v220 =>
            nald 23 24 v158 fun v227 =>
            nif (v220 = v227) (
              NX11_ofNote p1 v149 0 fun v236 =>
              NX11_ofNote p2 v158 0 fun v244 =>
              nif (v236 = v244) (
                NX11_ofNote p1 v149 2 fun v255 =>
                NX11_ofNote p2 v158 2 fun v263 =>
                nif (v255 = v263) (
                  NX11_ofNote p1 v149 3 fun v274 =>
                  NX11_ofNote p2 v158 3 fun v282 =>
                  nif (v274 = v282) (
                    k293 1
                  ) (
                    k292
                  )
                ) (
                  k292
                )
              ) (
                k292
              )
            ) (
              k292
            )
          )
        ) fun k204 =>
        njoin (α := NP) (
          k204 1
        ) fun k199 =>
        nif (v149 < 0) (
          k199
        ) (
          nald 25 24 v149 fun v195 =>
          nif (v195 = 0) (
            k199
          ) (
            k204 0
          )
        )
      )
    )
  )
def HX11_shared_91 (k120 : NP) (rec91 : Int → NP) (x5_91 : Int) : NP :=
  nget 41 fun v94 =>
  nif (v94 ≤ x5_91) (
    k120
  ) (
    nald 24 30 x5_91 fun v112 =>
    nast 26 30 x5_91 v112 <|
    rec91 (w32 (x5_91 + 1))
  )
def HX11_shared_58 (p1 : Int) (k88 : NP) (rec58 : Int → NP) (x5_58 : Int) : NP :=
  NX11_notes p1 fun v62 =>
  nif (v62 ≤ x5_58) (
    k88
  ) (
    nald 23 24 x5_58 fun v80 =>
    nast 25 24 x5_58 v80 <|
    rec58 (w32 (x5_58 + 1))
  )
def NX11_shared (p1 : Int) (p2 : Int) (p3 : Int) (Qj : Int → NP) : NP :=
  nset 0 0 <|
  NX11_noBook p1 fun v8 =>
  njoin (α := Int → NP) (fun (s1_27 : Int) =>
    NX11_throwsIf s1_27 1 fun v28 =>
    nif (v28 = 0) (
      NX11_asksWhole fun v37 =>
      nif ((0 : Int) ≤ v37) (
        NX11_follows p1 <|
        nex fun n58 => jit (HX11_shared_58 p1 (nex fun n91 => jit (HX11_shared_91 (NX11_follows p2 <| nex fun n134 => jit (HX11_shared_134 p1 p2 (fun (y5_302 : Int) (y6_302 : Int) => nif (p3 = 0) (   Qj y5_302 ) (   nif (y5_302 ≤ y6_302) (     Qj 0   ) (     Qj 1   ) ))) (fun _ _ _ => nbot) n134 0 0 0)) (fun _ => nbot) n91 0)) (fun _ => nbot) n58 0
      ) (
        Qj v37
      )
    ) (
      Qj 0
    )
  ) fun k27 =>
  njoin (α := NP) (
    k27 1
  ) fun k22 =>
  nif (v8 = 0) (
    NX11_noBook p2 fun v16 =>
    nif (v16 = 0) (
      k27 0
    ) (
      k22
    )
  ) (
    k22
  )
def HX11_alike_84 (p1 : Int) (p2 : Int) (x4_42 : Int) (x5_55 : Int) (k133 : Int → NP) (rec84 : Int → Int → NP) (x7_84 : Int) (x8_84 : Int) : NP :=
  nif ((4 : Int) ≤ x8_84) (
    k133 x7_84
  ) (
    njoin (α := Int → NP) (fun (s0_125 : Int) =>
      rec84 s0_125 (w32 (x8_84 + 1))
    ) fun k125 =>
    njoin (α := NP) (
      k125 0
    ) fun k124 =>
    nif (x7_84 = 0) (
      k124
    ) (
      NX11_ofNote p1 (w32 (x4_42 - 1)) x8_84 fun v103 =>
      NX11_ofNote p2 (w32 (x5_55 - 1)) x8_84 fun v114 =>
      nif (v103 = v114) (
        k125 1
      ) (
        k124
      )
    )
  )
def HX11_alike_55 (p1 : Int) (p2 : Int) (x4_42 : Int) (k212 : NP) (rec55 : Int → NP) (x5_55 : Int) : NP :=
  NX11_notes p2 fun v59 =>
  nif (v59 < x5_55) (
    k212
  ) (
    njoin (α := Int → NP) (fun (x6_192 : Int) =>
      nast 27 625 (w32 ((w32 (25 * x4_42)) + x5_55)) x6_192 <|
      rec55 (w32 (x5_55 + 1))
    ) fun k192 =>
    nif (x4_42 ≤ 0) (
      k192 0
    ) (
      nif (x5_55 ≤ 0) (
        k192 0
      ) (
        nex fun n84 => jit (HX11_alike_84 p1 p2 x4_42 x5_55 (fun (y7_133 : Int) => njoin (α := Int → NP) (fun (s0_190 : Int) =>   k192 s0_190 ) fun k190 => nif (y7_133 = 0) (   nald 27 625 (w32 ((w32 (25 * (w32 (x4_42 - 1)))) + x5_55)) fun v172 =>   nald 27 625 (w32 ((w32 ((w32 (25 * x4_42)) + x5_55)) - 1)) fun v186 =>   k190 (max v172 v186) ) (   nald 27 625 (w32 ((w32 ((w32 (25 * (w32 (x4_42 - 1)))) + x5_55)) - 1)) fun v154 =>   k190 (w32 (1 + v154)) ))) (fun _ _ => nbot) n84 1 0
      )
    )
  )
def HX11_alike_42 (p1 : Int) (p2 : Int) (k218 : NP) (rec42 : Int → NP) (x4_42 : Int) : NP :=
  NX11_notes p1 fun v46 =>
  nif (v46 < x4_42) (
    k218
  ) (
    nex fun n55 => jit (HX11_alike_55 p1 p2 x4_42 (rec42 (w32 (x4_42 + 1)))) (fun _ => nbot) n55 0
  )
def NX11_alike (p1 : Int) (p2 : Int) (Qj : Int → NP) : NP :=
  nset 0 0 <|
  NX11_noBook p1 fun v8 =>
  njoin (α := Int → NP) (fun (s1_27 : Int) =>
    NX11_throwsIf s1_27 1 fun v28 =>
    nif (v28 = 0) (
      nex fun n42 => jit (HX11_alike_42 p1 p2 (NX11_notes p1 fun v225 => NX11_notes p2 fun v231 => nald 27 625 (w32 ((w32 (25 * v225)) + v231)) fun v235 => Qj v235)) (fun _ => nbot) n42 0
    ) (
      Qj 0
    )
  ) fun k27 =>
  njoin (α := NP) (
    k27 1
  ) fun k22 =>
  nif (v8 = 0) (
    NX11_noBook p2 fun v16 =>
    nif (v16 = 0) (
      k27 0
    ) (
      k22
    )
  ) (
    k22
  )
def NX11_way (p1 : Int) (Qj : Int → NP) : NP :=
  nset 0 0 <|
  NX11_noBook p1 fun v8 =>
  NX11_throwsIf v8 1 fun v12 =>
  nif (v12 = 0) (
    NX11_asksAll <|
    nset 18 (mshl 1 p1) <|
    nast 10 3 p1 0 <|
    NX11_asks fun v39 =>
    nast 10 3 p1 1 <|
    NX11_asks fun v51 =>
    nif (v39 = (-2)) (
      Qj (-2)
    ) (
      nif (v51 = (-2)) (
        Qj (-2)
      ) (
        njoin (α := Int → NP) (fun (s0_81 : Int) =>
          njoin (α := Int → NP) (fun (s0_94 : Int) =>
            nif (s0_94 ≤ s0_81) (
              nif (s0_81 ≤ s0_94) (
                Qj (-3)
              ) (
                Qj 1
              )
            ) (
              Qj 0
            )
          ) fun k94 =>
          nif ((0 : Int) ≤ v51) (
            k94 v51
          ) (
            k94 1000
          )
        ) fun k81 =>
        nif ((0 : Int) ≤ v39) (
          k81 v39
        ) (
          k81 1000
        )
      )
    )
  ) (
    Qj 0
  )
def NX11_cheaper (p1 : Int) (Qj : Int → NP) : NP :=
  nset 0 0 <|
  NX11_in p1 1 7 fun v10 =>
  njoin (α := Int → NP) (fun (s1_21 : Int) =>
    NX11_throwsIf s1_21 1 fun v22 =>
    nif (v22 = 0) (
      NX11_asksWhole fun v31 =>
      njoin (α := NP) (
        Qj (min 0 v31)
      ) fun k51 =>
      nif (v31 < 0) (
        k51
      ) (
        nald 1 2125 (w32 (5 + p1)) fun v46 =>
        nif ((2 : Int) ≤ v46) (
          nast 11 8 p1 1 <|
          NX11_asks fun v65 =>
          nif ((0 : Int) ≤ v65) (
            Qj (w32 (v31 - v65))
          ) (
            Qj v65
          )
        ) (
          k51
        )
      )
    ) (
      Qj 0
    )
  ) fun k21 =>
  nif (v10 = 0) (
    k21 1
  ) (
    k21 0
  )
def HX11_image_7 (k32 : NP) (rec7 : Int → NP) (x1_7 : Int) : NP :=
  nif ((1284 : Int) ≤ x1_7) (
    k32
  ) (
    nald 1 2125 x1_7 fun v24 =>
    nast 2 1284 x1_7 v24 <|
    rec7 (w32 (x1_7 + 1))
  )
def NX11_image (Qj : NP) : NP :=
  nset 0 0 <|
  nex fun n7 => jit (HX11_image_7 (nsetZ 3 1 <| Qj)) (fun _ => nbot) n7 0
def HX11_back_16 (Qj : Int → NP) (rec16 : Int → NP) (x1_16 : Int) : NP :=
  nif ((1284 : Int) ≤ x1_16) (
    Qj 1
  ) (
    nald 2 1284 x1_16 fun v33 =>
    nast 1 2125 x1_16 v33 <|
    rec16 (w32 (x1_16 + 1))
  )
def NX11_back (Qj : Int → NP) : NP :=
  nset 0 0 <|
  nget 3 fun v6 =>
  nif (v6 = 0) (
    Qj 0
  ) (
    nex fun n16 => jit (HX11_back_16 Qj) (fun _ => nbot) n16 0
  )
def HX11_count_65 (Qj : Int → NP) (rec65 : Int → Int → NP) (x2_65 : Int) (x3_65 : Int) : NP :=
  nif ((36 : Int) ≤ x3_65) (
    Qj x2_65
  ) (
    nald 1 2125 (w32 (13 + x3_65)) fun v80 =>
    njoin (α := Int → NP) (fun (s1_89 : Int) =>
      rec65 (w32 (x2_65 + s1_89)) (w32 (x3_65 + 1))
    ) fun k89 =>
    nif (v80 < 0) (
      k89 0
    ) (
      k89 1
    )
  )
def HX11_count_108 (Qj : Int → NP) (rec108 : Int → Int → NP) (x2_108 : Int) (x3_108 : Int) : NP :=
  nald 1 2125 1 fun v114 =>
  nif (v114 ≤ x3_108) (
    Qj x2_108
  ) (
    NX11_notes x3_108 fun v121 =>
    rec108 (w32 (x2_108 + v121)) (w32 (x3_108 + 1))
  )
def HX11_count_172 (Qj : Int → NP) (rec172 : Int → Int → NP) (x2_172 : Int) (x3_172 : Int) : NP :=
  nif ((36 : Int) ≤ x3_172) (
    Qj x2_172
  ) (
    nald 1 2125 (w32 (13 + x3_172)) fun v187 =>
    njoin (α := Int → NP) (fun (s1_210 : Int) =>
      rec172 (w32 (x2_172 + s1_210)) (w32 (x3_172 + 1))
    ) fun k210 =>
    nif (v187 < 0) (
      k210 0
    ) (
      nald 1 2125 (w32 (13 + x3_172)) fun v200 =>
      NX11_valueOf (w32 (Int.tdiv v200 2)) fun v203 =>
      k210 v203
    )
  )
def NX11_count (p1 : Int) (Qj : Int → NP) : NP :=
  nset 0 0 <|
  nif (p1 = 0) (
    nald 1 2125 0 fun v61 =>
    Qj v61
  ) (
    nif (p1 = 1) (
      nex fun n65 => jit (HX11_count_65 Qj) (fun _ _ => nbot) n65 0 0
    ) (
      nif (p1 = 2) (
        nald 1 2125 1 fun v104 =>
        Qj v104
      ) (
        nif (p1 = 3) (
          nex fun n108 => jit (HX11_count_108 Qj) (fun _ _ => nbot) n108 0 0
        ) (
          nif (p1 = 4) (
            nald 1 2125 2 fun v139 =>
            Qj v139
          ) (
            nif (p1 = 5) (
              nald 1 2125 3 fun v146 =>
              Qj v146
            ) (
              nif (p1 = 6) (
                NX11_asksWhole fun v149 =>
                nget 29 fun v154 =>
                nif (v154 = 0) (
                  nget 27 fun v166 =>
                  Qj v166
                ) (
                  Qj (-2)
                )
              ) (
                nif (p1 = 7) (
                  nex fun n172 => jit (HX11_count_172 Qj) (fun _ _ => nbot) n172 0 0
                ) (
                  Qj (-1)
                )
              )
            )
          )
        )
      )
    )
  )
