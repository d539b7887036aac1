set_option maxRecDepth 100000
theorem sm_J0_init_2 : ∀ (x0 : Nat), ∀ (x1 : Option Nat), ∀ (x2 : Option Nat), ∀ (x3 : Int32) (X3 : Int), x3.toInt = X3 → ∀ (x4 : Int32) (X4 : Int), x4.toInt = X4 → ∀ (x5 : JP) (X5 : MP), SM x5 X5 → SM (JJ0_init_2 x0 x1 x2 x3 x4 x5) (MJ0_init_2 x0 x1 x2 X3 X4 X5) := by
  intro this p1 p2 p3 p3' hp3 p4 p4' hp4 Qj Qj' hQj
  subst hp3
  subst hp4
  unfold JJ0_init_2 MJ0_init_2
  refine sm_putR rfl rfl ?_
  refine sm_any (fun v10 => ?_)
  refine sm_putR rfl rfl ?_
  refine sm_any (fun v17 => ?_)
  refine sm_putR rfl rfl ?_
  refine sm_join (fun (k41 : JP) (k41' : MP) => SM k41 k41') ?_ (fun k41 k41' hk41 => ?_)
  · refine sm_putR rfl rfl ?_
    refine sm_putR rfl rfl ?_
    refine sm_if (cI_eq rfl (show (nI 0).toInt = 0 by decide)) ?_ ?_
    · refine sm_putR rfl rfl ?_
      exact hQj
    · exact hQj
  refine sm_if (cI_eq rfl (show (nI 0).toInt = 0 by decide)) ?_ ?_
  · refine sm_putR rfl rfl ?_
    exact hk41
  · exact SM.bot
theorem sm_J1_init : ∀ (x0 : Nat), ∀ (x1 : Option Nat), ∀ (x2 : Option Nat), ∀ (x3 : Int32) (X3 : Int), x3.toInt = X3 → ∀ (x4 : Int32) (X4 : Int), x4.toInt = X4 → ∀ (x5 : JP) (X5 : MP), SM x5 X5 → SM (JJ1_init x0 x1 x2 x3 x4 x5) (MJ1_init x0 x1 x2 X3 X4 X5) := by
  intro this p1 p2 p3 p3' hp3 p4 p4' hp4 Qj Qj' hQj
  subst hp3
  subst hp4
  unfold JJ1_init MJ1_init
  exact sm_J0_init_2 this p1 p2 _ _ rfl _ _ rfl _ _ hQj
theorem sm_J13_bitCount : ∀ (x0 : Int32) (X0 : Int), x0.toInt = X0 → ∀ (x1 : Int32 → JP) (X1 : Int → MP), (∀ (x0 : Int32) (X0 : Int), x0.toInt = X0 → SM (x1 x0) (X1 X0)) → SM (JJ13_bitCount x0 x1) (MJ13_bitCount X0 X1) := by
  intro p0 p0' hp0 Qj Qj' hQj
  subst hp0
  unfold JJ13_bitCount MJ13_bitCount
  exact hQj _ _ (tc_and (tc_add (tc_add (tc_and (tc_add (tc_add (tc_and (tc_sub rfl (tc_and (tc_ushr rfl (show (nI 1).toInt = 1 by decide)) (show (nI 1431655765).toInt = 1431655765 by decide))) (show (nI 858993459).toInt = 858993459 by decide)) (tc_and (tc_ushr (tc_sub rfl (tc_and (tc_ushr rfl (show (nI 1).toInt = 1 by decide)) (show (nI 1431655765).toInt = 1431655765 by decide))) (show (nI 2).toInt = 2 by decide)) (show (nI 858993459).toInt = 858993459 by decide))) (tc_ushr (tc_add (tc_and (tc_sub rfl (tc_and (tc_ushr rfl (show (nI 1).toInt = 1 by decide)) (show (nI 1431655765).toInt = 1431655765 by decide))) (show (nI 858993459).toInt = 858993459 by decide)) (tc_and (tc_ushr (tc_sub rfl (tc_and (tc_ushr rfl (show (nI 1).toInt = 1 by decide)) (show (nI 1431655765).toInt = 1431655765 by decide))) (show (nI 2).toInt = 2 by decide)) (show (nI 858993459).toInt = 858993459 by decide))) (show (nI 4).toInt = 4 by decide))) (show (nI 252645135).toInt = 252645135 by decide)) (tc_ushr (tc_and (tc_add (tc_add (tc_and (tc_sub rfl (tc_and (tc_ushr rfl (show (nI 1).toInt = 1 by decide)) (show (nI 1431655765).toInt = 1431655765 by decide))) (show (nI 858993459).toInt = 858993459 by decide)) (tc_and (tc_ushr (tc_sub rfl (tc_and (tc_ushr rfl (show (nI 1).toInt = 1 by decide)) (show (nI 1431655765).toInt = 1431655765 by decide))) (show (nI 2).toInt = 2 by decide)) (show (nI 858993459).toInt = 858993459 by decide))) (tc_ushr (tc_add (tc_and (tc_sub rfl (tc_and (tc_ushr rfl (show (nI 1).toInt = 1 by decide)) (show (nI 1431655765).toInt = 1431655765 by decide))) (show (nI 858993459).toInt = 858993459 by decide)) (tc_and (tc_ushr (tc_sub rfl (tc_and (tc_ushr rfl (show (nI 1).toInt = 1 by decide)) (show (nI 1431655765).toInt = 1431655765 by decide))) (show (nI 2).toInt = 2 by decide)) (show (nI 858993459).toInt = 858993459 by decide))) (show (nI 4).toInt = 4 by decide))) (show (nI 252645135).toInt = 252645135 by decide)) (show (nI 8).toInt = 8 by decide))) (tc_ushr (tc_add (tc_and (tc_add (tc_add (tc_and (tc_sub rfl (tc_and (tc_ushr rfl (show (nI 1).toInt = 1 by decide)) (show (nI 1431655765).toInt = 1431655765 by decide))) (show (nI 858993459).toInt = 858993459 by decide)) (tc_and (tc_ushr (tc_sub rfl (tc_and (tc_ushr rfl (show (nI 1).toInt = 1 by decide)) (show (nI 1431655765).toInt = 1431655765 by decide))) (show (nI 2).toInt = 2 by decide)) (show (nI 858993459).toInt = 858993459 by decide))) (tc_ushr (tc_add (tc_and (tc_sub rfl (tc_and (tc_ushr rfl (show (nI 1).toInt = 1 by decide)) (show (nI 1431655765).toInt = 1431655765 by decide))) (show (nI 858993459).toInt = 858993459 by decide)) (tc_and (tc_ushr (tc_sub rfl (tc_and (tc_ushr rfl (show (nI 1).toInt = 1 by decide)) (show (nI 1431655765).toInt = 1431655765 by decide))) (show (nI 2).toInt = 2 by decide)) (show (nI 858993459).toInt = 858993459 by decide))) (show (nI 4).toInt = 4 by decide))) (show (nI 252645135).toInt = 252645135 by decide)) (tc_ushr (tc_and (tc_add (tc_add (tc_and (tc_sub rfl (tc_and (tc_ushr rfl (show (nI 1).toInt = 1 by decide)) (show (nI 1431655765).toInt = 1431655765 by decide))) (show (nI 858993459).toInt = 858993459 by decide)) (tc_and (tc_ushr (tc_sub rfl (tc_and (tc_ushr rfl (show (nI 1).toInt = 1 by decide)) (show (nI 1431655765).toInt = 1431655765 by decide))) (show (nI 2).toInt = 2 by decide)) (show (nI 858993459).toInt = 858993459 by decide))) (tc_ushr (tc_add (tc_and (tc_sub rfl (tc_and (tc_ushr rfl (show (nI 1).toInt = 1 by decide)) (show (nI 1431655765).toInt = 1431655765 by decide))) (show (nI 858993459).toInt = 858993459 by decide)) (tc_and (tc_ushr (tc_sub rfl (tc_and (tc_ushr rfl (show (nI 1).toInt = 1 by decide)) (show (nI 1431655765).toInt = 1431655765 by decide))) (show (nI 2).toInt = 2 by decide)) (show (nI 858993459).toInt = 858993459 by decide))) (show (nI 4).toInt = 4 by decide))) (show (nI 252645135).toInt = 252645135 by decide)) (show (nI 8).toInt = 8 by decide))) (show (nI 16).toInt = 16 by decide))) (show (nI 63).toInt = 63 by decide))
theorem sm_J13_numberOfTrailingZeros : ∀ (x0 : Int32) (X0 : Int), x0.toInt = X0 → ∀ (x1 : Int32 → JP) (X1 : Int → MP), (∀ (x0 : Int32) (X0 : Int), x0.toInt = X0 → SM (x1 x0) (X1 X0)) → SM (JJ13_numberOfTrailingZeros x0 x1) (MJ13_numberOfTrailingZeros X0 X1) := by
  intro p0 p0' hp0 Qj Qj' hQj
  subst hp0
  unfold JJ13_numberOfTrailingZeros MJ13_numberOfTrailingZeros
  refine sm_if (cI_lt (show (nI 0).toInt = 0 by decide) (tc_and (tc_xor rfl (show ((-1) : Int32).toInt = (-1) by decide)) (tc_sub rfl (show (nI 1).toInt = 1 by decide)))) ?_ ?_
  · refine sm_join (fun (k34 : Int32 → Int32 → JP) (k34' : Int → Int → MP) => ∀ (x0 : Int32) (X0 : Int), x0.toInt = X0 → ∀ (x1 : Int32) (X1 : Int), x1.toInt = X1 → SM (k34 x0 x1) (k34' X0 X1)) ?_ (fun k34 k34' hk34 => ?_)
    · intro x0_34 x0_34' hx0_34 x1_34 x1_34' hx1_34
      subst hx0_34
      subst hx1_34
      refine sm_join (fun (k49 : Int32 → Int32 → JP) (k49' : Int → Int → MP) => ∀ (x0 : Int32) (X0 : Int), x0.toInt = X0 → ∀ (x1 : Int32) (X1 : Int), x1.toInt = X1 → SM (k49 x0 x1) (k49' X0 X1)) ?_ (fun k49 k49' hk49 => ?_)
      · intro x0_49 x0_49' hx0_49 x1_49 x1_49' hx1_49
        subst hx0_49
        subst hx1_49
        refine sm_join (fun (k62 : Int32 → Int32 → JP) (k62' : Int → Int → MP) => ∀ (x0 : Int32) (X0 : Int), x0.toInt = X0 → ∀ (x1 : Int32) (X1 : Int), x1.toInt = X1 → SM (k62 x0 x1) (k62' X0 X1)) ?_ (fun k62 k62' hk62 => ?_)
        · intro x0_62 x0_62' hx0_62 x1_62 x1_62' hx1_62
          subst hx0_62
          subst hx1_62
          refine sm_join (fun (k74 : Int32 → Int32 → JP) (k74' : Int → Int → MP) => ∀ (x0 : Int32) (X0 : Int), x0.toInt = X0 → ∀ (x1 : Int32) (X1 : Int), x1.toInt = X1 → SM (k74 x0 x1) (k74' X0 X1)) ?_ (fun k74 k74' hk74 => ?_)
          · intro x0_74 x0_74' hx0_74 x1_74 x1_74' hx1_74
            subst hx0_74
            subst hx1_74
            exact hQj _ _ (tc_add rfl (tc_ushr rfl (show (nI 1).toInt = 1 by decide)))
          refine sm_if (cI_le rfl (show (nI 4).toInt = 4 by decide)) ?_ ?_
          · exact hk74 _ _ rfl _ _ rfl
          · exact hk74 _ _ (tc_ushr rfl (show (nI 2).toInt = 2 by decide)) _ _ (tc_add rfl (show (nI 2).toInt = 2 by decide))
        refine sm_if (cI_le rfl (show (nI 16).toInt = 16 by decide)) ?_ ?_
        · exact hk62 _ _ rfl _ _ rfl
        · exact hk62 _ _ (tc_ushr rfl (show (nI 4).toInt = 4 by decide)) _ _ (tc_add rfl (show (nI 4).toInt = 4 by decide))
      refine sm_if (cI_le rfl (show (nI 256).toInt = 256 by decide)) ?_ ?_
      · exact hk49 _ _ rfl _ _ rfl
      · exact hk49 _ _ (tc_ushr rfl (show (nI 8).toInt = 8 by decide)) _ _ (tc_add rfl (show (nI 8).toInt = 8 by decide))
    refine sm_if (cI_le (tc_and (tc_xor rfl (show ((-1) : Int32).toInt = (-1) by decide)) (tc_sub rfl (show (nI 1).toInt = 1 by decide))) (show (nI 65536).toInt = 65536 by decide)) ?_ ?_
    · exact hk34 _ _ (tc_and (tc_xor rfl (show ((-1) : Int32).toInt = (-1) by decide)) (tc_sub rfl (show (nI 1).toInt = 1 by decide))) _ _ (show (nI 1).toInt = 1 by decide)
    · exact hk34 _ _ (tc_ushr (tc_and (tc_xor rfl (show ((-1) : Int32).toInt = (-1) by decide)) (tc_sub rfl (show (nI 1).toInt = 1 by decide))) (show (nI 16).toInt = 16 by decide)) _ _ (tc_add (show (nI 1).toInt = 1 by decide) (show (nI 16).toInt = 16 by decide))
  · exact hQj _ _ (tc_and (tc_and (tc_xor rfl (show ((-1) : Int32).toInt = (-1) by decide)) (tc_sub rfl (show (nI 1).toInt = 1 by decide))) (show (nI 32).toInt = 32 by decide))
theorem sm_J2_init : ∀ (x0 : Nat), ∀ (x1 : Option Nat), ∀ (x2 : Option Nat), ∀ (x3 : Int32) (X3 : Int), x3.toInt = X3 → ∀ (x4 : Int32) (X4 : Int), x4.toInt = X4 → ∀ (x5 : JP) (X5 : MP), SM x5 X5 → SM (JJ2_init x0 x1 x2 x3 x4 x5) (MJ2_init x0 x1 x2 X3 X4 X5) := by
  intro this p1 p2 p3 p3' hp3 p4 p4' hp4 Qj Qj' hQj
  subst hp3
  subst hp4
  unfold JJ2_init MJ2_init
  exact sm_J1_init this p1 p2 _ _ rfl _ _ rfl _ _ hQj
theorem sm_J3_coder (sK : Nat → Nat) : ∀ (x0 : Nat), ∀ (x1 : Int32 → JP) (X1 : Int → MP), (∀ (x0 : Int32) (X0 : Int), x0.toInt = X0 → SM (x1 x0) (X1 X0)) → SM ((JJ3_coder sK) x0 x1) ((MJ3_coder sK) x0 X1) := by
  intro this Qj Qj' hQj
  unfold JJ3_coder MJ3_coder
  refine sm_if (cI_eq (show (nI 1).toInt = 1 by decide) (show (nI 0).toInt = 0 by decide)) ?_ ?_
  · refine sm_and (mnar_of (show (nI 1).toInt = 1 by decide)) ?_
    exact hQj _ _ (show (nI 1).toInt = 1 by decide)
  · refine sm_scod ?_
    refine sm_and (mnar_of (show (nI 0).toInt = 0 by decide)) ?_
    exact hQj _ _ (show (nI 0).toInt = 0 by decide)
theorem sm_J3_length (sK : Nat → Nat) : ∀ (x0 : Nat), ∀ (x1 : Int32 → JP) (X1 : Int → MP), (∀ (x0 : Int32) (X0 : Int), x0.toInt = X0 → SM (x1 x0) (X1 X0)) → SM ((JJ3_length sK) x0 x1) ((MJ3_length sK) x0 X1) := by
  intro this Qj Qj' hQj
  unfold JJ3_length MJ3_length
  refine sm_sval (fun v1 => ?_)
  refine sm_slen (fun v4 => ?_)
  refine sm_sobj ?_
  refine sm_J3_coder sK this _ _ ?_
  intro v6 v6' hv6
  subst hv6
  exact hQj _ _ (tc_shr rfl rfl)
theorem sm_J3_isLatin1 (sK : Nat → Nat) : ∀ (x0 : Nat), ∀ (x1 : Int32 → JP) (X1 : Int → MP), (∀ (x0 : Int32) (X0 : Int), x0.toInt = X0 → SM (x1 x0) (X1 X0)) → SM ((JJ3_isLatin1 sK) x0 x1) ((MJ3_isLatin1 sK) x0 X1) := by
  intro this Qj Qj' hQj
  unfold JJ3_isLatin1 MJ3_isLatin1
  refine sm_join (fun (k17 : JP) (k17' : MP) => SM k17 k17') ?_ (fun k17 k17' hk17 => ?_)
  · exact hQj _ _ (show (nI 0).toInt = 0 by decide)
  refine sm_if (cI_eq (show (nI 1).toInt = 1 by decide) (show (nI 0).toInt = 0 by decide)) ?_ ?_
  · exact hk17
  · refine sm_scod ?_
    refine sm_if (cI_eq (show (nI 0).toInt = 0 by decide) (show (nI 0).toInt = 0 by decide)) ?_ ?_
    · exact hQj _ _ (show (nI 1).toInt = 1 by decide)
    · exact hk17
theorem sm_J5_checkIndex : ∀ (x0 : Int32) (X0 : Int), x0.toInt = X0 → ∀ (x1 : Int32) (X1 : Int), x1.toInt = X1 → ∀ (x2 : Option Nat), ∀ (x3 : Int32 → JP) (X3 : Int → MP), (∀ (x0 : Int32) (X0 : Int), x0.toInt = X0 → SM (x3 x0) (X3 X0)) → SM (JJ5_checkIndex x0 x1 x2 x3) (MJ5_checkIndex X0 X1 x2 X3) := by
  intro p0 p0' hp0 p1 p1' hp1 p2 Qj Qj' hQj
  subst hp0
  subst hp1
  unfold JJ5_checkIndex MJ5_checkIndex
  refine sm_join (fun (k9 : JP) (k9' : MP) => SM k9 k9') ?_ (fun k9 k9' hk9 => ?_)
  · exact SM.bot
  refine sm_if (cI_lt rfl (show (nI 0).toInt = 0 by decide)) ?_ ?_
  · exact hk9
  · refine sm_if (cI_lt rfl rfl) ?_ ?_
    · exact hQj _ _ rfl
    · exact hk9
theorem sm_J3_checkIndex (sK : Nat → Nat) : ∀ (x0 : Int32) (X0 : Int), x0.toInt = X0 → ∀ (x1 : Int32) (X1 : Int), x1.toInt = X1 → ∀ (x2 : JP) (X2 : MP), SM x2 X2 → SM ((JJ3_checkIndex sK) x0 x1 x2) ((MJ3_checkIndex sK) X0 X1 X2) := by
  intro p0 p0' hp0 p1 p1' hp1 Qj Qj' hQj
  subst hp0
  subst hp1
  unfold JJ3_checkIndex MJ3_checkIndex
  refine sm_any (fun v2 => ?_)
  refine sm_J5_checkIndex _ _ rfl _ _ rfl v2 _ _ ?_
  intro v5 v5' hv5
  subst hv5
  exact hQj
theorem sm_J4_charAt (sK : Nat → Nat) : ∀ (x0 : Nat), ∀ (x1 : Int32) (X1 : Int), x1.toInt = X1 → ∀ (x2 : Int32 → JP) (X2 : Int → MP), (∀ (x0 : Int32) (X0 : Int), x0.toInt = X0 → SM (x2 x0) (X2 X0)) → SM ((JJ4_charAt sK) x0 x1 x2) ((MJ4_charAt sK) x0 X1 X2) := by
  intro p0 p1 p1' hp1 Qj Qj' hQj
  subst hp1
  unfold JJ4_charAt MJ4_charAt
  refine sm_slen (fun v2 => ?_)
  refine sm_J3_checkIndex sK _ _ rfl _ _ rfl _ _ ?_
  refine sm_schr rfl (fun v8 => ?_)
  refine sm_and (mnar_of (tc_i2c (tc_and rfl (show (nI 255).toInt = 255 by decide)))) ?_
  exact hQj _ _ (tc_i2c (tc_and rfl (show (nI 255).toInt = 255 by decide)))
theorem sm_J3_charAt (sK : Nat → Nat) : ∀ (x0 : Nat), ∀ (x1 : Int32) (X1 : Int), x1.toInt = X1 → ∀ (x2 : Int32 → JP) (X2 : Int → MP), (∀ (x0 : Int32) (X0 : Int), x0.toInt = X0 → SM (x2 x0) (X2 X0)) → SM ((JJ3_charAt sK) x0 x1 x2) ((MJ3_charAt sK) x0 X1 X2) := by
  intro this p1 p1' hp1 Qj Qj' hQj
  subst hp1
  unfold JJ3_charAt MJ3_charAt
  refine sm_sobj ?_
  refine sm_J3_isLatin1 sK this _ _ ?_
  intro v1 v1' hv1
  subst hv1
  refine sm_if (cI_eq rfl (show (nI 0).toInt = 0 by decide)) ?_ ?_
  · refine sm_sval (fun v17 => ?_)
    exact SM.bot
  · refine sm_sval (fun v8 => ?_)
    refine sm_J4_charAt sK v8 _ _ rfl _ _ ?_
    intro v12 v12' hv12
    subst hv12
    refine sm_and (mnar_of rfl) ?_
    exact hQj _ _ rfl
theorem sm_X3_init : ∀ (x0 : Nat), ∀ (x1 : JP) (X1 : MP), SM x1 X1 → SM (JX3_init x0 x1) (MX3_init x0 X1) := by
  intro this Qj Qj' hQj
  unfold JX3_init MX3_init
  exact hQj
theorem sm_X4_init : ∀ (x0 : Nat), ∀ (x1 : JP) (X1 : MP), SM x1 X1 → SM (JX4_init x0 x1) (MX4_init x0 X1) := by
  intro this Qj Qj' hQj
  unfold JX4_init MX4_init
  exact sm_X3_init this _ _ hQj
theorem sm_X5_init : ∀ (x0 : Nat), ∀ (x1 : JP) (X1 : MP), SM x1 X1 → SM (JX5_init x0 x1) (MX5_init x0 X1) := by
  intro this Qj Qj' hQj
  unfold JX5_init MX5_init
  exact sm_X3_init this _ _ hQj
theorem sm_X6_init : ∀ (x0 : Nat), ∀ (x1 : JP) (X1 : MP), SM x1 X1 → SM (JX6_init x0 x1) (MX6_init x0 X1) := by
  intro this Qj Qj' hQj
  unfold JX6_init MX6_init
  exact sm_J2_init this none none _ _ (show (nI 0).toInt = 0 by decide) _ _ (show (nI 0).toInt = 0 by decide) _ _ hQj
theorem sm_X2_init (sK : Nat → Nat) : ∀ (x0 : Nat), ∀ (x1 : Nat), ∀ (x2 : Nat), ∀ (x3 : JP) (X3 : MP), SM x3 X3 → SM ((JX2_init sK) x0 x1 x2 x3) ((MX2_init sK) x0 x1 x2 X3) := by
  intro bc bs this Qj Qj' hQj
  unfold JX2_init MX2_init
  refine sm_newI (by decide) (show (nI 400).toInt = 400 by decide) (fun v8 => ?_)
  refine sm_putR rfl rfl ?_
  refine sm_newA (by decide) (show (nI 4).toInt = 4 by decide) (fun v15 => ?_)
  refine sm_astS (show (nI 0).toInt = 0 by decide) ?_
  refine sm_astS (show (nI 1).toInt = 1 by decide) ?_
  refine sm_astS (show (nI 2).toInt = 2 by decide) ?_
  refine sm_astS (show (nI 3).toInt = 3 by decide) ?_
  refine sm_putR rfl rfl ?_
  refine sm_newA (by decide) (show (nI 6).toInt = 6 by decide) (fun v44 => ?_)
  refine sm_putR rfl rfl ?_
  refine sm_newA (by decide) (show (nI 10).toInt = 10 by decide) (fun v53 => ?_)
  refine sm_putR rfl rfl ?_
  refine sm_new rfl rfl (fun v60 => ?_)
  refine sm_X4_init v60 _ _ ?_
  refine sm_putR rfl rfl ?_
  refine sm_new rfl rfl (fun v71 => ?_)
  refine sm_X5_init v71 _ _ ?_
  refine sm_putR rfl rfl ?_
  refine sm_new rfl rfl (fun v82 => ?_)
  refine sm_X6_init v82 _ _ ?_
  refine sm_putR rfl rfl ?_
  exact hQj
theorem smFX8_init_22 (this : Nat) {Qj : JP} {Qj' : MP} (hQj : SM Qj Qj') : ∀ n : Nat, ∀ (x0 : Int32) (X0 : Int), x0.toInt = X0 → SM (jit (FX8_init_22 this Qj) (fun _ => jbot) n x0) (jit (GX8_init_22 this Qj') (fun _ => mbot) n X0) := by
  intro n
  induction n with
  | zero =>
    intro x1_22 x1_22' hx1_22
    exact SM.bot
  | succ n ih =>
    intro x1_22 x1_22' hx1_22
    subst hx1_22
    show SM (FX8_init_22 this Qj (jit (FX8_init_22 this Qj) (fun _ => jbot) n) x1_22) (GX8_init_22 this Qj' (jit (GX8_init_22 this Qj') (fun _ => mbot) n) x1_22.toInt)
    generalize jit (FX8_init_22 this Qj) (fun _ => jbot) n = rec22 at ih ⊢
    generalize jit (GX8_init_22 this Qj') (fun _ => mbot) n = rec22' at ih ⊢
    have hrec22 := ih
    unfold FX8_init_22 GX8_init_22
    refine sm_if (cI_le (show (nI 36).toInt = 36 by decide) rfl) ?_ ?_
    · exact hQj
    · refine sm_getA rfl (fun v29 => ?_)
      refine sm_astI rfl (show ((-1) : Int32).toInt = (-1) by decide) ?_
      exact hrec22 _ _ (tc_add rfl (show (nI 1).toInt = 1 by decide))
theorem sm_X8_init : ∀ (x0 : Nat), ∀ (x1 : Nat), ∀ (x2 : Nat), ∀ (x3 : JP) (X3 : MP), SM x3 X3 → SM (JX8_init x0 x1 x2 x3) (MX8_init x0 x1 x2 X3) := by
  intro bc bs this Qj Qj' hQj
  unfold JX8_init MX8_init
  refine sm_newI (by decide) (show (nI 36).toInt = 36 by decide) (fun v7 => ?_)
  refine sm_putR rfl rfl ?_
  refine sm_newI (by decide) (show (nI 36).toInt = 36 by decide) (fun v15 => ?_)
  refine sm_putR rfl rfl ?_
  refine sm_ex (fun n22 => ?_)
  refine smFX8_init_22 this hQj n22 _ _ (show (nI 0).toInt = 0 by decide)
theorem sm_X9_init : ∀ (x0 : Nat), ∀ (x1 : Nat), ∀ (x2 : Nat), ∀ (x3 : JP) (X3 : MP), SM x3 X3 → SM (JX9_init x0 x1 x2 x3) (MX9_init x0 x1 x2 X3) := by
  intro bc bs this Qj Qj' hQj
  unfold JX9_init MX9_init
  refine sm_newA (by decide) (show (nI 24).toInt = 24 by decide) (fun v7 => ?_)
  refine sm_putR rfl rfl ?_
  exact hQj
theorem smFX7_init_55 (this : Nat) {Qj : JP} {Qj' : MP} (hQj : SM Qj Qj') : ∀ n : Nat, ∀ (x0 : Int32) (X0 : Int), x0.toInt = X0 → ∀ (x1 : Nat), ∀ (x2 : Nat), SM (jit (FX7_init_55 this Qj) (fun _ _ _ => jbot) n x0 x1 x2) (jit (GX7_init_55 this Qj') (fun _ _ _ => mbot) n X0 x1 x2) := by
  intro n
  induction n with
  | zero =>
    intro x1_55 x1_55' hx1_55 bc_55 bs_55
    exact SM.bot
  | succ n ih =>
    intro x1_55 x1_55' hx1_55 bc_55 bs_55
    subst hx1_55
    show SM (FX7_init_55 this Qj (jit (FX7_init_55 this Qj) (fun _ _ _ => jbot) n) x1_55 bc_55 bs_55) (GX7_init_55 this Qj' (jit (GX7_init_55 this Qj') (fun _ _ _ => mbot) n) x1_55.toInt bc_55 bs_55)
    generalize jit (FX7_init_55 this Qj) (fun _ _ _ => jbot) n = rec55 at ih ⊢
    generalize jit (GX7_init_55 this Qj') (fun _ _ _ => mbot) n = rec55' at ih ⊢
    have hrec55 := ih
    unfold FX7_init_55 GX7_init_55
    refine sm_if (cI_le (show (nI 3).toInt = 3 by decide) rfl) ?_ ?_
    · exact hQj
    · refine sm_getA rfl (fun v61 => ?_)
      refine sm_new rfl rfl (fun v65 => ?_)
      refine sm_bud (fun mc69 ms69 => ?_)
      refine sm_X9_init mc69 ms69 v65 _ _ ?_
      refine sm_astA (by decide) rfl ?_
      exact hrec55 _ _ (tc_add rfl (show (nI 1).toInt = 1 by decide)) ((bc_55 - 1) - mc69) ((bs_55 - 3) - ms69)
theorem sm_X7_init : ∀ (x0 : Nat), ∀ (x1 : Nat), ∀ (x2 : Nat), ∀ (x3 : JP) (X3 : MP), SM x3 X3 → SM (JX7_init x0 x1 x2 x3) (MX7_init x0 x1 x2 X3) := by
  intro bc bs this Qj Qj' hQj
  unfold JX7_init MX7_init
  refine sm_newA (by decide) (show (nI 5).toInt = 5 by decide) (fun v6 => ?_)
  refine sm_putR rfl rfl ?_
  refine sm_new rfl rfl (fun v13 => ?_)
  refine sm_bud (fun mc17 ms17 => ?_)
  refine sm_X8_init mc17 ms17 v13 _ _ ?_
  refine sm_putR rfl rfl ?_
  refine sm_newA (by decide) (show (nI 3).toInt = 3 by decide) (fun v25 => ?_)
  refine sm_putR rfl rfl ?_
  refine sm_newA (by decide) (show (nI 10).toInt = 10 by decide) (fun v34 => ?_)
  refine sm_putR rfl rfl ?_
  refine sm_newI (by decide) (show (nI 8).toInt = 8 by decide) (fun v43 => ?_)
  refine sm_putR rfl rfl ?_
  refine sm_putI rfl (show ((-1) : Int32).toInt = (-1) by decide) ?_
  refine sm_ex (fun n55 => ?_)
  refine smFX7_init_55 this hQj n55 _ _ (show (nI 0).toInt = 0 by decide) ((((((bc - 1) - 1) - mc17) - 1) - 1) - 1) ((((((bs - (nI 5).toNatClampNeg) - 2) - ms17) - (nI 3).toNatClampNeg) - (nI 10).toNatClampNeg) - (nI 8).toNatClampNeg)
theorem sm_X10_init : ∀ (x0 : Nat), ∀ (x1 : Nat), ∀ (x2 : Nat), ∀ (x3 : Nat), ∀ (x4 : JP) (X4 : MP), SM x4 X4 → SM (JX10_init x0 x1 x2 x3 x4) (MX10_init x0 x1 x2 x3 X4) := by
  intro bc bs this p1 Qj Qj' hQj
  unfold JX10_init MX10_init
  refine sm_new rfl rfl (fun v5 => ?_)
  refine sm_bud (fun mc9 ms9 => ?_)
  refine sm_X8_init mc9 ms9 v5 _ _ ?_
  refine sm_putR rfl rfl ?_
  refine sm_newI (by decide) (show (nI 36).toInt = 36 by decide) (fun v18 => ?_)
  refine sm_putR rfl rfl ?_
  refine sm_newM2 (fun v29 => ?_)
  refine sm_putR rfl rfl ?_
  refine sm_newM3 (fun v42 => ?_)
  refine sm_putR rfl rfl ?_
  refine sm_newI (by decide) (show (nI 30).toInt = 30 by decide) (fun v52 => ?_)
  refine sm_putR rfl rfl ?_
  refine sm_newI (by decide) (show (nI 30).toInt = 30 by decide) (fun v60 => ?_)
  refine sm_putR rfl rfl ?_
  refine sm_newI (by decide) (show (nI 30).toInt = 30 by decide) (fun v68 => ?_)
  refine sm_putR rfl rfl ?_
  refine sm_newI (by decide) (show (nI 30).toInt = 30 by decide) (fun v76 => ?_)
  refine sm_putR rfl rfl ?_
  refine sm_newI (by decide) (show (nI 8).toInt = 8 by decide) (fun v84 => ?_)
  refine sm_putR rfl rfl ?_
  refine sm_newI (by decide) (show (nI 6).toInt = 6 by decide) (fun v92 => ?_)
  refine sm_putR rfl rfl ?_
  refine sm_new rfl rfl (fun v98 => ?_)
  refine sm_bud (fun mc102 ms102 => ?_)
  refine sm_X8_init mc102 ms102 v98 _ _ ?_
  refine sm_putR rfl rfl ?_
  refine sm_putR rfl rfl ?_
  exact hQj
theorem sm_X1_init (sK : Nat → Nat) : ∀ (x0 : Nat), ∀ (x1 : Nat), ∀ (x2 : Nat), ∀ (x3 : JP) (X3 : MP), SM x3 X3 → SM ((JX1_init sK) x0 x1 x2 x3) ((MX1_init sK) x0 x1 x2 X3) := by
  intro bc bs this Qj Qj' hQj
  unfold JX1_init MX1_init
  refine sm_new rfl rfl (fun v5 => ?_)
  refine sm_bud (fun mc9 ms9 => ?_)
  refine sm_X2_init sK mc9 ms9 v5 _ _ ?_
  refine sm_putR rfl rfl ?_
  refine sm_new rfl rfl (fun v16 => ?_)
  refine sm_bud (fun mc20 ms20 => ?_)
  refine sm_X7_init mc20 ms20 v16 _ _ ?_
  refine sm_putR rfl rfl ?_
  refine sm_new rfl rfl (fun v27 => ?_)
  refine sm_bud (fun mc31 ms31 => ?_)
  refine sm_X7_init mc31 ms31 v27 _ _ ?_
  refine sm_putR rfl rfl ?_
  refine sm_new rfl rfl (fun v38 => ?_)
  refine sm_getA rfl (fun v43 => ?_)
  refine sm_bud (fun mc46 ms46 => ?_)
  refine sm_X10_init mc46 ms46 v38 v43 _ _ ?_
  refine sm_putR rfl rfl ?_
  refine sm_new rfl rfl (fun v53 => ?_)
  refine sm_getA rfl (fun v58 => ?_)
  refine sm_bud (fun mc61 ms61 => ?_)
  refine sm_X10_init mc61 ms61 v53 v58 _ _ ?_
  refine sm_putR rfl rfl ?_
  refine sm_newM2 (fun v71 => ?_)
  refine sm_putR rfl rfl ?_
  refine sm_newM2 (fun v82 => ?_)
  refine sm_putR rfl rfl ?_
  refine sm_newM2 (fun v94 => ?_)
  refine sm_putR rfl rfl ?_
  refine sm_newM2 (fun v106 => ?_)
  refine sm_putR rfl rfl ?_
  refine sm_newI (by decide) (show (nI 3).toInt = 3 by decide) (fun v115 => ?_)
  refine sm_putR rfl rfl ?_
  refine sm_newI (by decide) (show (nI 30).toInt = 30 by decide) (fun v123 => ?_)
  refine sm_putR rfl rfl ?_
  refine sm_newI (by decide) (show (nI 1296).toInt = 1296 by decide) (fun v132 => ?_)
  refine sm_putR rfl rfl ?_
  refine sm_new rfl rfl (fun v138 => ?_)
  refine sm_bud (fun mc142 ms142 => ?_)
  refine sm_X8_init mc142 ms142 v138 _ _ ?_
  refine sm_putR rfl rfl ?_
  refine sm_putI rfl (show ((-1) : Int32).toInt = (-1) by decide) ?_
  exact hQj
theorem smFX11_init_241 (this : Nat) {Qj : JP} {Qj' : MP} (hQj : SM Qj Qj') : ∀ n : Nat, ∀ (x0 : Int32) (X0 : Int), x0.toInt = X0 → SM (jit (FX11_init_241 this Qj) (fun _ => jbot) n x0) (jit (GX11_init_241 this Qj') (fun _ => mbot) n X0) := by
  intro n
  induction n with
  | zero =>
    intro x1_241 x1_241' hx1_241
    exact SM.bot
  | succ n ih =>
    intro x1_241 x1_241' hx1_241
    subst hx1_241
    show SM (FX11_init_241 this Qj (jit (FX11_init_241 this Qj) (fun _ => jbot) n) x1_241) (GX11_init_241 this Qj' (jit (GX11_init_241 this Qj') (fun _ => mbot) n) x1_241.toInt)
    generalize jit (FX11_init_241 this Qj) (fun _ => jbot) n = rec241 at ih ⊢
    generalize jit (GX11_init_241 this Qj') (fun _ => mbot) n = rec241' at ih ⊢
    have hrec241 := ih
    unfold FX11_init_241 GX11_init_241
    refine sm_if (cI_le (show (nI 36).toInt = 36 by decide) rfl) ?_ ?_
    · exact hQj
    · refine sm_getA rfl (fun v248 => ?_)
      refine sm_astI (tc_add (show (nI 13).toInt = 13 by decide) rfl) (show ((-1) : Int32).toInt = (-1) by decide) ?_
      exact hrec241 _ _ (tc_add rfl (show (nI 1).toInt = 1 by decide))
theorem sm_X11_init : ∀ (x0 : Nat), ∀ (x1 : Nat), ∀ (x2 : Nat), ∀ (x3 : JP) (X3 : MP), SM x3 X3 → SM (JX11_init x0 x1 x2 x3) (MX11_init x0 x1 x2 X3) := by
  intro bc bs this Qj Qj' hQj
  unfold JX11_init MX11_init
  refine sm_newI (by decide) (show (nI 2125).toInt = 2125 by decide) (fun v8 => ?_)
  refine sm_putR rfl rfl ?_
  refine sm_newI (by decide) (show (nI 1284).toInt = 1284 by decide) (fun v17 => ?_)
  refine sm_putR rfl rfl ?_
  refine sm_newI (by decide) (show (nI 400).toInt = 400 by decide) (fun v26 => ?_)
  refine sm_putR rfl rfl ?_
  refine sm_putI rfl (show ((-1) : Int32).toInt = (-1) by decide) ?_
  refine sm_newI (by decide) (show (nI 5).toInt = 5 by decide) (fun v38 => ?_)
  refine sm_putR rfl rfl ?_
  refine sm_newI (by decide) (show (nI 12).toInt = 12 by decide) (fun v46 => ?_)
  refine sm_putR rfl rfl ?_
  refine sm_newI (by decide) (show (nI 6).toInt = 6 by decide) (fun v54 => ?_)
  refine sm_putR rfl rfl ?_
  refine sm_newI (by decide) (show (nI 400).toInt = 400 by decide) (fun v63 => ?_)
  refine sm_putR rfl rfl ?_
  refine sm_newI (by decide) (show (nI 1116).toInt = 1116 by decide) (fun v72 => ?_)
  refine sm_putR rfl rfl ?_
  refine sm_newI (by decide) (show (nI 40176).toInt = 40176 by decide) (fun v80 => ?_)
  refine sm_putR rfl rfl ?_
  refine sm_newI (by decide) (show (nI 3).toInt = 3 by decide) (fun v87 => ?_)
  refine sm_putR rfl rfl ?_
  refine sm_newI (by decide) (show (nI 8).toInt = 8 by decide) (fun v95 => ?_)
  refine sm_putR rfl rfl ?_
  refine sm_newI (by decide) (show (nI 31).toInt = 31 by decide) (fun v103 => ?_)
  refine sm_putR rfl rfl ?_
  refine sm_newI (by decide) (show (nI 2232).toInt = 2232 by decide) (fun v112 => ?_)
  refine sm_putR rfl rfl ?_
  refine sm_newI (by decide) (show (nI 2232).toInt = 2232 by decide) (fun v121 => ?_)
  refine sm_putR rfl rfl ?_
  refine sm_newI (by decide) (show (nI 2325).toInt = 2325 by decide) (fun v130 => ?_)
  refine sm_putR rfl rfl ?_
  refine sm_newI (by decide) (show (nI 31).toInt = 31 by decide) (fun v138 => ?_)
  refine sm_putR rfl rfl ?_
  refine sm_newL (show (nI 24).toInt = 24 by decide) (fun v146 => ?_)
  refine sm_putR rfl rfl ?_
  refine sm_newL (show (nI 24).toInt = 24 by decide) (fun v154 => ?_)
  refine sm_putR rfl rfl ?_
  refine sm_newI (by decide) (show (nI 30).toInt = 30 by decide) (fun v162 => ?_)
  refine sm_putR rfl rfl ?_
  refine sm_newI (by decide) (show (nI 30).toInt = 30 by decide) (fun v170 => ?_)
  refine sm_putR rfl rfl ?_
  refine sm_newI (by decide) (show (nI 30).toInt = 30 by decide) (fun v178 => ?_)
  refine sm_putR rfl rfl ?_
  refine sm_newI (by decide) (show (nI 31).toInt = 31 by decide) (fun v186 => ?_)
  refine sm_putR rfl rfl ?_
  refine sm_newI (by decide) (show (nI 24).toInt = 24 by decide) (fun v194 => ?_)
  refine sm_putR rfl rfl ?_
  refine sm_newI (by decide) (show (nI 30).toInt = 30 by decide) (fun v202 => ?_)
  refine sm_putR rfl rfl ?_
  refine sm_newI (by decide) (show (nI 24).toInt = 24 by decide) (fun v210 => ?_)
  refine sm_putR rfl rfl ?_
  refine sm_newI (by decide) (show (nI 30).toInt = 30 by decide) (fun v218 => ?_)
  refine sm_putR rfl rfl ?_
  refine sm_newI (by decide) (show (nI 625).toInt = 625 by decide) (fun v227 => ?_)
  refine sm_putR rfl rfl ?_
  refine sm_getA rfl (fun v233 => ?_)
  refine sm_astI (show (nI 3).toInt = 3 by decide) (show ((-1) : Int32).toInt = (-1) by decide) ?_
  refine sm_ex (fun n241 => ?_)
  refine smFX11_init_241 this hQj n241 _ _ (show (nI 0).toInt = 0 by decide)
theorem smFX1_four_3 (this : Nat) (p1 : Int32) {Qj : JP} {Qj' : MP} (hQj : SM Qj Qj') : ∀ n : Nat, ∀ (x0 : Int32) (X0 : Int), x0.toInt = X0 → SM (jit (FX1_four_3 this p1 Qj) (fun _ => jbot) n x0) (jit (GX1_four_3 this p1.toInt Qj') (fun _ => mbot) n X0) := by
  intro n
  induction n with
  | zero =>
    intro x2_3 x2_3' hx2_3
    exact SM.bot
  | succ n ih =>
    intro x2_3 x2_3' hx2_3
    subst hx2_3
    show SM (FX1_four_3 this p1 Qj (jit (FX1_four_3 this p1 Qj) (fun _ => jbot) n) x2_3) (GX1_four_3 this p1.toInt Qj' (jit (GX1_four_3 this p1.toInt Qj') (fun _ => mbot) n) x2_3.toInt)
    generalize jit (FX1_four_3 this p1 Qj) (fun _ => jbot) n = rec3 at ih ⊢
    generalize jit (GX1_four_3 this p1.toInt Qj') (fun _ => mbot) n = rec3' at ih ⊢
    have hrec3 := ih
    unfold FX1_four_3 GX1_four_3
    refine sm_if (cI_lt rfl (show (nI 0).toInt = 0 by decide)) ?_ ?_
    · exact hQj
    · refine sm_getA rfl (fun v8 => ?_)
      refine sm_getA rfl (fun v11 => ?_)
      refine sm_getA rfl (fun v15 => ?_)
      refine sm_getI rfl (fun v18 => ?_)
      refine sm_astB rfl (tc_i2b (tc_shr rfl rfl)) ?_
      refine sm_getA rfl (fun v27 => ?_)
      refine sm_getI rfl (fun v31 => ?_)
      refine sm_putI rfl (tc_add rfl (show (nI 1).toInt = 1 by decide)) ?_
      exact hrec3 _ _ (tc_add rfl (show ((-8) : Int32).toInt = (-8) by decide))
theorem sm_X1_four : ∀ (x0 : Nat), ∀ (x1 : Int32) (X1 : Int), x1.toInt = X1 → ∀ (x2 : JP) (X2 : MP), SM x2 X2 → SM (JX1_four x0 x1 x2) (MX1_four x0 X1 X2) := by
  intro this p1 p1' hp1 Qj Qj' hQj
  subst hp1
  unfold JX1_four MX1_four
  refine sm_ex (fun n3 => ?_)
  refine smFX1_four_3 this p1 hQj n3 _ _ (show (nI 24).toInt = 24 by decide)
theorem sm_X1_feed : ∀ (x0 : Nat), ∀ (x1 : Int32) (X1 : Int), x1.toInt = X1 → ∀ (x2 : Int32) (X2 : Int), x2.toInt = X2 → ∀ (x3 : Int32) (X3 : Int), x3.toInt = X3 → ∀ (x4 : Int32) (X4 : Int), x4.toInt = X4 → ∀ (x5 : Int32) (X5 : Int), x5.toInt = X5 → ∀ (x6 : Int32 → JP) (X6 : Int → MP), (∀ (x0 : Int32) (X0 : Int), x0.toInt = X0 → SM (x6 x0) (X6 X0)) → SM (JX1_feed x0 x1 x2 x3 x4 x5 x6) (MX1_feed x0 X1 X2 X3 X4 X5 X6) := by
  intro this p1 p1' hp1 p2 p2' hp2 p3 p3' hp3 p4 p4' hp4 p5 p5' hp5 Qj Qj' hQj
  subst hp1
  subst hp2
  subst hp3
  subst hp4
  subst hp5
  unfold JX1_feed MX1_feed
  refine sm_getA rfl (fun v1 => ?_)
  refine sm_getI rfl (fun v4 => ?_)
  refine sm_if (cI_le (tc_add rfl (show (nI 20).toInt = 20 by decide)) (show (nI 400).toInt = 400 by decide)) ?_ ?_
  · refine sm_obj ?_
    refine sm_X1_four this _ _ rfl _ _ ?_
    refine sm_obj ?_
    refine sm_X1_four this _ _ rfl _ _ ?_
    refine sm_obj ?_
    refine sm_X1_four this _ _ rfl _ _ ?_
    refine sm_obj ?_
    refine sm_X1_four this _ _ rfl _ _ ?_
    refine sm_obj ?_
    refine sm_X1_four this _ _ rfl _ _ ?_
    refine sm_getA rfl (fun v46 => ?_)
    refine sm_getI rfl (fun v49 => ?_)
    exact hQj _ _ rfl
  · exact hQj _ _ (show ((-1) : Int32).toInt = (-1) by decide)
theorem smFX11_feed_60 (this : Nat) {k106 : JP} {k106' : MP} (hk106 : SM k106 k106') : ∀ n : Nat, ∀ (x0 : Int32) (X0 : Int), x0.toInt = X0 → SM (jit (FX11_feed_60 this k106) (fun _ => jbot) n x0) (jit (GX11_feed_60 this k106') (fun _ => mbot) n X0) := by
  intro n
  induction n with
  | zero =>
    intro x6_60 x6_60' hx6_60
    exact SM.bot
  | succ n ih =>
    intro x6_60 x6_60' hx6_60
    subst hx6_60
    show SM (FX11_feed_60 this k106 (jit (FX11_feed_60 this k106) (fun _ => jbot) n) x6_60) (GX11_feed_60 this k106' (jit (GX11_feed_60 this k106') (fun _ => mbot) n) x6_60.toInt)
    generalize jit (FX11_feed_60 this k106) (fun _ => jbot) n = rec60 at ih ⊢
    generalize jit (GX11_feed_60 this k106') (fun _ => mbot) n = rec60' at ih ⊢
    have hrec60 := ih
    unfold FX11_feed_60 GX11_feed_60
    refine sm_if (cI_le (show (nI 20).toInt = 20 by decide) rfl) ?_ ?_
    · exact hk106
    · refine sm_getA rfl (fun v68 => ?_)
      refine sm_getI rfl (fun v72 => ?_)
      refine sm_getA rfl (fun v79 => ?_)
      refine sm_aldI (by decide) (tc_div rfl (show (nI 4).toInt = 4 by decide)) (fun v86 => ?_)
      refine sm_astB (tc_add rfl rfl) (tc_i2b (tc_shr rfl (tc_sub (show (nI 24).toInt = 24 by decide) (tc_mul (show (nI 8).toInt = 8 by decide) (tc_rem rfl (show (nI 4).toInt = 4 by decide)))))) ?_
      exact hrec60 _ _ (tc_add rfl (show (nI 1).toInt = 1 by decide))
theorem sm_X11_feed : ∀ (x0 : Nat), ∀ (x1 : Int32) (X1 : Int), x1.toInt = X1 → ∀ (x2 : Int32) (X2 : Int), x2.toInt = X2 → ∀ (x3 : Int32) (X3 : Int), x3.toInt = X3 → ∀ (x4 : Int32) (X4 : Int), x4.toInt = X4 → ∀ (x5 : Int32) (X5 : Int), x5.toInt = X5 → ∀ (x6 : Int32 → JP) (X6 : Int → MP), (∀ (x0 : Int32) (X0 : Int), x0.toInt = X0 → SM (x6 x0) (X6 X0)) → SM (JX11_feed x0 x1 x2 x3 x4 x5 x6) (MX11_feed x0 X1 X2 X3 X4 X5 X6) := by
  intro this p1 p1' hp1 p2 p2' hp2 p3 p3' hp3 p4 p4' hp4 p5 p5' hp5 Qj Qj' hQj
  subst hp1
  subst hp2
  subst hp3
  subst hp4
  subst hp5
  unfold JX11_feed MX11_feed
  refine sm_putI rfl (show (nI 0).toInt = 0 by decide) ?_
  refine sm_getI rfl (fun v6 => ?_)
  refine sm_if (cI_le (tc_add rfl (show (nI 20).toInt = 20 by decide)) (show (nI 400).toInt = 400 by decide)) ?_ ?_
  · refine sm_getA rfl (fun v21 => ?_)
    refine sm_astI (show (nI 0).toInt = 0 by decide) rfl ?_
    refine sm_getA rfl (fun v28 => ?_)
    refine sm_astI (show (nI 1).toInt = 1 by decide) rfl ?_
    refine sm_getA rfl (fun v35 => ?_)
    refine sm_astI (show (nI 2).toInt = 2 by decide) rfl ?_
    refine sm_getA rfl (fun v42 => ?_)
    refine sm_astI (show (nI 3).toInt = 3 by decide) rfl ?_
    refine sm_getA rfl (fun v50 => ?_)
    refine sm_astI (show (nI 4).toInt = 4 by decide) rfl ?_
    refine sm_ex (fun n60 => ?_)
    refine smFX11_feed_60 this ?_ n60 _ _ (show (nI 0).toInt = 0 by decide)
    · refine sm_getI rfl (fun v108 => ?_)
      refine sm_putI rfl (tc_add rfl (show (nI 20).toInt = 20 by decide)) ?_
      refine sm_getI rfl (fun v118 => ?_)
      exact hQj _ _ rfl
  · exact hQj _ _ (show ((-1) : Int32).toInt = (-1) by decide)
theorem sm_X1_isIn : ∀ (x0 : Int32) (X0 : Int), x0.toInt = X0 → ∀ (x1 : Int32) (X1 : Int), x1.toInt = X1 → ∀ (x2 : Int32) (X2 : Int), x2.toInt = X2 → ∀ (x3 : Int32 → JP) (X3 : Int → MP), (∀ (x0 : Int32) (X0 : Int), x0.toInt = X0 → SM (x3 x0) (X3 X0)) → SM (JX1_isIn x0 x1 x2 x3) (MX1_isIn X0 X1 X2 X3) := by
  intro p0 p0' hp0 p1 p1' hp1 p2 p2' hp2 Qj Qj' hQj
  subst hp0
  subst hp1
  subst hp2
  unfold JX1_isIn MX1_isIn
  refine sm_join (fun (k14 : JP) (k14' : MP) => SM k14 k14') ?_ (fun k14 k14' hk14 => ?_)
  · exact hQj _ _ (show (nI 0).toInt = 0 by decide)
  refine sm_if (cI_lt rfl rfl) ?_ ?_
  · exact hk14
  · refine sm_if (cI_lt rfl rfl) ?_ ?_
    · exact hk14
    · exact hQj _ _ (show (nI 1).toInt = 1 by decide)
theorem sm_X1_end : ∀ (x0 : Nat), ∀ (x1 : Int32) (X1 : Int), x1.toInt = X1 → ∀ (x2 : Int32 → JP) (X2 : Int → MP), (∀ (x0 : Int32) (X0 : Int), x0.toInt = X0 → SM (x2 x0) (X2 X0)) → SM (JX1_end x0 x1 x2) (MX1_end x0 X1 X2) := by
  intro this p1 p1' hp1 Qj Qj' hQj
  subst hp1
  unfold JX1_end MX1_end
  refine sm_getA rfl (fun v3 => ?_)
  refine sm_getI rfl (fun v6 => ?_)
  refine sm_X1_isIn _ _ rfl _ _ (show (nI 0).toInt = 0 by decide) _ _ rfl _ _ ?_
  intro v9 v9' hv9
  subst hv9
  refine sm_if (cI_eq rfl (show (nI 0).toInt = 0 by decide)) ?_ ?_
  · exact hQj _ _ (show (nI 0).toInt = 0 by decide)
  · refine sm_getA rfl (fun v18 => ?_)
    refine sm_putI rfl rfl ?_
    exact hQj _ _ (show (nI 1).toInt = 1 by decide)
theorem sm_X11_end : ∀ (x0 : Nat), ∀ (x1 : Int32) (X1 : Int), x1.toInt = X1 → ∀ (x2 : Int32 → JP) (X2 : Int → MP), (∀ (x0 : Int32) (X0 : Int), x0.toInt = X0 → SM (x2 x0) (X2 X0)) → SM (JX11_end x0 x1 x2) (MX11_end x0 X1 X2) := by
  intro this p1 p1' hp1 Qj Qj' hQj
  subst hp1
  unfold JX11_end MX11_end
  refine sm_putI rfl (show (nI 0).toInt = 0 by decide) ?_
  refine sm_if (cI_lt rfl (show (nI 0).toInt = 0 by decide)) ?_ ?_
  · exact hQj _ _ (show (nI 0).toInt = 0 by decide)
  · refine sm_getI rfl (fun v11 => ?_)
    refine sm_if (cI_le rfl rfl) ?_ ?_
    · refine sm_putI rfl rfl ?_
      exact hQj _ _ (show (nI 1).toInt = 1 by decide)
    · exact hQj _ _ (show (nI 0).toInt = 0 by decide)
theorem sm_X1_use : ∀ (x0 : Nat), ∀ (x1 : Int32 → JP) (X1 : Int → MP), (∀ (x0 : Int32) (X0 : Int), x0.toInt = X0 → SM (x1 x0) (X1 X0)) → SM (JX1_use x0 x1) (MX1_use x0 X1) := by
  intro this Qj Qj' hQj
  unfold JX1_use MX1_use
  refine sm_getA rfl (fun v1 => ?_)
  refine sm_getI rfl (fun v4 => ?_)
  refine sm_getA rfl (fun v9 => ?_)
  refine sm_putI rfl (show (nI 0).toInt = 0 by decide) ?_
  refine sm_putI rfl (show ((-1) : Int32).toInt = (-1) by decide) ?_
  exact hQj _ _ rfl
theorem smFX2_sign_0 (this : Nat) {k38 : JP} {k38' : MP} (hk38 : SM k38 k38') : ∀ n : Nat, SM (jit (FX2_sign_0 this k38) jbot n) (jit (GX2_sign_0 this k38') mbot n) := by
  intro n
  induction n with
  | zero =>
    exact SM.bot
  | succ n ih =>
    show SM (FX2_sign_0 this k38 (jit (FX2_sign_0 this k38) jbot n)) (GX2_sign_0 this k38' (jit (GX2_sign_0 this k38') mbot n))
    generalize jit (FX2_sign_0 this k38) jbot n = rec0 at ih ⊢
    generalize jit (GX2_sign_0 this k38') mbot n = rec0' at ih ⊢
    have hrec0 := ih
    unfold FX2_sign_0 GX2_sign_0
    refine sm_getI rfl (fun v1 => ?_)
    refine sm_getI rfl (fun v5 => ?_)
    refine sm_if (cI_le rfl rfl) ?_ ?_
    · exact hk38
    · refine sm_getA rfl (fun v12 => ?_)
      refine sm_getI rfl (fun v16 => ?_)
      refine sm_aldI (by decide) rfl (fun v19 => ?_)
      refine sm_if (cI_eq rfl (show (nI 32).toInt = 32 by decide)) ?_ ?_
      · refine sm_getI rfl (fun v27 => ?_)
        refine sm_putI rfl (tc_add rfl (show (nI 1).toInt = 1 by decide)) ?_
        exact hrec0
      · exact hk38
theorem sm_X2_sign : ∀ (x0 : Nat), ∀ (x1 : Int32 → JP) (X1 : Int → MP), (∀ (x0 : Int32) (X0 : Int), x0.toInt = X0 → SM (x1 x0) (X1 X0)) → SM (JX2_sign x0 x1) (MX2_sign x0 X1) := by
  intro this Qj Qj' hQj
  unfold JX2_sign MX2_sign
  refine sm_ex (fun n0 => ?_)
  refine smFX2_sign_0 this ?_ n0
  · refine sm_getI rfl (fun v39 => ?_)
    refine sm_getI rfl (fun v43 => ?_)
    refine sm_if (cI_le rfl rfl) ?_ ?_
    · exact hQj _ _ (show ((-1) : Int32).toInt = (-1) by decide)
    · refine sm_getA rfl (fun v50 => ?_)
      refine sm_getI rfl (fun v54 => ?_)
      refine sm_aldI (by decide) rfl (fun v57 => ?_)
      exact hQj _ _ (tc_and rfl (show (nI 255).toInt = 255 by decide))
theorem sm_X2_fail : ∀ (x0 : Nat), ∀ (x1 : Int32) (X1 : Int), x1.toInt = X1 → ∀ (x2 : Nat → Nat → JP) (X2 : Nat → Nat → MP), (∀ z q, SM (x2 z q) (X2 z q)) → ∀ (x3 : JP) (X3 : MP), SM x3 X3 → SM (JX2_fail x0 x1 x2 x3) (MX2_fail x0 X1 X2 X3) := by
  intro this p1 p1' hp1 Ex Ex' hEx Qj Qj' hQj
  subst hp1
  unfold JX2_fail MX2_fail
  refine sm_getA rfl (fun v1 => ?_)
  refine sm_putI rfl rfl ?_
  refine sm_getA rfl (fun v9 => ?_)
  exact sm_throwO hEx
theorem smFX2_takes_69 (sK : Nat → Nat) (this : Nat) (p1 : Nat) {k117 : Int32 → JP} {k117' : Int → MP} (hk117 : ∀ (x0 : Int32) (X0 : Int), x0.toInt = X0 → SM (k117 x0) (k117' X0)) : ∀ n : Nat, ∀ (x0 : Int32) (X0 : Int), x0.toInt = X0 → ∀ (x1 : Int32) (X1 : Int), x1.toInt = X1 → SM (jit (FX2_takes_69 sK this p1 k117) (fun _ _ => jbot) n x0 x1) (jit (GX2_takes_69 sK this p1 k117') (fun _ _ => mbot) n X0 X1) := by
  intro n
  induction n with
  | zero =>
    intro x4_69 x4_69' hx4_69 x5_69 x5_69' hx5_69
    exact SM.bot
  | succ n ih =>
    intro x4_69 x4_69' hx4_69 x5_69 x5_69' hx5_69
    subst hx4_69
    subst hx5_69
    show SM (FX2_takes_69 sK this p1 k117 (jit (FX2_takes_69 sK this p1 k117) (fun _ _ => jbot) n) x4_69 x5_69) (GX2_takes_69 sK this p1 k117' (jit (GX2_takes_69 sK this p1 k117') (fun _ _ => mbot) n) x4_69.toInt x5_69.toInt)
    generalize jit (FX2_takes_69 sK this p1 k117) (fun _ _ => jbot) n = rec69 at ih ⊢
    generalize jit (GX2_takes_69 sK this p1 k117') (fun _ _ => mbot) n = rec69' at ih ⊢
    have hrec69 := ih
    unfold FX2_takes_69 GX2_takes_69
    refine sm_sobj ?_
    refine sm_J3_length sK p1 _ _ ?_
    intro v72 v72' hv72
    subst hv72
    refine sm_if (cI_le rfl rfl) ?_ ?_
    · exact hk117 _ _ rfl
    · refine sm_if (cI_eq rfl (show (nI 0).toInt = 0 by decide)) ?_ ?_
      · exact hk117 _ _ rfl
      · refine sm_getA rfl (fun v84 => ?_)
        refine sm_getI rfl (fun v88 => ?_)
        refine sm_aldI (by decide) (tc_add rfl rfl) (fun v94 => ?_)
        refine sm_sobj ?_
        refine sm_J3_charAt sK p1 _ _ rfl _ _ ?_
        intro v98 v98' hv98
        subst hv98
        refine sm_join (fun (k109 : Int32 → JP) (k109' : Int → MP) => ∀ (x0 : Int32) (X0 : Int), x0.toInt = X0 → SM (k109 x0) (k109' X0)) ?_ (fun k109 k109' hk109 => ?_)
        · intro s0_109 s0_109' hs0_109
          subst hs0_109
          exact hrec69 _ _ rfl _ _ (tc_add rfl (show (nI 1).toInt = 1 by decide))
        refine sm_if (cI_eq rfl rfl) ?_ ?_
        · exact hk109 _ _ (show (nI 1).toInt = 1 by decide)
        · exact hk109 _ _ (show (nI 0).toInt = 0 by decide)
theorem smFX2_takes_10 (this : Nat) {k46 : Int32 → JP} {k46' : Int → MP} (hk46 : ∀ (x0 : Int32) (X0 : Int), x0.toInt = X0 → SM (k46 x0) (k46' X0)) : ∀ n : Nat, ∀ (x0 : Int32) (X0 : Int), x0.toInt = X0 → SM (jit (FX2_takes_10 this k46) (fun _ => jbot) n x0) (jit (GX2_takes_10 this k46') (fun _ => mbot) n X0) := by
  intro n
  induction n with
  | zero =>
    intro x3_10 x3_10' hx3_10
    exact SM.bot
  | succ n ih =>
    intro x3_10 x3_10' hx3_10
    subst hx3_10
    show SM (FX2_takes_10 this k46 (jit (FX2_takes_10 this k46) (fun _ => jbot) n) x3_10) (GX2_takes_10 this k46' (jit (GX2_takes_10 this k46') (fun _ => mbot) n) x3_10.toInt)
    generalize jit (FX2_takes_10 this k46) (fun _ => jbot) n = rec10 at ih ⊢
    generalize jit (GX2_takes_10 this k46') (fun _ => mbot) n = rec10' at ih ⊢
    have hrec10 := ih
    unfold FX2_takes_10 GX2_takes_10
    refine sm_getI rfl (fun v12 => ?_)
    refine sm_if (cI_le rfl rfl) ?_ ?_
    · exact hk46 _ _ rfl
    · refine sm_getA rfl (fun v19 => ?_)
      refine sm_aldI (by decide) rfl (fun v23 => ?_)
      refine sm_if (cI_lt rfl (show (nI 97).toInt = 97 by decide)) ?_ ?_
      · exact hk46 _ _ rfl
      · refine sm_getA rfl (fun v30 => ?_)
        refine sm_aldI (by decide) rfl (fun v34 => ?_)
        refine sm_if (cI_lt (show (nI 122).toInt = 122 by decide) rfl) ?_ ?_
        · exact hk46 _ _ rfl
        · exact hrec10 _ _ (tc_add rfl (show (nI 1).toInt = 1 by decide))
theorem sm_X2_takes (sK : Nat → Nat) : ∀ (x0 : Nat), ∀ (x1 : Nat), ∀ (x2 : Int32 → JP) (X2 : Int → MP), (∀ (x0 : Int32) (X0 : Int), x0.toInt = X0 → SM (x2 x0) (X2 X0)) → SM ((JX2_takes sK) x0 x1 x2) ((MX2_takes sK) x0 x1 X2) := by
  intro this p1 Qj Qj' hQj
  unfold JX2_takes MX2_takes
  refine sm_obj ?_
  refine sm_X2_sign this _ _ ?_
  intro v1 v1' hv1
  subst hv1
  refine sm_getI rfl (fun v6 => ?_)
  refine sm_ex (fun n10 => ?_)
  refine smFX2_takes_10 this ?_ n10 _ _ rfl
  · intro y3_46 y3_46' hy3_46
    subst hy3_46
    refine sm_getI rfl (fun v48 => ?_)
    refine sm_sobj ?_
    refine sm_J3_length sK p1 _ _ ?_
    intro v53 v53' hv53
    subst hv53
    refine sm_join (fun (k64 : Int32 → JP) (k64' : Int → MP) => ∀ (x0 : Int32) (X0 : Int), x0.toInt = X0 → SM (k64 x0) (k64' X0)) ?_ (fun k64 k64' hk64 => ?_)
    · intro s0_64 s0_64' hs0_64
      subst hs0_64
      refine sm_ex (fun n69 => ?_)
      refine smFX2_takes_69 sK this p1 ?_ n69 _ _ rfl _ _ (show (nI 0).toInt = 0 by decide)
      · intro y4_117 y4_117' hy4_117
        subst hy4_117
        refine sm_if (cI_eq rfl (show (nI 0).toInt = 0 by decide)) ?_ ?_
        · refine sm_and (fun h => h.imp (cI_eq rfl (show (nI 0).toInt = 0 by decide)).mpr (cI_eq rfl (show (nI 1).toInt = 1 by decide)).mpr) ?_
          exact hQj _ _ rfl
        · refine sm_putI rfl rfl ?_
          refine sm_and (fun h => h.imp (cI_eq rfl (show (nI 0).toInt = 0 by decide)).mpr (cI_eq rfl (show (nI 1).toInt = 1 by decide)).mpr) ?_
          exact hQj _ _ rfl
    refine sm_if (cI_eq (tc_sub rfl rfl) rfl) ?_ ?_
    · exact hk64 _ _ (show (nI 1).toInt = 1 by decide)
    · exact hk64 _ _ (show (nI 0).toInt = 0 by decide)
theorem smFX2_number_14 (this : Nat) {Ex : Nat → Nat → JP} {Ex' : Nat → Nat → MP} (hEx : ∀ z q, SM (Ex z q) (Ex' z q)) (v6 : Int32) {k103 : Int32 → JP} {k103' : Int → MP} (hk103 : ∀ (x0 : Int32) (X0 : Int), x0.toInt = X0 → SM (k103 x0) (k103' X0)) : ∀ n : Nat, ∀ (x0 : Int32) (X0 : Int), x0.toInt = X0 → SM (jit (FX2_number_14 this Ex v6 k103) (fun _ => jbot) n x0) (jit (GX2_number_14 this Ex' v6.toInt k103') (fun _ => mbot) n X0) := by
  intro n
  induction n with
  | zero =>
    intro x5_14 x5_14' hx5_14
    exact SM.bot
  | succ n ih =>
    intro x5_14 x5_14' hx5_14
    subst hx5_14
    show SM (FX2_number_14 this Ex v6 k103 (jit (FX2_number_14 this Ex v6 k103) (fun _ => jbot) n) x5_14) (GX2_number_14 this Ex' v6.toInt k103' (jit (GX2_number_14 this Ex' v6.toInt k103') (fun _ => mbot) n) x5_14.toInt)
    generalize jit (FX2_number_14 this Ex v6 k103) (fun _ => jbot) n = rec14 at ih ⊢
    generalize jit (GX2_number_14 this Ex' v6.toInt k103') (fun _ => mbot) n = rec14' at ih ⊢
    have hrec14 := ih
    unfold FX2_number_14 GX2_number_14
    refine sm_getI rfl (fun v15 => ?_)
    refine sm_getI rfl (fun v19 => ?_)
    refine sm_if (cI_le rfl rfl) ?_ ?_
    · exact hk103 _ _ rfl
    · refine sm_getA rfl (fun v26 => ?_)
      refine sm_getI rfl (fun v30 => ?_)
      refine sm_aldI (by decide) rfl (fun v33 => ?_)
      refine sm_if (cI_lt rfl (show (nI 48).toInt = 48 by decide)) ?_ ?_
      · exact hk103 _ _ rfl
      · refine sm_getA rfl (fun v40 => ?_)
        refine sm_getI rfl (fun v44 => ?_)
        refine sm_aldI (by decide) rfl (fun v47 => ?_)
        refine sm_if (cI_lt (show (nI 57).toInt = 57 by decide) rfl) ?_ ?_
        · exact hk103 _ _ rfl
        · refine sm_getI rfl (fun v54 => ?_)
          refine sm_join (fun (k70 : JP) (k70' : MP) => SM k70 k70') ?_ (fun k70 k70' hk70 => ?_)
          · refine sm_getA rfl (fun v76 => ?_)
            refine sm_getI rfl (fun v80 => ?_)
            refine sm_aldI (by decide) rfl (fun v83 => ?_)
            refine sm_getI rfl (fun v92 => ?_)
            refine sm_putI rfl (tc_add rfl (show (nI 1).toInt = 1 by decide)) ?_
            exact hrec14 _ _ (tc_sub (tc_add (tc_mul (show (nI 10).toInt = 10 by decide) rfl) rfl) (show (nI 48).toInt = 48 by decide))
          refine sm_if (cI_eq (tc_sub rfl rfl) (show (nI 3).toInt = 3 by decide)) ?_ ?_
          · refine sm_obj ?_
            exact sm_X2_fail this _ _ rfl _ _ hEx _ _ hk70
          · exact hk70
theorem sm_X2_number : ∀ (x0 : Nat), ∀ (x1 : Int32) (X1 : Int), x1.toInt = X1 → ∀ (x2 : Int32) (X2 : Int), x2.toInt = X2 → ∀ (x3 : Nat → Nat → JP) (X3 : Nat → Nat → MP), (∀ z q, SM (x3 z q) (X3 z q)) → ∀ (x4 : Int32 → JP) (X4 : Int → MP), (∀ (x0 : Int32) (X0 : Int), x0.toInt = X0 → SM (x4 x0) (X4 X0)) → SM (JX2_number x0 x1 x2 x3 x4) (MX2_number x0 X1 X2 X3 X4) := by
  intro this p1 p1' hp1 p2 p2' hp2 Ex Ex' hEx Qj Qj' hQj
  subst hp1
  subst hp2
  unfold JX2_number MX2_number
  refine sm_obj ?_
  refine sm_X2_sign this _ _ ?_
  intro v1 v1' hv1
  subst hv1
  refine sm_getI rfl (fun v6 => ?_)
  refine sm_ex (fun n14 => ?_)
  refine smFX2_number_14 this hEx v6 ?_ n14 _ _ (show (nI 0).toInt = 0 by decide)
  · intro y5_103 y5_103' hy5_103
    subst hy5_103
    refine sm_getI rfl (fun v104 => ?_)
    refine sm_join (fun (k124 : JP) (k124' : MP) => SM k124 k124') ?_ (fun k124 k124' hk124 => ?_)
    · refine sm_obj ?_
      refine sm_X2_fail this _ _ rfl _ _ hEx _ _ ?_
      exact hQj _ _ rfl
    refine sm_if (cI_eq rfl rfl) ?_ ?_
    · exact hk124
    · refine sm_if (cI_lt rfl rfl) ?_ ?_
      · exact hk124
      · refine sm_if (cI_le rfl rfl) ?_ ?_
        · exact hQj _ _ rfl
        · exact hk124
theorem sm_X13_init : ∀ (x0 : Nat), ∀ (x1 : Int32) (X1 : Int), x1.toInt = X1 → ∀ (x2 : JP) (X2 : MP), SM x2 X2 → SM (JX13_init x0 x1 x2) (MX13_init x0 X1 X2) := by
  intro this p1 p1' hp1 Qj Qj' hQj
  subst hp1
  unfold JX13_init MX13_init
  refine sm_X3_init this _ _ ?_
  refine sm_putI rfl rfl ?_
  exact hQj
theorem sm_X14_init : ∀ (x0 : Nat), ∀ (x1 : Int32) (X1 : Int), x1.toInt = X1 → ∀ (x2 : JP) (X2 : MP), SM x2 X2 → SM (JX14_init x0 x1 x2) (MX14_init x0 X1 X2) := by
  intro this p1 p1' hp1 Qj Qj' hQj
  subst hp1
  unfold JX14_init MX14_init
  refine sm_X3_init this _ _ ?_
  refine sm_putI rfl rfl ?_
  exact hQj
theorem sm_X15_init : ∀ (x0 : Nat), ∀ (x1 : Int32) (X1 : Int), x1.toInt = X1 → ∀ (x2 : JP) (X2 : MP), SM x2 X2 → SM (JX15_init x0 x1 x2) (MX15_init x0 X1 X2) := by
  intro this p1 p1' hp1 Qj Qj' hQj
  subst hp1
  unfold JX15_init MX15_init
  refine sm_X3_init this _ _ ?_
  refine sm_putI rfl rfl ?_
  exact hQj
theorem sm_X2_going (sK : Nat → Nat) : ∀ (x0 : Nat), ∀ (x1 : Nat), ∀ (x2 : Nat), ∀ (x3 : Nat → Nat → JP) (X3 : Nat → Nat → MP), (∀ z q, SM (x3 z q) (X3 z q)) → ∀ (x4 : Nat → JP) (X4 : Nat → MP), (∀ (x0 : Nat), SM (x4 x0) (X4 x0)) → SM ((JX2_going sK) x0 x1 x2 x3 x4) ((MX2_going sK) x0 x1 x2 X3 X4) := by
  intro bc bs this Ex Ex' hEx Qj Qj' hQj
  unfold JX2_going MX2_going
  refine sm_obj ?_
  refine sm_X2_takes sK this (sK 4) _ _ ?_
  intro v3 v3' hv3
  subst hv3
  refine sm_if (cI_eq rfl (show (nI 0).toInt = 0 by decide)) ?_ ?_
  · refine sm_obj ?_
    refine sm_X2_takes sK this (sK 5) _ _ ?_
    intro v26 v26' hv26
    subst hv26
    refine sm_if (cI_eq rfl (show (nI 0).toInt = 0 by decide)) ?_ ?_
    · refine sm_obj ?_
      refine sm_X2_takes sK this (sK 6) _ _ ?_
      intro v49 v49' hv49
      subst hv49
      refine sm_if (cI_eq rfl (show (nI 0).toInt = 0 by decide)) ?_ ?_
      · refine sm_obj ?_
        refine sm_X2_takes sK this (sK 7) _ _ ?_
        intro v72 v72' hv72
        subst hv72
        refine sm_if (cI_eq rfl (show (nI 0).toInt = 0 by decide)) ?_ ?_
        · refine sm_obj ?_
          refine sm_X2_takes sK this (sK 8) _ _ ?_
          intro v86 v86' hv86
          subst hv86
          refine sm_join (fun (k100 : JP) (k100' : MP) => SM k100 k100') ?_ (fun k100 k100' hk100 => ?_)
          · refine sm_getA rfl (fun v101 => ?_)
            exact hQj v101
          refine sm_if (cI_eq rfl (show (nI 0).toInt = 0 by decide)) ?_ ?_
          · refine sm_getI rfl (fun v94 => ?_)
            refine sm_obj ?_
            exact sm_X2_fail this _ _ rfl _ _ hEx _ _ hk100
          · exact hk100
        · refine sm_getA rfl (fun v79 => ?_)
          exact hQj v79
      · refine sm_new rfl rfl (fun v55 => ?_)
        refine sm_obj ?_
        refine sm_X2_number this _ _ (show (nI 1).toInt = 1 by decide) _ _ (show (nI 5).toInt = 5 by decide) _ _ hEx _ _ ?_
        intro v62 v62' hv62
        subst hv62
        refine sm_X15_init v55 _ _ rfl _ _ ?_
        exact hQj v55
    · refine sm_new rfl rfl (fun v32 => ?_)
      refine sm_obj ?_
      refine sm_X2_number this _ _ (show (nI 1).toInt = 1 by decide) _ _ (show (nI 5).toInt = 5 by decide) _ _ hEx _ _ ?_
      intro v39 v39' hv39
      subst hv39
      refine sm_X14_init v32 _ _ rfl _ _ ?_
      exact hQj v32
  · refine sm_new rfl rfl (fun v9 => ?_)
    refine sm_obj ?_
    refine sm_X2_number this _ _ (show (nI 1).toInt = 1 by decide) _ _ (show (nI 5).toInt = 5 by decide) _ _ hEx _ _ ?_
    intro v16 v16' hv16
    subst hv16
    refine sm_X13_init v9 _ _ rfl _ _ ?_
    exact hQj v9
theorem smFX2_fact_2 (sK : Nat → Nat) (this : Nat) {Qj : Int32 → JP} {Qj' : Int → MP} (hQj : ∀ (x0 : Int32) (X0 : Int), x0.toInt = X0 → SM (Qj x0) (Qj' X0)) {k28 : JP} {k28' : MP} (hk28 : SM k28 k28') : ∀ n : Nat, ∀ (x0 : Int32) (X0 : Int), x0.toInt = X0 → SM (jit (FX2_fact_2 sK this Qj k28) (fun _ => jbot) n x0) (jit (GX2_fact_2 sK this Qj' k28') (fun _ => mbot) n X0) := by
  intro n
  induction n with
  | zero =>
    intro x1_2 x1_2' hx1_2
    exact SM.bot
  | succ n ih =>
    intro x1_2 x1_2' hx1_2
    subst hx1_2
    show SM (FX2_fact_2 sK this Qj k28 (jit (FX2_fact_2 sK this Qj k28) (fun _ => jbot) n) x1_2) (GX2_fact_2 sK this Qj' k28' (jit (GX2_fact_2 sK this Qj' k28') (fun _ => mbot) n) x1_2.toInt)
    generalize jit (FX2_fact_2 sK this Qj k28) (fun _ => jbot) n = rec2 at ih ⊢
    generalize jit (GX2_fact_2 sK this Qj' k28') (fun _ => mbot) n = rec2' at ih ⊢
    have hrec2 := ih
    unfold FX2_fact_2 GX2_fact_2
    refine sm_if (cI_le (show (nI 4).toInt = 4 by decide) rfl) ?_ ?_
    · exact hk28
    · refine sm_getA rfl (fun v9 => ?_)
      refine sm_aldA (by decide) rfl (fun v13 => ?_)
      refine sm_obj ?_
      refine sm_X2_takes sK this v13 _ _ ?_
      intro v14 v14' hv14
      subst hv14
      refine sm_if (cI_eq rfl (show (nI 0).toInt = 0 by decide)) ?_ ?_
      · exact hrec2 _ _ (tc_add rfl (show (nI 1).toInt = 1 by decide))
      · exact hQj _ _ rfl
theorem sm_X2_fact (sK : Nat → Nat) : ∀ (x0 : Nat), ∀ (x1 : Nat → Nat → JP) (X1 : Nat → Nat → MP), (∀ z q, SM (x1 z q) (X1 z q)) → ∀ (x2 : Int32 → JP) (X2 : Int → MP), (∀ (x0 : Int32) (X0 : Int), x0.toInt = X0 → SM (x2 x0) (X2 X0)) → SM ((JX2_fact sK) x0 x1 x2) ((MX2_fact sK) x0 X1 X2) := by
  intro this Ex Ex' hEx Qj Qj' hQj
  unfold JX2_fact MX2_fact
  refine sm_ex (fun n2 => ?_)
  refine smFX2_fact_2 sK this hQj ?_ n2 _ _ (show (nI 0).toInt = 0 by decide)
  · refine sm_getI rfl (fun v30 => ?_)
    refine sm_obj ?_
    refine sm_X2_fail this _ _ rfl _ _ hEx _ _ ?_
    exact hQj _ _ (show ((-1) : Int32).toInt = (-1) by decide)
theorem sm_X18_init : ∀ (x0 : Nat), ∀ (x1 : Int32) (X1 : Int), x1.toInt = X1 → ∀ (x2 : JP) (X2 : MP), SM x2 X2 → SM (JX18_init x0 x1 x2) (MX18_init x0 X1 X2) := by
  intro this p1 p1' hp1 Qj Qj' hQj
  subst hp1
  unfold JX18_init MX18_init
  refine sm_putI rfl rfl ?_
  exact hQj
theorem sm_X19_init : ∀ (x0 : Nat), ∀ (x1 : Nat), ∀ (x2 : Nat), ∀ (x3 : JP) (X3 : MP), SM x3 X3 → SM (JX19_init x0 x1 x2 x3) (MX19_init x0 x1 x2 X3) := by
  intro bc bs this Qj Qj' hQj
  unfold JX19_init MX19_init
  refine sm_newI (by decide) (show (nI 4).toInt = 4 by decide) (fun v6 => ?_)
  refine sm_putR rfl rfl ?_
  exact hQj
theorem sm_X2_part (sK : Nat → Nat) : ∀ (x0 : Nat), ∀ (x1 : Nat), ∀ (x2 : Nat → Nat → JP) (X2 : Nat → Nat → MP), (∀ z q, SM (x2 z q) (X2 z q)) → ∀ (x3 : JP) (X3 : MP), SM x3 X3 → SM ((JX2_part sK) x0 x1 x2 x3) ((MX2_part sK) x0 x1 X2 X3) := by
  intro this p1 Ex Ex' hEx Qj Qj' hQj
  unfold JX2_part MX2_part
  refine sm_obj ?_
  refine sm_X2_sign this _ _ ?_
  intro v1 v1' hv1
  subst hv1
  refine sm_join (fun (k37 : JP) (k37' : MP) => SM k37 k37') ?_ (fun k37 k37' hk37 => ?_)
  · refine sm_getA rfl (fun v38 => ?_)
    refine sm_obj ?_
    refine sm_X2_fact sK this _ _ hEx _ _ ?_
    intro v42 v42' hv42
    subst hv42
    refine sm_aldI (by decide) rfl (fun v46 => ?_)
    refine sm_astI rfl (tc_add rfl (show (nI 1).toInt = 1 by decide)) ?_
    exact hQj
  refine sm_if (cI_lt rfl (show (nI 48).toInt = 48 by decide)) ?_ ?_
  · exact hk37
  · refine sm_if (cI_lt (show (nI 57).toInt = 57 by decide) rfl) ?_ ?_
    · exact hk37
    · refine sm_getI rfl (fun v19 => ?_)
      refine sm_obj ?_
      refine sm_X2_number this _ _ (show (nI 0).toInt = 0 by decide) _ _ (show (nI 999).toInt = 999 by decide) _ _ hEx _ _ ?_
      intro v27 v27' hv27
      subst hv27
      refine sm_putI rfl (tc_add rfl rfl) ?_
      exact hQj
theorem smFX2_sum_13 (sK : Nat → Nat) (this : Nat) {Ex : Nat → Nat → JP} {Ex' : Nat → Nat → MP} (hEx : ∀ z q, SM (Ex z q) (Ex' z q)) {Qj : Nat → JP} {Qj' : Nat → MP} (hQj : ∀ (x0 : Nat), SM (Qj x0) (Qj' x0)) (v0 : Nat) : ∀ n : Nat, SM (jit (FX2_sum_13 sK this Ex Qj v0) jbot n) (jit (GX2_sum_13 sK this Ex' Qj' v0) mbot n) := by
  intro n
  induction n with
  | zero =>
    exact SM.bot
  | succ n ih =>
    show SM (FX2_sum_13 sK this Ex Qj v0 (jit (FX2_sum_13 sK this Ex Qj v0) jbot n)) (GX2_sum_13 sK this Ex' Qj' v0 (jit (GX2_sum_13 sK this Ex' Qj' v0) mbot n))
    generalize jit (FX2_sum_13 sK this Ex Qj v0) jbot n = rec13 at ih ⊢
    generalize jit (GX2_sum_13 sK this Ex' Qj' v0) mbot n = rec13' at ih ⊢
    have hrec13 := ih
    unfold FX2_sum_13 GX2_sum_13
    refine sm_obj ?_
    refine sm_X2_sign this _ _ ?_
    intro v14 v14' hv14
    subst hv14
    refine sm_if (cI_eq rfl (show (nI 43).toInt = 43 by decide)) ?_ ?_
    · refine sm_getI rfl (fun v24 => ?_)
      refine sm_putI rfl (tc_add rfl (show (nI 1).toInt = 1 by decide)) ?_
      refine sm_obj ?_
      exact sm_X2_part sK this v0 _ _ hEx _ _ hrec13
    · exact hQj v0
theorem sm_X2_sum (sK : Nat → Nat) : ∀ (x0 : Nat), ∀ (x1 : Nat), ∀ (x2 : Nat), ∀ (x3 : Nat → Nat → JP) (X3 : Nat → Nat → MP), (∀ z q, SM (x3 z q) (X3 z q)) → ∀ (x4 : Nat → JP) (X4 : Nat → MP), (∀ (x0 : Nat), SM (x4 x0) (X4 x0)) → SM ((JX2_sum sK) x0 x1 x2 x3 x4) ((MX2_sum sK) x0 x1 x2 X3 X4) := by
  intro bc bs this Ex Ex' hEx Qj Qj' hQj
  unfold JX2_sum MX2_sum
  refine sm_new rfl rfl (fun v0 => ?_)
  refine sm_bud (fun mc4 ms4 => ?_)
  refine sm_X19_init mc4 ms4 v0 _ _ ?_
  refine sm_obj ?_
  refine sm_X2_part sK this v0 _ _ hEx _ _ ?_
  refine sm_ex (fun n13 => ?_)
  refine smFX2_sum_13 sK this hEx hQj v0 n13
theorem sm_X20_init : ∀ (x0 : Nat), ∀ (x1 : Nat), ∀ (x2 : Nat), ∀ (x3 : JP) (X3 : MP), SM x3 X3 → SM (JX20_init x0 x1 x2 x3) (MX20_init x0 x1 x2 X3) := by
  intro this p1 p2 Qj Qj' hQj
  unfold JX20_init MX20_init
  refine sm_putR rfl rfl ?_
  refine sm_putR rfl rfl ?_
  exact hQj
theorem sm_X2_tag (sK : Nat → Nat) : ∀ (x0 : Nat), ∀ (x1 : Nat), ∀ (x2 : Nat), ∀ (x3 : Nat → Nat → JP) (X3 : Nat → Nat → MP), (∀ z q, SM (x3 z q) (X3 z q)) → ∀ (x4 : Nat → JP) (X4 : Nat → MP), (∀ (x0 : Nat), SM (x4 x0) (X4 x0)) → SM ((JX2_tag sK) x0 x1 x2 x3 x4) ((MX2_tag sK) x0 x1 x2 X3 X4) := by
  intro bc bs this Ex Ex' hEx Qj Qj' hQj
  unfold JX2_tag MX2_tag
  refine sm_obj ?_
  refine sm_X2_takes sK this (sK 14) _ _ ?_
  intro v3 v3' hv3
  subst hv3
  refine sm_if (cI_eq rfl (show (nI 0).toInt = 0 by decide)) ?_ ?_
  · refine sm_obj ?_
    refine sm_X2_takes sK this (sK 15) _ _ ?_
    intro v21 v21' hv21
    subst hv21
    refine sm_if (cI_eq rfl (show (nI 0).toInt = 0 by decide)) ?_ ?_
    · refine sm_bud (fun mc37 ms37 => ?_)
      refine sm_obj ?_
      refine sm_X2_sum sK mc37 ms37 this _ _ hEx _ _ ?_
      intro v37
      refine sm_obj ?_
      refine sm_X2_sign this _ _ ?_
      intro v42 v42' hv42
      subst hv42
      refine sm_join (fun (k66 : JP) (k66' : MP) => SM k66 k66') ?_ (fun k66 k66' hk66 => ?_)
      · refine sm_getI rfl (fun v68 => ?_)
        refine sm_putI rfl (tc_add rfl (show (nI 1).toInt = 1 by decide)) ?_
        refine sm_bud (fun mc77 ms77 => ?_)
        refine sm_obj ?_
        refine sm_X2_sum sK mc77 ms77 this _ _ hEx _ _ ?_
        intro v77
        refine sm_if (cI_eq rfl (show (nI 60).toInt = 60 by decide)) ?_ ?_
        · refine sm_new rfl rfl (fun v87 => ?_)
          refine sm_X20_init v87 v37 v77 _ _ ?_
          exact hQj v87
        · refine sm_new rfl rfl (fun v99 => ?_)
          refine sm_X20_init v99 v77 v37 _ _ ?_
          exact hQj v99
      refine sm_if (cI_eq rfl (show (nI 60).toInt = 60 by decide)) ?_ ?_
      · exact hk66
      · refine sm_if (cI_eq rfl (show (nI 62).toInt = 62 by decide)) ?_ ?_
        · exact hk66
        · refine sm_getI rfl (fun v60 => ?_)
          refine sm_obj ?_
          exact sm_X2_fail this _ _ rfl _ _ hEx _ _ hk66
    · refine sm_new rfl rfl (fun v27 => ?_)
      refine sm_X18_init v27 _ _ (show (nI 5).toInt = 5 by decide) _ _ ?_
      exact hQj v27
  · refine sm_new rfl rfl (fun v9 => ?_)
    refine sm_X18_init v9 _ _ (show (nI 4).toInt = 4 by decide) _ _ ?_
    exact hQj v9
theorem sm_X21_init : ∀ (x0 : Nat), ∀ (x1 : Nat), ∀ (x2 : JP) (X2 : MP), SM x2 X2 → SM (JX21_init x0 x1 x2) (MX21_init x0 x1 X2) := by
  intro this p1 Qj Qj' hQj
  unfold JX21_init MX21_init
  refine sm_putR rfl rfl ?_
  exact hQj
theorem sm_X17_init : ∀ (x0 : Nat), ∀ (x1 : Nat), ∀ (x2 : Int32) (X2 : Int), x2.toInt = X2 → ∀ (x3 : JP) (X3 : MP), SM x3 X3 → SM (JX17_init x0 x1 x2 x3) (MX17_init x0 x1 X2 X3) := by
  intro this p1 p2 p2' hp2 Qj Qj' hQj
  subst hp2
  unfold JX17_init MX17_init
  refine sm_putR rfl rfl ?_
  refine sm_putZ rfl rfl ?_
  exact hQj
theorem sm_X2_atomF (sK : Nat → Nat) {rJX2_atom : Nat → Nat → Nat → (Nat → Nat → JP) → (Nat → JP) → JP} {rJX2_atom' : Nat → Nat → Nat → (Nat → Nat → MP) → (Nat → MP) → MP} (hrJX2_atom : ∀ (x0 : Nat), ∀ (x1 : Nat), ∀ (x2 : Nat), ∀ (x3 : Nat → Nat → JP) (X3 : Nat → Nat → MP), (∀ z q, SM (x3 z q) (X3 z q)) → ∀ (x4 : Nat → JP) (X4 : Nat → MP), (∀ (x0 : Nat), SM (x4 x0) (X4 x0)) → SM (rJX2_atom x0 x1 x2 x3 x4) (rJX2_atom' x0 x1 x2 X3 X4)) {rJX2_row : Nat → Nat → Nat → Int32 → (Nat → Nat → JP) → (Nat → JP) → JP} {rJX2_row' : Nat → Nat → Nat → Int → (Nat → Nat → MP) → (Nat → MP) → MP} (hrJX2_row : ∀ (x0 : Nat), ∀ (x1 : Nat), ∀ (x2 : Nat), ∀ (x3 : Int32) (X3 : Int), x3.toInt = X3 → ∀ (x4 : Nat → Nat → JP) (X4 : Nat → Nat → MP), (∀ z q, SM (x4 z q) (X4 z q)) → ∀ (x5 : Nat → JP) (X5 : Nat → MP), (∀ (x0 : Nat), SM (x5 x0) (X5 x0)) → SM (rJX2_row x0 x1 x2 x3 x4 x5) (rJX2_row' x0 x1 x2 X3 X4 X5)) : ∀ (x0 : Nat), ∀ (x1 : Nat), ∀ (x2 : Nat), ∀ (x3 : Nat → Nat → JP) (X3 : Nat → Nat → MP), (∀ z q, SM (x3 z q) (X3 z q)) → ∀ (x4 : Nat → JP) (X4 : Nat → MP), (∀ (x0 : Nat), SM (x4 x0) (X4 x0)) → SM ((JX2_atomF sK rJX2_atom rJX2_row) x0 x1 x2 x3 x4) ((MX2_atomF sK rJX2_atom' rJX2_row') x0 x1 x2 X3 X4) := by
  intro bc bs this Ex Ex' hEx Qj Qj' hQj
  unfold JX2_atomF MX2_atomF
  refine sm_obj ?_
  refine sm_X2_sign this _ _ ?_
  intro v1 v1' hv1
  subst hv1
  refine sm_getI rfl (fun v6 => ?_)
  refine sm_obj ?_
  refine sm_X2_takes sK this (sK 13) _ _ ?_
  intro v13 v13' hv13
  subst hv13
  refine sm_join (fun (k32 : JP) (k32' : MP) => SM k32 k32') ?_ (fun k32 k32' hk32 => ?_)
  · refine sm_getI rfl (fun v33 => ?_)
    refine sm_join (fun (k46 : JP) (k46' : MP) => SM k46 k46') ?_ (fun k46 k46' hk46 => ?_)
    · refine sm_getI rfl (fun v48 => ?_)
      refine sm_putI rfl (tc_add rfl (show (nI 1).toInt = 1 by decide)) ?_
      refine sm_join (fun (k120 : Nat → Nat → Nat → JP) (k120' : Nat → Nat → Nat → MP) => ∀ (x0 : Nat), ∀ (x1 : Nat), ∀ (x2 : Nat), SM (k120 x0 x1 x2) (k120' x0 x1 x2)) ?_ (fun k120 k120' hk120 => ?_)
      · intro x4_120 bc_120 bs_120
        refine sm_getI rfl (fun v122 => ?_)
        refine sm_putI rfl (tc_sub rfl (show (nI 1).toInt = 1 by decide)) ?_
        exact hQj x4_120
      refine sm_if (cI_eq rfl (show (nI 0).toInt = 0 by decide)) ?_ ?_
      · refine sm_getI rfl (fun v78 => ?_)
        refine sm_putI rfl (tc_add rfl (show (nI 1).toInt = 1 by decide)) ?_
        refine sm_bud (fun mc88 ms88 => ?_)
        refine sm_obj ?_
        refine hrJX2_row mc88 ms88 this _ _ (show (nI 0).toInt = 0 by decide) _ _ hEx _ _ ?_
        intro v88
        refine sm_obj ?_
        refine sm_X2_sign this _ _ ?_
        intro v94 v94' hv94
        subst hv94
        refine sm_join (fun (k110 : JP) (k110' : MP) => SM k110 k110') ?_ (fun k110 k110' hk110 => ?_)
        · refine sm_getI rfl (fun v112 => ?_)
          refine sm_putI rfl (tc_add rfl (show (nI 1).toInt = 1 by decide)) ?_
          exact hk120 v88 (bc - mc88) (bs - ms88)
        refine sm_if (cI_eq rfl (show (nI 41).toInt = 41 by decide)) ?_ ?_
        · exact hk110
        · refine sm_getI rfl (fun v104 => ?_)
          refine sm_obj ?_
          exact sm_X2_fail this _ _ rfl _ _ hEx _ _ hk110
      · refine sm_new rfl rfl (fun v60 => ?_)
        refine sm_bud (fun mc65 ms65 => ?_)
        refine sm_obj ?_
        refine hrJX2_atom mc65 ms65 this _ _ hEx _ _ ?_
        intro v65
        refine sm_X21_init v60 v65 _ _ ?_
        exact hk120 v60 ((bc - 1) - mc65) ((bs - 1) - ms65)
    refine sm_if (cI_eq rfl (show (nI 6).toInt = 6 by decide)) ?_ ?_
    · refine sm_obj ?_
      exact sm_X2_fail this _ _ rfl _ _ hEx _ _ hk46
    · exact hk46
  refine sm_if (cI_eq rfl (show (nI 0).toInt = 0 by decide)) ?_ ?_
  · refine sm_if (cI_eq rfl (show (nI 40).toInt = 40 by decide)) ?_ ?_
    · exact hk32
    · refine sm_bud (fun mc28 ms28 => ?_)
      refine sm_obj ?_
      refine sm_X2_tag sK mc28 ms28 this _ _ hEx _ _ ?_
      intro v28
      exact hQj v28
  · exact hk32
theorem smFX2_row_27 (sK : Nat → Nat) {rJX2_atom : Nat → Nat → Nat → (Nat → Nat → JP) → (Nat → JP) → JP} {rJX2_atom' : Nat → Nat → Nat → (Nat → Nat → MP) → (Nat → MP) → MP} (hrJX2_atom : ∀ (x0 : Nat), ∀ (x1 : Nat), ∀ (x2 : Nat), ∀ (x3 : Nat → Nat → JP) (X3 : Nat → Nat → MP), (∀ z q, SM (x3 z q) (X3 z q)) → ∀ (x4 : Nat → JP) (X4 : Nat → MP), (∀ (x0 : Nat), SM (x4 x0) (X4 x0)) → SM (rJX2_atom x0 x1 x2 x3 x4) (rJX2_atom' x0 x1 x2 X3 X4)) {rJX2_row : Nat → Nat → Nat → Int32 → (Nat → Nat → JP) → (Nat → JP) → JP} {rJX2_row' : Nat → Nat → Nat → Int → (Nat → Nat → MP) → (Nat → MP) → MP} (hrJX2_row : ∀ (x0 : Nat), ∀ (x1 : Nat), ∀ (x2 : Nat), ∀ (x3 : Int32) (X3 : Int), x3.toInt = X3 → ∀ (x4 : Nat → Nat → JP) (X4 : Nat → Nat → MP), (∀ z q, SM (x4 z q) (X4 z q)) → ∀ (x5 : Nat → JP) (X5 : Nat → MP), (∀ (x0 : Nat), SM (x5 x0) (X5 x0)) → SM (rJX2_row x0 x1 x2 x3 x4 x5) (rJX2_row' x0 x1 x2 X3 X4 X5)) (this : Nat) (p1 : Int32) {Ex : Nat → Nat → JP} {Ex' : Nat → Nat → MP} (hEx : ∀ z q, SM (Ex z q) (Ex' z q)) {Qj : Nat → JP} {Qj' : Nat → MP} (hQj : ∀ (x0 : Nat), SM (Qj x0) (Qj' x0)) (v0 : Nat) : ∀ n : Nat, ∀ (x0 : Option Nat), ∀ (x1 : Nat), ∀ (x2 : Nat), SM (jit (FX2_row_27 sK rJX2_atom rJX2_row this p1 Ex Qj v0) (fun _ _ _ => jbot) n x0 x1 x2) (jit (GX2_row_27 sK rJX2_atom' rJX2_row' this p1.toInt Ex' Qj' v0) (fun _ _ _ => mbot) n x0 x1 x2) := by
  intro n
  induction n with
  | zero =>
    intro x3_27 bc_27 bs_27
    exact SM.bot
  | succ n ih =>
    intro x3_27 bc_27 bs_27
    show SM (FX2_row_27 sK rJX2_atom rJX2_row this p1 Ex Qj v0 (jit (FX2_row_27 sK rJX2_atom rJX2_row this p1 Ex Qj v0) (fun _ _ _ => jbot) n) x3_27 bc_27 bs_27) (GX2_row_27 sK rJX2_atom' rJX2_row' this p1.toInt Ex' Qj' v0 (jit (GX2_row_27 sK rJX2_atom' rJX2_row' this p1.toInt Ex' Qj' v0) (fun _ _ _ => mbot) n) x3_27 bc_27 bs_27)
    generalize jit (FX2_row_27 sK rJX2_atom rJX2_row this p1 Ex Qj v0) (fun _ _ _ => jbot) n = rec27 at ih ⊢
    generalize jit (GX2_row_27 sK rJX2_atom' rJX2_row' this p1.toInt Ex' Qj' v0) (fun _ _ _ => mbot) n = rec27' at ih ⊢
    have hrec27 := ih
    unfold FX2_row_27 GX2_row_27
    refine sm_join (fun (k39 : Nat → JP) (k39' : Nat → MP) => ∀ (x0 : Nat), SM (k39 x0) (k39' x0)) ?_ (fun k39 k39' hk39 => ?_)
    · intro s1_39
      refine sm_obj ?_
      refine sm_X2_takes sK this s1_39 _ _ ?_
      intro v39 v39' hv39
      subst hv39
      refine sm_if (cI_eq rfl (show (nI 0).toInt = 0 by decide)) ?_ ?_
      · exact hQj v0
      · refine sm_new rfl rfl (fun v46 => ?_)
        refine sm_join (fun (k66 : Nat → Nat → Nat → JP) (k66' : Nat → Nat → Nat → MP) => ∀ (x0 : Nat), ∀ (x1 : Nat), ∀ (x2 : Nat), SM (k66 x0 x1 x2) (k66' x0 x1 x2)) ?_ (fun k66 k66' hk66 => ?_)
        · intro s3_66 bc_66 bs_66
          refine sm_X17_init v46 s3_66 _ _ rfl _ _ ?_
          refine sm_some (fun u70 => ?_)
          refine sm_putR rfl rfl ?_
          refine sm_getO rfl (fun v74 => ?_)
          exact hrec27 v74 bc_66 bs_66
        refine sm_if (cI_eq rfl (show (nI 0).toInt = 0 by decide)) ?_ ?_
        · refine sm_bud (fun mc63 ms63 => ?_)
          refine sm_obj ?_
          refine hrJX2_row mc63 ms63 this _ _ (show (nI 1).toInt = 1 by decide) _ _ hEx _ _ ?_
          intro v63
          exact hk66 v63 ((bc_27 - 1) - mc63) ((bs_27 - 3) - ms63)
        · refine sm_bud (fun mc55 ms55 => ?_)
          refine sm_obj ?_
          refine hrJX2_atom mc55 ms55 this _ _ hEx _ _ ?_
          intro v55
          exact hk66 v55 ((bc_27 - 1) - mc55) ((bs_27 - 3) - ms55)
    refine sm_if (cI_eq rfl (show (nI 0).toInt = 0 by decide)) ?_ ?_
    · exact hk39 (sK 12)
    · exact hk39 (sK 11)
theorem sm_X2_rowF (sK : Nat → Nat) {rJX2_atom : Nat → Nat → Nat → (Nat → Nat → JP) → (Nat → JP) → JP} {rJX2_atom' : Nat → Nat → Nat → (Nat → Nat → MP) → (Nat → MP) → MP} (hrJX2_atom : ∀ (x0 : Nat), ∀ (x1 : Nat), ∀ (x2 : Nat), ∀ (x3 : Nat → Nat → JP) (X3 : Nat → Nat → MP), (∀ z q, SM (x3 z q) (X3 z q)) → ∀ (x4 : Nat → JP) (X4 : Nat → MP), (∀ (x0 : Nat), SM (x4 x0) (X4 x0)) → SM (rJX2_atom x0 x1 x2 x3 x4) (rJX2_atom' x0 x1 x2 X3 X4)) {rJX2_row : Nat → Nat → Nat → Int32 → (Nat → Nat → JP) → (Nat → JP) → JP} {rJX2_row' : Nat → Nat → Nat → Int → (Nat → Nat → MP) → (Nat → MP) → MP} (hrJX2_row : ∀ (x0 : Nat), ∀ (x1 : Nat), ∀ (x2 : Nat), ∀ (x3 : Int32) (X3 : Int), x3.toInt = X3 → ∀ (x4 : Nat → Nat → JP) (X4 : Nat → Nat → MP), (∀ z q, SM (x4 z q) (X4 z q)) → ∀ (x5 : Nat → JP) (X5 : Nat → MP), (∀ (x0 : Nat), SM (x5 x0) (X5 x0)) → SM (rJX2_row x0 x1 x2 x3 x4 x5) (rJX2_row' x0 x1 x2 X3 X4 X5)) : ∀ (x0 : Nat), ∀ (x1 : Nat), ∀ (x2 : Nat), ∀ (x3 : Int32) (X3 : Int), x3.toInt = X3 → ∀ (x4 : Nat → Nat → JP) (X4 : Nat → Nat → MP), (∀ z q, SM (x4 z q) (X4 z q)) → ∀ (x5 : Nat → JP) (X5 : Nat → MP), (∀ (x0 : Nat), SM (x5 x0) (X5 x0)) → SM ((JX2_rowF sK rJX2_atom rJX2_row) x0 x1 x2 x3 x4 x5) ((MX2_rowF sK rJX2_atom' rJX2_row') x0 x1 x2 X3 X4 X5) := by
  intro bc bs this p1 p1' hp1 Ex Ex' hEx Qj Qj' hQj
  subst hp1
  unfold JX2_rowF MX2_rowF
  refine sm_new rfl rfl (fun v0 => ?_)
  refine sm_join (fun (k20 : Nat → Nat → Nat → JP) (k20' : Nat → Nat → Nat → MP) => ∀ (x0 : Nat), ∀ (x1 : Nat), ∀ (x2 : Nat), SM (k20 x0 x1 x2) (k20' x0 x1 x2)) ?_ (fun k20 k20' hk20 => ?_)
  · intro s2_20 bc_20 bs_20
    refine sm_X17_init v0 s2_20 _ _ rfl _ _ ?_
    refine sm_ex (fun n27 => ?_)
    refine smFX2_row_27 sK hrJX2_atom hrJX2_row this p1 hEx hQj v0 n27 (some v0) bc_20 bs_20
  refine sm_if (cI_eq rfl (show (nI 0).toInt = 0 by decide)) ?_ ?_
  · refine sm_bud (fun mc17 ms17 => ?_)
    refine sm_obj ?_
    refine hrJX2_row mc17 ms17 this _ _ (show (nI 1).toInt = 1 by decide) _ _ hEx _ _ ?_
    intro v17
    exact hk20 v17 ((bc - 1) - mc17) ((bs - 3) - ms17)
  · refine sm_bud (fun mc9 ms9 => ?_)
    refine sm_obj ?_
    refine hrJX2_atom mc9 ms9 this _ _ hEx _ _ ?_
    intro v9
    exact hk20 v9 ((bc - 1) - mc9) ((bs - 3) - ms9)
theorem sm_X2_atomR (sK : Nat → Nat) : ∀ n : Nat, (∀ (x0 : Nat), ∀ (x1 : Nat), ∀ (x2 : Nat), ∀ (x3 : Nat → Nat → JP) (X3 : Nat → Nat → MP), (∀ z q, SM (x3 z q) (X3 z q)) → ∀ (x4 : Nat → JP) (X4 : Nat → MP), (∀ (x0 : Nat), SM (x4 x0) (X4 x0)) → SM (JX2_atom sK n x0 x1 x2 x3 x4) (MX2_atom sK n x0 x1 x2 X3 X4)) ∧ (∀ (x0 : Nat), ∀ (x1 : Nat), ∀ (x2 : Nat), ∀ (x3 : Int32) (X3 : Int), x3.toInt = X3 → ∀ (x4 : Nat → Nat → JP) (X4 : Nat → Nat → MP), (∀ z q, SM (x4 z q) (X4 z q)) → ∀ (x5 : Nat → JP) (X5 : Nat → MP), (∀ (x0 : Nat), SM (x5 x0) (X5 x0)) → SM (JX2_row sK n x0 x1 x2 x3 x4 x5) (MX2_row sK n x0 x1 x2 X3 X4 X5)) := by
  intro n
  induction n with
  | zero =>
    exact ⟨(by intros; exact SM.bot), (by intros; exact SM.bot)⟩
  | succ n ih =>
    exact ⟨(sm_X2_atomF sK ih.1 ih.2), (sm_X2_rowF sK ih.1 ih.2)⟩
theorem sm_X2_atom (sK : Nat → Nat) (n : Nat) : ∀ (x0 : Nat), ∀ (x1 : Nat), ∀ (x2 : Nat), ∀ (x3 : Nat → Nat → JP) (X3 : Nat → Nat → MP), (∀ z q, SM (x3 z q) (X3 z q)) → ∀ (x4 : Nat → JP) (X4 : Nat → MP), (∀ (x0 : Nat), SM (x4 x0) (X4 x0)) → SM (JX2_atom sK n x0 x1 x2 x3 x4) (MX2_atom sK n x0 x1 x2 X3 X4) := (sm_X2_atomR sK n).1
theorem sm_X2_row (sK : Nat → Nat) (n : Nat) : ∀ (x0 : Nat), ∀ (x1 : Nat), ∀ (x2 : Nat), ∀ (x3 : Int32) (X3 : Int), x3.toInt = X3 → ∀ (x4 : Nat → Nat → JP) (X4 : Nat → Nat → MP), (∀ z q, SM (x4 z q) (X4 z q)) → ∀ (x5 : Nat → JP) (X5 : Nat → MP), (∀ (x0 : Nat), SM (x5 x0) (X5 x0)) → SM (JX2_row sK n x0 x1 x2 x3 x4 x5) (MX2_row sK n x0 x1 x2 X3 X4 X5) := (sm_X2_atomR sK n).2
theorem sm_X16_init : ∀ (x0 : Nat), ∀ (x1 : Int32) (X1 : Int), x1.toInt = X1 → ∀ (x2 : Int32) (X2 : Int), x2.toInt = X2 → ∀ (x3 : Option Nat), ∀ (x4 : JP) (X4 : MP), SM x4 X4 → SM (JX16_init x0 x1 x2 x3 x4) (MX16_init x0 X1 X2 x3 X4) := by
  intro this p1 p1' hp1 p2 p2' hp2 p3 Qj Qj' hQj
  subst hp1
  subst hp2
  unfold JX16_init MX16_init
  refine sm_putI rfl rfl ?_
  refine sm_putI rfl rfl ?_
  refine sm_putR rfl rfl ?_
  exact hQj
theorem sm_X2_playLine (sK : Nat → Nat) : ∀ (x0 : Nat), ∀ (x1 : Nat), ∀ (x2 : Nat), ∀ (x3 : Nat → Nat → JP) (X3 : Nat → Nat → MP), (∀ z q, SM (x3 z q) (X3 z q)) → ∀ (x4 : Nat → JP) (X4 : Nat → MP), (∀ (x0 : Nat), SM (x4 x0) (X4 x0)) → SM ((JX2_playLine sK) x0 x1 x2 x3 x4) ((MX2_playLine sK) x0 x1 x2 X3 X4) := by
  intro bc bs this Ex Ex' hEx Qj Qj' hQj
  unfold JX2_playLine MX2_playLine
  refine sm_obj ?_
  refine sm_X2_takes sK this (sK 9) _ _ ?_
  intro v3 v3' hv3
  subst hv3
  refine sm_join (fun (k17 : JP) (k17' : MP) => SM k17 k17') ?_ (fun k17 k17' hk17 => ?_)
  · refine sm_obj ?_
    refine sm_X2_number this _ _ (show (nI 0).toInt = 0 by decide) _ _ (show (nI 999).toInt = 999 by decide) _ _ hEx _ _ ?_
    intro v22 v22' hv22
    subst hv22
    refine sm_obj ?_
    refine sm_X2_sign this _ _ ?_
    intro v29 v29' hv29
    subst hv29
    refine sm_join (fun (k52 : Int32 → JP) (k52' : Int → MP) => ∀ (x0 : Int32) (X0 : Int), x0.toInt = X0 → SM (k52 x0) (k52' X0)) ?_ (fun k52 k52' hk52 => ?_)
    · intro x2_52 x2_52' hx2_52
      subst hx2_52
      refine sm_new rfl rfl (fun v52 => ?_)
      refine sm_obj ?_
      refine sm_X2_takes sK this (sK 10) _ _ ?_
      intro v61 v61' hv61
      subst hv61
      refine sm_if (cI_eq rfl (show (nI 0).toInt = 0 by decide)) ?_ ?_
      · refine sm_X16_init v52 _ _ rfl _ _ rfl none _ _ ?_
        exact hQj v52
      · refine sm_bud (fun mc69 ms69 => ?_)
        refine sm_obj ?_
        refine sm_X2_row sK 40 mc69 ms69 this _ _ (show (nI 0).toInt = 0 by decide) _ _ hEx _ _ ?_
        intro v69
        refine sm_X16_init v52 _ _ rfl _ _ rfl (some v69) _ _ ?_
        exact hQj v52
    refine sm_if (cI_eq rfl (show (nI 42).toInt = 42 by decide)) ?_ ?_
    · refine sm_getI rfl (fun v39 => ?_)
      refine sm_putI rfl (tc_add rfl (show (nI 1).toInt = 1 by decide)) ?_
      refine sm_obj ?_
      refine sm_X2_fact sK this _ _ hEx _ _ ?_
      intro v48 v48' hv48
      subst hv48
      exact hk52 _ _ rfl
    · exact hk52 _ _ (show ((-1) : Int32).toInt = (-1) by decide)
  refine sm_if (cI_eq rfl (show (nI 0).toInt = 0 by decide)) ?_ ?_
  · refine sm_getI rfl (fun v11 => ?_)
    refine sm_obj ?_
    exact sm_X2_fail this _ _ rfl _ _ hEx _ _ hk17
  · exact hk17
theorem smFX2_lines_32 (sK : Nat → Nat) (this : Nat) (p2 : Int32) {Ex : Nat → Nat → JP} {Ex' : Nat → Nat → MP} (hEx : ∀ z q, SM (Ex z q) (Ex' z q)) {Qj : Int32 → JP} {Qj' : Int → MP} (hQj : ∀ (x0 : Int32) (X0 : Int), x0.toInt = X0 → SM (Qj x0) (Qj' X0)) : ∀ n : Nat, ∀ (x0 : Int32) (X0 : Int), x0.toInt = X0 → ∀ (x1 : Int32) (X1 : Int), x1.toInt = X1 → ∀ (x2 : Nat), ∀ (x3 : Nat), SM (jit (FX2_lines_32 sK this p2 Ex Qj) (fun _ _ _ _ => jbot) n x0 x1 x2 x3) (jit (GX2_lines_32 sK this p2.toInt Ex' Qj') (fun _ _ _ _ => mbot) n X0 X1 x2 x3) := by
  intro n
  induction n with
  | zero =>
    intro x3_32 x3_32' hx3_32 x4_32 x4_32' hx4_32 bc_32 bs_32
    exact SM.bot
  | succ n ih =>
    intro x3_32 x3_32' hx3_32 x4_32 x4_32' hx4_32 bc_32 bs_32
    subst hx3_32
    subst hx4_32
    show SM (FX2_lines_32 sK this p2 Ex Qj (jit (FX2_lines_32 sK this p2 Ex Qj) (fun _ _ _ _ => jbot) n) x3_32 x4_32 bc_32 bs_32) (GX2_lines_32 sK this p2.toInt Ex' Qj' (jit (GX2_lines_32 sK this p2.toInt Ex' Qj') (fun _ _ _ _ => mbot) n) x3_32.toInt x4_32.toInt bc_32 bs_32)
    generalize jit (FX2_lines_32 sK this p2 Ex Qj) (fun _ _ _ _ => jbot) n = rec32 at ih ⊢
    generalize jit (GX2_lines_32 sK this p2.toInt Ex' Qj') (fun _ _ _ _ => mbot) n = rec32' at ih ⊢
    have hrec32 := ih
    unfold FX2_lines_32 GX2_lines_32
    refine sm_if (cI_eq rfl (show (nI 0).toInt = 0 by decide)) ?_ ?_
    · exact hQj _ _ rfl
    · refine sm_obj ?_
      refine sm_X2_sign this _ _ ?_
      intro v38 v38' hv38
      subst hv38
      refine sm_join (fun (k55 : Int32 → JP) (k55' : Int → MP) => ∀ (x0 : Int32) (X0 : Int), x0.toInt = X0 → SM (k55 x0) (k55' X0)) ?_ (fun k55 k55' hk55 => ?_)
      · intro s1_55 s1_55' hs1_55
        subst hs1_55
        refine sm_join (fun (k66 : JP) (k66' : MP) => SM k66 k66') ?_ (fun k66 k66' hk66 => ?_)
        · refine sm_join (fun (k93 : Nat → Nat → JP) (k93' : Nat → Nat → MP) => ∀ (x0 : Nat), ∀ (x1 : Nat), SM (k93 x0 x1) (k93' x0 x1)) ?_ (fun k93 k93' hk93 => ?_)
          · intro bc_93 bs_93
            refine sm_obj ?_
            refine sm_X2_sign this _ _ ?_
            intro v97 v97' hv97
            subst hv97
            refine sm_join (fun (k110 : Int32 → JP) (k110' : Int → MP) => ∀ (x0 : Int32) (X0 : Int), x0.toInt = X0 → SM (k110 x0) (k110' X0)) ?_ (fun k110 k110' hk110 => ?_)
            · intro s0_110 s0_110' hs0_110
              subst hs0_110
              refine sm_join (fun (k146 : JP) (k146' : MP) => SM k146 k146') ?_ (fun k146 k146' hk146 => ?_)
              · exact hrec32 _ _ (tc_add rfl (show (nI 1).toInt = 1 by decide)) _ _ rfl bc_93 bs_93
              refine sm_if (cI_eq rfl (show (nI 0).toInt = 0 by decide)) ?_ ?_
              · refine sm_obj ?_
                refine sm_X2_sign this _ _ ?_
                intro v131 v131' hv131
                subst hv131
                refine sm_if (cI_eq rfl (show ((-1) : Int32).toInt = (-1) by decide)) ?_ ?_
                · exact hk146
                · refine sm_getI rfl (fun v140 => ?_)
                  refine sm_obj ?_
                  exact sm_X2_fail this _ _ rfl _ _ hEx _ _ hk146
              · refine sm_getI rfl (fun v119 => ?_)
                refine sm_putI rfl (tc_add rfl (show (nI 1).toInt = 1 by decide)) ?_
                exact hk146
            refine sm_if (cI_eq rfl (show (nI 59).toInt = 59 by decide)) ?_ ?_
            · exact hk110 _ _ (show (nI 1).toInt = 1 by decide)
            · exact hk110 _ _ (show (nI 0).toInt = 0 by decide)
          refine sm_if (cI_eq rfl (show (nI 0).toInt = 0 by decide)) ?_ ?_
          · refine sm_getA rfl (fun v84 => ?_)
            refine sm_bud (fun mc89 ms89 => ?_)
            refine sm_obj ?_
            refine sm_X2_playLine sK mc89 ms89 this _ _ hEx _ _ ?_
            intro v89
            refine sm_astA (by decide) rfl ?_
            exact hk93 (bc_32 - mc89) (bs_32 - ms89)
          · refine sm_getA rfl (fun v71 => ?_)
            refine sm_bud (fun mc76 ms76 => ?_)
            refine sm_obj ?_
            refine sm_X2_going sK mc76 ms76 this _ _ hEx _ _ ?_
            intro v76
            refine sm_astX (by decide) rfl ?_
            exact hk93 (bc_32 - mc76) (bs_32 - ms76)
        refine sm_if (cI_eq rfl rfl) ?_ ?_
        · refine sm_getI rfl (fun v60 => ?_)
          refine sm_obj ?_
          exact sm_X2_fail this _ _ rfl _ _ hEx _ _ hk66
        · exact hk66
      refine sm_if (cI_eq rfl (show (nI 0).toInt = 0 by decide)) ?_ ?_
      · exact hk55 _ _ (show (nI 10).toInt = 10 by decide)
      · exact hk55 _ _ (show (nI 6).toInt = 6 by decide)
theorem sm_X2_lines (sK : Nat → Nat) : ∀ (x0 : Nat), ∀ (x1 : Nat), ∀ (x2 : Nat), ∀ (x3 : Int32) (X3 : Int), x3.toInt = X3 → ∀ (x4 : Int32) (X4 : Int), x4.toInt = X4 → ∀ (x5 : Nat → Nat → JP) (X5 : Nat → Nat → MP), (∀ z q, SM (x5 z q) (X5 z q)) → ∀ (x6 : Int32 → JP) (X6 : Int → MP), (∀ (x0 : Int32) (X0 : Int), x0.toInt = X0 → SM (x6 x0) (X6 X0)) → SM ((JX2_lines sK) x0 x1 x2 x3 x4 x5 x6) ((MX2_lines sK) x0 x1 x2 X3 X4 X5 X6) := by
  intro bc bs this p1 p1' hp1 p2 p2' hp2 Ex Ex' hEx Qj Qj' hQj
  subst hp1
  subst hp2
  unfold JX2_lines MX2_lines
  refine sm_putI rfl rfl ?_
  refine sm_putI rfl (show (nI 0).toInt = 0 by decide) ?_
  refine sm_putI rfl (show (nI 0).toInt = 0 by decide) ?_
  refine sm_obj ?_
  refine sm_X2_sign this _ _ ?_
  intro v18 v18' hv18
  subst hv18
  refine sm_join (fun (k30 : Int32 → JP) (k30' : Int → MP) => ∀ (x0 : Int32) (X0 : Int), x0.toInt = X0 → SM (k30 x0) (k30' X0)) ?_ (fun k30 k30' hk30 => ?_)
  · intro s0_30 s0_30' hs0_30
    subst hs0_30
    refine sm_ex (fun n32 => ?_)
    refine smFX2_lines_32 sK this p2 hEx hQj n32 _ _ (show (nI 0).toInt = 0 by decide) _ _ rfl bc bs
  refine sm_if (cI_eq rfl (show ((-1) : Int32).toInt = (-1) by decide)) ?_ ?_
  · exact hk30 _ _ (show (nI 0).toInt = 0 by decide)
  · exact hk30 _ _ (show (nI 1).toInt = 1 by decide)
theorem sm_X12_init : ∀ (x0 : Nat), ∀ (x1 : Nat), ∀ (x2 : Nat), ∀ (x3 : Int32) (X3 : Int), x3.toInt = X3 → ∀ (x4 : Nat), ∀ (x5 : Int32) (X5 : Int), x5.toInt = X5 → ∀ (x6 : JP) (X6 : MP), SM x6 X6 → SM (JX12_init x0 x1 x2 x3 x4 x5 x6) (MX12_init x0 x1 x2 X3 x4 X5 X6) := by
  intro bc bs this p1 p1' hp1 p2 p3 p3' hp3 Qj Qj' hQj
  subst hp1
  subst hp3
  unfold JX12_init MX12_init
  refine sm_putI rfl rfl ?_
  refine sm_newA (by decide) rfl (fun v11 => ?_)
  refine sm_putR rfl rfl ?_
  refine sm_getA rfl (fun v20 => ?_)
  refine sm_cpyA (show (nI 0).toInt = 0 by decide) (show (nI 0).toInt = 0 by decide) rfl ?_
  exact hQj
theorem sm_X2_kind (sK : Nat → Nat) : ∀ (x0 : Nat), ∀ (x1 : Nat), ∀ (x2 : Nat), ∀ (x3 : Int32) (X3 : Int), x3.toInt = X3 → ∀ (x4 : Int32) (X4 : Int), x4.toInt = X4 → ∀ (x5 : Nat → Nat → JP) (X5 : Nat → Nat → MP), (∀ z q, SM (x5 z q) (X5 z q)) → ∀ (x6 : Nat → JP) (X6 : Nat → MP), (∀ (x0 : Nat), SM (x6 x0) (X6 x0)) → SM ((JX2_kind sK) x0 x1 x2 x3 x4 x5 x6) ((MX2_kind sK) x0 x1 x2 X3 X4 X5 X6) := by
  intro bc bs this p1 p1' hp1 p2 p2' hp2 Ex Ex' hEx Qj Qj' hQj
  subst hp1
  subst hp2
  unfold JX2_kind MX2_kind
  refine sm_new rfl rfl (fun v0 => ?_)
  refine sm_getA rfl (fun v6 => ?_)
  refine sm_bud (fun mc12 ms12 => ?_)
  refine sm_obj ?_
  refine sm_X2_lines sK mc12 ms12 this _ _ rfl _ _ (show (nI 1).toInt = 1 by decide) _ _ hEx _ _ ?_
  intro v12 v12' hv12
  subst hv12
  refine sm_bud (fun mc15 ms15 => ?_)
  refine sm_X12_init mc15 ms15 v0 _ _ rfl v6 _ _ rfl _ _ ?_
  exact hQj v0
theorem sm_X1_must : ∀ (x0 : Nat), ∀ (x1 : Nat), ∀ (x2 : Int32) (X2 : Int), x2.toInt = X2 → ∀ (x3 : Nat → Nat → JP) (X3 : Nat → Nat → MP), (∀ z q, SM (x3 z q) (X3 z q)) → ∀ (x4 : JP) (X4 : MP), SM x4 X4 → SM (JX1_must x0 x1 x2 x3 x4) (MX1_must x0 x1 X2 X3 X4) := by
  intro bc bs p0 p0' hp0 Ex Ex' hEx Qj Qj' hQj
  subst hp0
  unfold JX1_must MX1_must
  refine sm_if (cI_eq rfl (show (nI 0).toInt = 0 by decide)) ?_ ?_
  · exact sm_throw hEx
  · exact hQj
theorem sm_X1_mayBe : ∀ (x0 : Nat), ∀ (x1 : Nat), ∀ (x2 : Int32) (X2 : Int), x2.toInt = X2 → ∀ (x3 : Nat → Nat → JP) (X3 : Nat → Nat → MP), (∀ z q, SM (x3 z q) (X3 z q)) → ∀ (x4 : JP) (X4 : MP), SM x4 X4 → SM (JX1_mayBe x0 x1 x2 x3 x4) (MX1_mayBe x0 x1 X2 X3 X4) := by
  intro bc bs p0 p0' hp0 Ex Ex' hEx Qj Qj' hQj
  subst hp0
  unfold JX1_mayBe MX1_mayBe
  refine sm_if (cI_eq rfl (show (nI 0).toInt = 0 by decide)) ?_ ?_
  · exact sm_throw hEx
  · exact hQj
theorem sm_X1_kind (sK : Nat → Nat) : ∀ (x0 : Nat), ∀ (x1 : Nat), ∀ (x2 : Nat), ∀ (x3 : Int32) (X3 : Int), x3.toInt = X3 → ∀ (x4 : Nat → Nat → JP) (X4 : Nat → Nat → MP), (∀ z q, SM (x4 z q) (X4 z q)) → ∀ (x5 : Int32 → JP) (X5 : Int → MP), (∀ (x0 : Int32) (X0 : Int), x0.toInt = X0 → SM (x5 x0) (X5 X0)) → SM ((JX1_kind sK) x0 x1 x2 x3 x4 x5) ((MX1_kind sK) x0 x1 x2 X3 X4 X5) := by
  intro bc bs this p1 p1' hp1 Ex Ex' hEx Qj Qj' hQj
  subst hp1
  unfold JX1_kind MX1_kind
  refine sm_obj ?_
  refine sm_X1_use this _ _ ?_
  intro v1 v1' hv1
  subst hv1
  refine sm_getA rfl (fun v6 => ?_)
  refine sm_bud (fun mc11 ms11 => ?_)
  refine sm_obj ?_
  refine sm_X2_kind sK mc11 ms11 v6 _ _ rfl _ _ rfl _ _ (fun xx11 xq11 => ?_) _ _ ?_
  · refine sm_if Iff.rfl ?_ ?_
    · refine sm_getI rfl (fun v23 => ?_)
      refine sm_putI rfl rfl ?_
      exact sm_throw hEx
    · exact SM.bot
  intro v11
  refine sm_X1_isIn _ _ rfl _ _ (show (nI 0).toInt = 0 by decide) _ _ (show (nI 20).toInt = 20 by decide) _ _ ?_
  intro v41 v41' hv41
  subst hv41
  refine sm_bud (fun mc44 ms44 => ?_)
  refine sm_X1_must mc44 ms44 _ _ rfl _ _ hEx _ _ ?_
  refine sm_getA rfl (fun v48 => ?_)
  refine sm_getI rfl (fun v51 => ?_)
  refine sm_join (fun (k63 : Int32 → JP) (k63' : Int → MP) => ∀ (x0 : Int32) (X0 : Int), x0.toInt = X0 → SM (k63 x0) (k63' X0)) ?_ (fun k63 k63' hk63 => ?_)
  · intro s0_63 s0_63' hs0_63
    subst hs0_63
    refine sm_bud (fun mc63 ms63 => ?_)
    refine sm_X1_mayBe mc63 ms63 _ _ rfl _ _ hEx _ _ ?_
    refine sm_getA rfl (fun v67 => ?_)
    refine sm_getA rfl (fun v70 => ?_)
    refine sm_getA rfl (fun v74 => ?_)
    refine sm_getI rfl (fun v77 => ?_)
    refine sm_astA (by decide) rfl ?_
    refine sm_getA rfl (fun v83 => ?_)
    refine sm_getI rfl (fun v87 => ?_)
    refine sm_putI rfl (tc_add rfl (show (nI 1).toInt = 1 by decide)) ?_
    refine sm_getA rfl (fun v96 => ?_)
    refine sm_getI rfl (fun v99 => ?_)
    exact hQj _ _ (tc_sub rfl (show (nI 1).toInt = 1 by decide))
  refine sm_if (cI_le (show (nI 5).toInt = 5 by decide) rfl) ?_ ?_
  · exact hk63 _ _ (show (nI 0).toInt = 0 by decide)
  · exact hk63 _ _ (show (nI 1).toInt = 1 by decide)
theorem sm_X0_kind (sK : Nat → Nat) : ∀ (x0 : Nat), ∀ (x1 : Nat), ∀ (x2 : Nat), ∀ (x3 : Int32) (X3 : Int), x3.toInt = X3 → ∀ (x4 : Nat), ∀ (x5 : Int32 → JP) (X5 : Int → MP), (∀ (x0 : Int32) (X0 : Int), x0.toInt = X0 → SM (x5 x0) (X5 X0)) → SM ((JX0_kind sK) x0 x1 x2 x3 x4 x5) ((MX0_kind sK) x0 x1 x2 X3 x4 X5) := by
  intro bc bs p0 p1 p1' hp1 p2 Qj Qj' hQj
  subst hp1
  unfold JX0_kind MX0_kind
  refine sm_bud (fun mc4 ms4 => ?_)
  refine sm_obj ?_
  refine sm_X1_kind sK mc4 ms4 p0 _ _ rfl _ _ (fun xx4 xq4 => ?_) _ _ ?_
  · refine sm_if Iff.rfl ?_ ?_
    · exact hQj _ _ (show (nI 1).toInt = 1 by decide)
    · refine sm_if Iff.rfl ?_ ?_
      · exact hQj _ _ (show (nI 2).toInt = 2 by decide)
      · exact SM.bot
  intro v4 v4' hv4
  subst hv4
  refine sm_astL (show (nI 0).toInt = 0 by decide) (tc_i2l rfl) ?_
  exact hQj _ _ (show (nI 0).toInt = 0 by decide)
theorem sm_X11_isAt : ∀ (x0 : Nat), ∀ (x1 : Int32) (X1 : Int), x1.toInt = X1 → ∀ (x2 : Int32) (X2 : Int), x2.toInt = X2 → ∀ (x3 : Int32 → JP) (X3 : Int → MP), (∀ (x0 : Int32) (X0 : Int), x0.toInt = X0 → SM (x3 x0) (X3 X0)) → SM (JX11_isAt x0 x1 x2 x3) (MX11_isAt x0 X1 X2 X3) := by
  intro this p1 p1' hp1 p2 p2' hp2 Qj Qj' hQj
  subst hp1
  subst hp2
  unfold JX11_isAt MX11_isAt
  refine sm_getI rfl (fun v1 => ?_)
  refine sm_getI rfl (fun v5 => ?_)
  refine sm_join (fun (k41 : JP) (k41' : MP) => SM k41 k41') ?_ (fun k41 k41' hk41 => ?_)
  · exact hQj _ _ (show (nI 0).toInt = 0 by decide)
  refine sm_if (cI_le rfl rfl) ?_ ?_
  · exact hk41
  · refine sm_getA rfl (fun v12 => ?_)
    refine sm_getI rfl (fun v16 => ?_)
    refine sm_aldI (by decide) rfl (fun v19 => ?_)
    refine sm_if (cI_lt rfl rfl) ?_ ?_
    · exact hk41
    · refine sm_getA rfl (fun v25 => ?_)
      refine sm_getI rfl (fun v29 => ?_)
      refine sm_aldI (by decide) rfl (fun v32 => ?_)
      refine sm_if (cI_lt rfl rfl) ?_ ?_
      · exact hk41
      · exact hQj _ _ (show (nI 1).toInt = 1 by decide)
theorem smFX11_blanks_0 (this : Nat) {k24 : JP} {k24' : MP} (hk24 : SM k24 k24') : ∀ n : Nat, SM (jit (FX11_blanks_0 this k24) jbot n) (jit (GX11_blanks_0 this k24') mbot n) := by
  intro n
  induction n with
  | zero =>
    exact SM.bot
  | succ n ih =>
    show SM (FX11_blanks_0 this k24 (jit (FX11_blanks_0 this k24) jbot n)) (GX11_blanks_0 this k24' (jit (GX11_blanks_0 this k24') mbot n))
    generalize jit (FX11_blanks_0 this k24) jbot n = rec0 at ih ⊢
    generalize jit (GX11_blanks_0 this k24') mbot n = rec0' at ih ⊢
    have hrec0 := ih
    unfold FX11_blanks_0 GX11_blanks_0
    refine sm_obj ?_
    refine sm_X11_isAt this _ _ (show (nI 32).toInt = 32 by decide) _ _ (show (nI 32).toInt = 32 by decide) _ _ ?_
    intro v5 v5' hv5
    subst hv5
    refine sm_if (cI_eq rfl (show (nI 0).toInt = 0 by decide)) ?_ ?_
    · exact hk24
    · refine sm_getI rfl (fun v13 => ?_)
      refine sm_putI rfl (tc_add rfl (show (nI 1).toInt = 1 by decide)) ?_
      exact hrec0
theorem sm_X11_blanks : ∀ (x0 : Nat), ∀ (x1 : JP) (X1 : MP), SM x1 X1 → SM (JX11_blanks x0 x1) (MX11_blanks x0 X1) := by
  intro this Qj Qj' hQj
  unfold JX11_blanks MX11_blanks
  refine sm_ex (fun n0 => ?_)
  refine smFX11_blanks_0 this ?_ n0
  · refine sm_getI rfl (fun v26 => ?_)
    refine sm_putI rfl rfl ?_
    exact hQj
theorem smFX11_letters_4 (this : Nat) {Qj : JP} {Qj' : MP} (hQj : SM Qj Qj') : ∀ n : Nat, SM (jit (FX11_letters_4 this Qj) jbot n) (jit (GX11_letters_4 this Qj') mbot n) := by
  intro n
  induction n with
  | zero =>
    exact SM.bot
  | succ n ih =>
    show SM (FX11_letters_4 this Qj (jit (FX11_letters_4 this Qj) jbot n)) (GX11_letters_4 this Qj' (jit (GX11_letters_4 this Qj') mbot n))
    generalize jit (FX11_letters_4 this Qj) jbot n = rec4 at ih ⊢
    generalize jit (GX11_letters_4 this Qj') mbot n = rec4' at ih ⊢
    have hrec4 := ih
    unfold FX11_letters_4 GX11_letters_4
    refine sm_obj ?_
    refine sm_X11_isAt this _ _ (show (nI 97).toInt = 97 by decide) _ _ (show (nI 122).toInt = 122 by decide) _ _ ?_
    intro v9 v9' hv9
    subst hv9
    refine sm_if (cI_eq rfl (show (nI 0).toInt = 0 by decide)) ?_ ?_
    · exact hQj
    · refine sm_getI rfl (fun v17 => ?_)
      refine sm_putI rfl (tc_add rfl (show (nI 1).toInt = 1 by decide)) ?_
      exact hrec4
theorem sm_X11_letters : ∀ (x0 : Nat), ∀ (x1 : JP) (X1 : MP), SM x1 X1 → SM (JX11_letters x0 x1) (MX11_letters x0 X1) := by
  intro this Qj Qj' hQj
  unfold JX11_letters MX11_letters
  refine sm_obj ?_
  refine sm_X11_blanks this _ _ ?_
  refine sm_ex (fun n4 => ?_)
  refine smFX11_letters_4 this hQj n4
theorem smFX11_isWord_24 (sK : Nat → Nat) (this : Nat) (p1 : Nat) {Qj : Int32 → JP} {Qj' : Int → MP} (hQj : ∀ (x0 : Int32) (X0 : Int), x0.toInt = X0 → SM (Qj x0) (Qj' X0)) : ∀ n : Nat, ∀ (x0 : Int32) (X0 : Int), x0.toInt = X0 → ∀ (x1 : Int32) (X1 : Int), x1.toInt = X1 → SM (jit (FX11_isWord_24 sK this p1 Qj) (fun _ _ => jbot) n x0 x1) (jit (GX11_isWord_24 sK this p1 Qj') (fun _ _ => mbot) n X0 X1) := by
  intro n
  induction n with
  | zero =>
    intro x2_24 x2_24' hx2_24 x3_24 x3_24' hx3_24
    exact SM.bot
  | succ n ih =>
    intro x2_24 x2_24' hx2_24 x3_24 x3_24' hx3_24
    subst hx2_24
    subst hx3_24
    show SM (FX11_isWord_24 sK this p1 Qj (jit (FX11_isWord_24 sK this p1 Qj) (fun _ _ => jbot) n) x2_24 x3_24) (GX11_isWord_24 sK this p1 Qj' (jit (GX11_isWord_24 sK this p1 Qj') (fun _ _ => mbot) n) x2_24.toInt x3_24.toInt)
    generalize jit (FX11_isWord_24 sK this p1 Qj) (fun _ _ => jbot) n = rec24 at ih ⊢
    generalize jit (GX11_isWord_24 sK this p1 Qj') (fun _ _ => mbot) n = rec24' at ih ⊢
    have hrec24 := ih
    unfold FX11_isWord_24 GX11_isWord_24
    refine sm_if (cI_eq rfl (show (nI 0).toInt = 0 by decide)) ?_ ?_
    · refine sm_and (fun h => h.imp (cI_eq rfl (show (nI 0).toInt = 0 by decide)).mpr (cI_eq rfl (show (nI 1).toInt = 1 by decide)).mpr) ?_
      exact hQj _ _ rfl
    · refine sm_sobj ?_
      refine sm_J3_length sK p1 _ _ ?_
      intro v30 v30' hv30
      subst hv30
      refine sm_if (cI_le rfl rfl) ?_ ?_
      · refine sm_and (fun h => h.imp (cI_eq rfl (show (nI 0).toInt = 0 by decide)).mpr (cI_eq rfl (show (nI 1).toInt = 1 by decide)).mpr) ?_
        exact hQj _ _ rfl
      · refine sm_getA rfl (fun v37 => ?_)
        refine sm_getI rfl (fun v41 => ?_)
        refine sm_aldI (by decide) (tc_add rfl rfl) (fun v46 => ?_)
        refine sm_sobj ?_
        refine sm_J3_charAt sK p1 _ _ rfl _ _ ?_
        intro v49 v49' hv49
        subst hv49
        refine sm_join (fun (k60 : Int32 → JP) (k60' : Int → MP) => ∀ (x0 : Int32) (X0 : Int), x0.toInt = X0 → SM (k60 x0) (k60' X0)) ?_ (fun k60 k60' hk60 => ?_)
        · intro s0_60 s0_60' hs0_60
          subst hs0_60
          exact hrec24 _ _ rfl _ _ (tc_add rfl (show (nI 1).toInt = 1 by decide))
        refine sm_if (cI_eq rfl rfl) ?_ ?_
        · exact hk60 _ _ (show (nI 1).toInt = 1 by decide)
        · exact hk60 _ _ (show (nI 0).toInt = 0 by decide)
theorem sm_X11_isWord (sK : Nat → Nat) : ∀ (x0 : Nat), ∀ (x1 : Nat), ∀ (x2 : Int32 → JP) (X2 : Int → MP), (∀ (x0 : Int32) (X0 : Int), x0.toInt = X0 → SM (x2 x0) (X2 X0)) → SM ((JX11_isWord sK) x0 x1 x2) ((MX11_isWord sK) x0 x1 X2) := by
  intro this p1 Qj Qj' hQj
  unfold JX11_isWord MX11_isWord
  refine sm_getI rfl (fun v1 => ?_)
  refine sm_getI rfl (fun v5 => ?_)
  refine sm_sobj ?_
  refine sm_J3_length sK p1 _ _ ?_
  intro v10 v10' hv10
  subst hv10
  refine sm_join (fun (k21 : Int32 → JP) (k21' : Int → MP) => ∀ (x0 : Int32) (X0 : Int), x0.toInt = X0 → SM (k21 x0) (k21' X0)) ?_ (fun k21 k21' hk21 => ?_)
  · intro s0_21 s0_21' hs0_21
    subst hs0_21
    refine sm_ex (fun n24 => ?_)
    refine smFX11_isWord_24 sK this p1 hQj n24 _ _ rfl _ _ (show (nI 0).toInt = 0 by decide)
  refine sm_if (cI_eq (tc_sub rfl rfl) rfl) ?_ ?_
  · exact hk21 _ _ (show (nI 1).toInt = 1 by decide)
  · exact hk21 _ _ (show (nI 0).toInt = 0 by decide)
theorem smFX11_number_6 (this : Nat) {k65 : Int32 → JP} {k65' : Int → MP} (hk65 : ∀ (x0 : Int32) (X0 : Int), x0.toInt = X0 → SM (k65 x0) (k65' X0)) : ∀ n : Nat, ∀ (x0 : Int32) (X0 : Int), x0.toInt = X0 → SM (jit (FX11_number_6 this k65) (fun _ => jbot) n x0) (jit (GX11_number_6 this k65') (fun _ => mbot) n X0) := by
  intro n
  induction n with
  | zero =>
    intro x3_6 x3_6' hx3_6
    exact SM.bot
  | succ n ih =>
    intro x3_6 x3_6' hx3_6
    subst hx3_6
    show SM (FX11_number_6 this k65 (jit (FX11_number_6 this k65) (fun _ => jbot) n) x3_6) (GX11_number_6 this k65' (jit (GX11_number_6 this k65') (fun _ => mbot) n) x3_6.toInt)
    generalize jit (FX11_number_6 this k65) (fun _ => jbot) n = rec6 at ih ⊢
    generalize jit (GX11_number_6 this k65') (fun _ => mbot) n = rec6' at ih ⊢
    have hrec6 := ih
    unfold FX11_number_6 GX11_number_6
    refine sm_obj ?_
    refine sm_X11_isAt this _ _ (show (nI 48).toInt = 48 by decide) _ _ (show (nI 57).toInt = 57 by decide) _ _ ?_
    intro v11 v11' hv11
    subst hv11
    refine sm_if (cI_eq rfl (show (nI 0).toInt = 0 by decide)) ?_ ?_
    · exact hk65 _ _ rfl
    · refine sm_getI rfl (fun v18 => ?_)
      refine sm_getI rfl (fun v22 => ?_)
      refine sm_join (fun (k51 : Int32 → JP) (k51' : Int → MP) => ∀ (x0 : Int32) (X0 : Int), x0.toInt = X0 → SM (k51 x0) (k51' X0)) ?_ (fun k51 k51' hk51 => ?_)
      · intro s0_51 s0_51' hs0_51
        subst hs0_51
        refine sm_getI rfl (fun v54 => ?_)
        refine sm_putI rfl (tc_add rfl (show (nI 1).toInt = 1 by decide)) ?_
        exact hrec6 _ _ rfl
      refine sm_if (cI_le (show (nI 3).toInt = 3 by decide) (tc_sub rfl rfl)) ?_ ?_
      · exact hk51 _ _ rfl
      · refine sm_getA rfl (fun v35 => ?_)
        refine sm_getI rfl (fun v39 => ?_)
        refine sm_aldI (by decide) rfl (fun v42 => ?_)
        exact hk51 _ _ (tc_sub (tc_add (tc_mul (show (nI 10).toInt = 10 by decide) rfl) rfl) (show (nI 48).toInt = 48 by decide))
theorem sm_X11_number : ∀ (x0 : Nat), ∀ (x1 : Int32) (X1 : Int), x1.toInt = X1 → ∀ (x2 : Int32) (X2 : Int), x2.toInt = X2 → ∀ (x3 : Int32 → JP) (X3 : Int → MP), (∀ (x0 : Int32) (X0 : Int), x0.toInt = X0 → SM (x3 x0) (X3 X0)) → SM (JX11_number x0 x1 x2 x3) (MX11_number x0 X1 X2 X3) := by
  intro this p1 p1' hp1 p2 p2' hp2 Qj Qj' hQj
  subst hp1
  subst hp2
  unfold JX11_number MX11_number
  refine sm_obj ?_
  refine sm_X11_blanks this _ _ ?_
  refine sm_ex (fun n6 => ?_)
  refine smFX11_number_6 this ?_ n6 _ _ (show (nI 0).toInt = 0 by decide)
  · intro y3_65 y3_65' hy3_65
    subst hy3_65
    refine sm_getI rfl (fun v66 => ?_)
    refine sm_getI rfl (fun v70 => ?_)
    refine sm_join (fun (k99 : JP) (k99' : MP) => SM k99 k99') ?_ (fun k99 k99' hk99 => ?_)
    · exact hQj _ _ (show ((-1) : Int32).toInt = (-1) by decide)
    refine sm_if (cI_eq rfl rfl) ?_ ?_
    · exact hk99
    · refine sm_getI rfl (fun v77 => ?_)
      refine sm_getI rfl (fun v81 => ?_)
      refine sm_if (cI_lt (show (nI 3).toInt = 3 by decide) (tc_sub rfl rfl)) ?_ ?_
      · exact hk99
      · refine sm_if (cI_lt rfl rfl) ?_ ?_
        · exact hk99
        · refine sm_if (cI_le rfl rfl) ?_ ?_
          · exact hQj _ _ rfl
          · exact hk99
theorem sm_X11_readKindLine (sK : Nat → Nat) : ∀ (x0 : Nat), ∀ (x1 : Int32) (X1 : Int), x1.toInt = X1 → ∀ (x2 : Int32 → JP) (X2 : Int → MP), (∀ (x0 : Int32) (X0 : Int), x0.toInt = X0 → SM (x2 x0) (X2 X0)) → SM ((JX11_readKindLine sK) x0 x1 x2) ((MX11_readKindLine sK) x0 X1 X2) := by
  intro this p1 p1' hp1 Qj Qj' hQj
  subst hp1
  unfold JX11_readKindLine MX11_readKindLine
  refine sm_obj ?_
  refine sm_X11_isWord sK this (sK 4) _ _ ?_
  intro v3 v3' hv3
  subst hv3
  refine sm_join (fun (k66 : Int32 → JP) (k66' : Int → MP) => ∀ (x0 : Int32) (X0 : Int), x0.toInt = X0 → SM (k66 x0) (k66' X0)) ?_ (fun k66 k66' hk66 => ?_)
  · intro s0_66 s0_66' hs0_66
    subst hs0_66
    refine sm_getA rfl (fun v68 => ?_)
    refine sm_astI (tc_mul (show (nI 2).toInt = 2 by decide) rfl) rfl ?_
    refine sm_getA rfl (fun v77 => ?_)
    refine sm_join (fun (k104 : Int32 → JP) (k104' : Int → MP) => ∀ (x0 : Int32) (X0 : Int), x0.toInt = X0 → SM (k104 x0) (k104' X0)) ?_ (fun k104 k104' hk104 => ?_)
    · intro s2_104 s2_104' hs2_104
      subst hs2_104
      refine sm_astI (tc_add (tc_mul (show (nI 2).toInt = 2 by decide) rfl) (show (nI 1).toInt = 1 by decide)) rfl ?_
      refine sm_join (fun (k126 : JP) (k126' : MP) => SM k126 k126') ?_ (fun k126 k126' hk126 => ?_)
      · exact hQj _ _ (show (nI 0).toInt = 0 by decide)
      refine sm_if (cI_lt rfl (show (nI 0).toInt = 0 by decide)) ?_ ?_
      · exact hk126
      · refine sm_getA rfl (fun v110 => ?_)
        refine sm_aldI (by decide) (tc_add (tc_mul (show (nI 2).toInt = 2 by decide) rfl) (show (nI 1).toInt = 1 by decide)) (fun v118 => ?_)
        refine sm_if (cI_lt rfl (show (nI 0).toInt = 0 by decide)) ?_ ?_
        · exact hk126
        · exact hQj _ _ (show (nI 1).toInt = 1 by decide)
    refine sm_join (fun (k103 : JP) (k103' : MP) => SM k103 k103') ?_ (fun k103 k103' hk103 => ?_)
    · exact hk104 _ _ (show (nI 0).toInt = 0 by decide)
    refine sm_if (cI_lt rfl (show (nI 0).toInt = 0 by decide)) ?_ ?_
    · exact hk103
    · refine sm_if (cI_le (show (nI 3).toInt = 3 by decide) rfl) ?_ ?_
      · exact hk103
      · refine sm_obj ?_
        refine sm_X11_number this _ _ (show (nI 1).toInt = 1 by decide) _ _ (show (nI 5).toInt = 5 by decide) _ _ ?_
        intro v97 v97' hv97
        subst hv97
        exact hk104 _ _ rfl
  refine sm_if (cI_eq rfl (show (nI 0).toInt = 0 by decide)) ?_ ?_
  · refine sm_obj ?_
    refine sm_X11_isWord sK this (sK 5) _ _ ?_
    intro v16 v16' hv16
    subst hv16
    refine sm_if (cI_eq rfl (show (nI 0).toInt = 0 by decide)) ?_ ?_
    · refine sm_obj ?_
      refine sm_X11_isWord sK this (sK 6) _ _ ?_
      intro v29 v29' hv29
      subst hv29
      refine sm_if (cI_eq rfl (show (nI 0).toInt = 0 by decide)) ?_ ?_
      · refine sm_obj ?_
        refine sm_X11_isWord sK this (sK 7) _ _ ?_
        intro v42 v42' hv42
        subst hv42
        refine sm_if (cI_eq rfl (show (nI 0).toInt = 0 by decide)) ?_ ?_
        · refine sm_obj ?_
          refine sm_X11_isWord sK this (sK 8) _ _ ?_
          intro v55 v55' hv55
          subst hv55
          refine sm_if (cI_eq rfl (show (nI 0).toInt = 0 by decide)) ?_ ?_
          · exact hk66 _ _ (show ((-1) : Int32).toInt = (-1) by decide)
          · exact hk66 _ _ (show (nI 4).toInt = 4 by decide)
        · exact hk66 _ _ (show (nI 3).toInt = 3 by decide)
      · exact hk66 _ _ (show (nI 2).toInt = 2 by decide)
    · exact hk66 _ _ (show (nI 1).toInt = 1 by decide)
  · exact hk66 _ _ (show (nI 0).toInt = 0 by decide)
theorem sm_X11_keepsAt : ∀ (x0 : Nat), ∀ (x1 : Int32) (X1 : Int), x1.toInt = X1 → ∀ (x2 : Int32) (X2 : Int), x2.toInt = X2 → ∀ (x3 : Int32 → JP) (X3 : Int → MP), (∀ (x0 : Int32) (X0 : Int), x0.toInt = X0 → SM (x3 x0) (X3 X0)) → SM (JX11_keepsAt x0 x1 x2 x3) (MX11_keepsAt x0 X1 X2 X3) := by
  intro this p1 p1' hp1 p2 p2' hp2 Qj Qj' hQj
  subst hp1
  subst hp2
  unfold JX11_keepsAt MX11_keepsAt
  refine sm_getA rfl (fun v1 => ?_)
  refine sm_astI rfl rfl ?_
  refine sm_if (cI_lt rfl (show (nI 0).toInt = 0 by decide)) ?_ ?_
  · exact hQj _ _ (show (nI 0).toInt = 0 by decide)
  · exact hQj _ _ (show (nI 1).toInt = 1 by decide)
theorem sm_X11_sign : ∀ (x0 : Nat), ∀ (x1 : Int32) (X1 : Int), x1.toInt = X1 → ∀ (x2 : Int32 → JP) (X2 : Int → MP), (∀ (x0 : Int32) (X0 : Int), x0.toInt = X0 → SM (x2 x0) (X2 X0)) → SM (JX11_sign x0 x1 x2) (MX11_sign x0 X1 X2) := by
  intro this p1 p1' hp1 Qj Qj' hQj
  subst hp1
  unfold JX11_sign MX11_sign
  refine sm_obj ?_
  refine sm_X11_blanks this _ _ ?_
  refine sm_obj ?_
  refine sm_X11_isAt this _ _ rfl _ _ rfl _ _ ?_
  intro v7 v7' hv7
  subst hv7
  refine sm_if (cI_eq rfl (show (nI 0).toInt = 0 by decide)) ?_ ?_
  · exact hQj _ _ (show (nI 0).toInt = 0 by decide)
  · refine sm_getI rfl (fun v17 => ?_)
    refine sm_putI rfl (tc_add rfl (show (nI 1).toInt = 1 by decide)) ?_
    exact hQj _ _ (show (nI 1).toInt = 1 by decide)
theorem sm_X11_factAt (sK : Nat → Nat) : ∀ (x0 : Nat), ∀ (x1 : Int32 → JP) (X1 : Int → MP), (∀ (x0 : Int32) (X0 : Int), x0.toInt = X0 → SM (x1 x0) (X1 X0)) → SM ((JX11_factAt sK) x0 x1) ((MX11_factAt sK) x0 X1) := by
  intro this Qj Qj' hQj
  unfold JX11_factAt MX11_factAt
  refine sm_obj ?_
  refine sm_X11_isWord sK this (sK 0) _ _ ?_
  intro v3 v3' hv3
  subst hv3
  refine sm_if (cI_eq rfl (show (nI 0).toInt = 0 by decide)) ?_ ?_
  · refine sm_obj ?_
    refine sm_X11_isWord sK this (sK 1) _ _ ?_
    intro v16 v16' hv16
    subst hv16
    refine sm_if (cI_eq rfl (show (nI 0).toInt = 0 by decide)) ?_ ?_
    · refine sm_obj ?_
      refine sm_X11_isWord sK this (sK 2) _ _ ?_
      intro v29 v29' hv29
      subst hv29
      refine sm_if (cI_eq rfl (show (nI 0).toInt = 0 by decide)) ?_ ?_
      · refine sm_obj ?_
        refine sm_X11_isWord sK this (sK 3) _ _ ?_
        intro v42 v42' hv42
        subst hv42
        refine sm_if (cI_eq rfl (show (nI 0).toInt = 0 by decide)) ?_ ?_
        · exact hQj _ _ (show ((-1) : Int32).toInt = (-1) by decide)
        · exact hQj _ _ (show (nI 3).toInt = 3 by decide)
      · exact hQj _ _ (show (nI 2).toInt = 2 by decide)
    · exact hQj _ _ (show (nI 1).toInt = 1 by decide)
  · exact hQj _ _ (show (nI 0).toInt = 0 by decide)
theorem sm_X11_passes (sK : Nat → Nat) : ∀ (x0 : Nat), ∀ (x1 : Nat), ∀ (x2 : Int32 → JP) (X2 : Int → MP), (∀ (x0 : Int32) (X0 : Int), x0.toInt = X0 → SM (x2 x0) (X2 X0)) → SM ((JX11_passes sK) x0 x1 x2) ((MX11_passes sK) x0 x1 X2) := by
  intro this p1 Qj Qj' hQj
  unfold JX11_passes MX11_passes
  refine sm_obj ?_
  refine sm_X11_letters this _ _ ?_
  refine sm_obj ?_
  refine sm_X11_isWord sK this p1 _ _ ?_
  intro v6 v6' hv6
  subst hv6
  refine sm_if (cI_eq rfl (show (nI 0).toInt = 0 by decide)) ?_ ?_
  · refine sm_getI rfl (fun v16 => ?_)
    refine sm_putI rfl rfl ?_
    exact hQj _ _ (show (nI 0).toInt = 0 by decide)
  · exact hQj _ _ (show (nI 1).toInt = 1 by decide)
theorem sm_X11_emits : ∀ (x0 : Nat), ∀ (x1 : Int32) (X1 : Int), x1.toInt = X1 → ∀ (x2 : Int32) (X2 : Int), x2.toInt = X2 → ∀ (x3 : JP) (X3 : MP), SM x3 X3 → SM (JX11_emits x0 x1 x2 x3) (MX11_emits x0 X1 X2 X3) := by
  intro this p1 p1' hp1 p2 p2' hp2 Qj Qj' hQj
  subst hp1
  subst hp2
  unfold JX11_emits MX11_emits
  refine sm_getI rfl (fun v5 => ?_)
  refine sm_getA rfl (fun v12 => ?_)
  refine sm_astI (tc_add (show (nI 1325).toInt = 1325 by decide) (tc_mul (show (nI 2).toInt = 2 by decide) rfl)) rfl ?_
  refine sm_getA rfl (fun v19 => ?_)
  refine sm_astI (tc_add (tc_add (show (nI 1325).toInt = 1325 by decide) (tc_mul (show (nI 2).toInt = 2 by decide) rfl)) (show (nI 1).toInt = 1 by decide)) rfl ?_
  refine sm_getI rfl (fun v29 => ?_)
  refine sm_putI rfl (tc_add rfl (show (nI 1).toInt = 1 by decide)) ?_
  exact hQj
theorem sm_X11_readPart (sK : Nat → Nat) : ∀ (x0 : Nat), ∀ (x1 : Int32 → JP) (X1 : Int → MP), (∀ (x0 : Int32) (X0 : Int), x0.toInt = X0 → SM (x1 x0) (X1 X0)) → SM ((JX11_readPart sK) x0 x1) ((MX11_readPart sK) x0 X1) := by
  intro this Qj Qj' hQj
  unfold JX11_readPart MX11_readPart
  refine sm_obj ?_
  refine sm_X11_letters this _ _ ?_
  refine sm_getI rfl (fun v7 => ?_)
  refine sm_getI rfl (fun v11 => ?_)
  refine sm_join (fun (k47 : Int32 → JP) (k47' : Int → MP) => ∀ (x0 : Int32) (X0 : Int), x0.toInt = X0 → SM (k47 x0) (k47' X0)) ?_ (fun k47 k47' hk47 => ?_)
  · intro x1_47 x1_47' hx1_47
    subst hx1_47
    refine sm_if (cI_lt rfl (show (nI 0).toInt = 0 by decide)) ?_ ?_
    · exact hQj _ _ (show (nI 0).toInt = 0 by decide)
    · exact hQj _ _ (show (nI 1).toInt = 1 by decide)
  refine sm_if (cI_le rfl rfl) ?_ ?_
  · refine sm_obj ?_
    refine sm_X11_number this _ _ (show (nI 0).toInt = 0 by decide) _ _ (show (nI 999).toInt = 999 by decide) _ _ ?_
    intro v36 v36' hv36
    subst hv36
    refine sm_obj ?_
    refine sm_X11_emits this _ _ (show (nI 6).toInt = 6 by decide) _ _ rfl _ _ ?_
    exact hk47 _ _ rfl
  · refine sm_obj ?_
    refine sm_X11_factAt sK this _ _ ?_
    intro v18 v18' hv18
    subst hv18
    refine sm_obj ?_
    refine sm_X11_emits this _ _ rfl _ _ (show (nI 0).toInt = 0 by decide) _ _ ?_
    exact hk47 _ _ rfl
theorem smFX11_readSum_9 (sK : Nat → Nat) (this : Nat) {Qj : Int32 → JP} {Qj' : Int → MP} (hQj : ∀ (x0 : Int32) (X0 : Int), x0.toInt = X0 → SM (Qj x0) (Qj' X0)) : ∀ n : Nat, SM (jit (FX11_readSum_9 sK this Qj) jbot n) (jit (GX11_readSum_9 sK this Qj') mbot n) := by
  intro n
  induction n with
  | zero =>
    exact SM.bot
  | succ n ih =>
    show SM (FX11_readSum_9 sK this Qj (jit (FX11_readSum_9 sK this Qj) jbot n)) (GX11_readSum_9 sK this Qj' (jit (GX11_readSum_9 sK this Qj') mbot n))
    generalize jit (FX11_readSum_9 sK this Qj) jbot n = rec9 at ih ⊢
    generalize jit (GX11_readSum_9 sK this Qj') mbot n = rec9' at ih ⊢
    have hrec9 := ih
    unfold FX11_readSum_9 GX11_readSum_9
    refine sm_obj ?_
    refine sm_X11_sign this _ _ (show (nI 43).toInt = 43 by decide) _ _ ?_
    intro v12 v12' hv12
    subst hv12
    refine sm_if (cI_eq rfl (show (nI 0).toInt = 0 by decide)) ?_ ?_
    · exact hQj _ _ (show (nI 1).toInt = 1 by decide)
    · refine sm_obj ?_
      refine sm_X11_readPart sK this _ _ ?_
      intro v19 v19' hv19
      subst hv19
      refine sm_if (cI_eq rfl (show (nI 0).toInt = 0 by decide)) ?_ ?_
      · exact hQj _ _ (show (nI 0).toInt = 0 by decide)
      · refine sm_obj ?_
        exact sm_X11_emits this _ _ (show (nI 7).toInt = 7 by decide) _ _ (show (nI 0).toInt = 0 by decide) _ _ hrec9
theorem sm_X11_readSum (sK : Nat → Nat) : ∀ (x0 : Nat), ∀ (x1 : Int32 → JP) (X1 : Int → MP), (∀ (x0 : Int32) (X0 : Int), x0.toInt = X0 → SM (x1 x0) (X1 X0)) → SM ((JX11_readSum sK) x0 x1) ((MX11_readSum sK) x0 X1) := by
  intro this Qj Qj' hQj
  unfold JX11_readSum MX11_readSum
  refine sm_obj ?_
  refine sm_X11_readPart sK this _ _ ?_
  intro v1 v1' hv1
  subst hv1
  refine sm_if (cI_eq rfl (show (nI 0).toInt = 0 by decide)) ?_ ?_
  · exact hQj _ _ (show (nI 0).toInt = 0 by decide)
  · refine sm_ex (fun n9 => ?_)
    refine smFX11_readSum_9 sK this hQj n9
theorem smFX11_readAllOf_9 (sK : Nat → Nat) {rJX11_readAtom : Nat → (Int32 → JP) → JP} {rJX11_readAtom' : Nat → (Int → MP) → MP} (hrJX11_readAtom : ∀ (x0 : Nat), ∀ (x1 : Int32 → JP) (X1 : Int → MP), (∀ (x0 : Int32) (X0 : Int), x0.toInt = X0 → SM (x1 x0) (X1 X0)) → SM (rJX11_readAtom x0 x1) (rJX11_readAtom' x0 X1)) (this : Nat) {Qj : Int32 → JP} {Qj' : Int → MP} (hQj : ∀ (x0 : Int32) (X0 : Int), x0.toInt = X0 → SM (Qj x0) (Qj' X0)) : ∀ n : Nat, SM (jit (FX11_readAllOf_9 sK rJX11_readAtom this Qj) jbot n) (jit (GX11_readAllOf_9 sK rJX11_readAtom' this Qj') mbot n) := by
  intro n
  induction n with
  | zero =>
    exact SM.bot
  | succ n ih =>
    show SM (FX11_readAllOf_9 sK rJX11_readAtom this Qj (jit (FX11_readAllOf_9 sK rJX11_readAtom this Qj) jbot n)) (GX11_readAllOf_9 sK rJX11_readAtom' this Qj' (jit (GX11_readAllOf_9 sK rJX11_readAtom' this Qj') mbot n))
    generalize jit (FX11_readAllOf_9 sK rJX11_readAtom this Qj) jbot n = rec9 at ih ⊢
    generalize jit (GX11_readAllOf_9 sK rJX11_readAtom' this Qj') mbot n = rec9' at ih ⊢
    have hrec9 := ih
    unfold FX11_readAllOf_9 GX11_readAllOf_9
    refine sm_obj ?_
    refine sm_X11_passes sK this (sK 11) _ _ ?_
    intro v12 v12' hv12
    subst hv12
    refine sm_if (cI_eq rfl (show (nI 0).toInt = 0 by decide)) ?_ ?_
    · exact hQj _ _ (show (nI 1).toInt = 1 by decide)
    · refine sm_obj ?_
      refine hrJX11_readAtom this _ _ ?_
      intro v19 v19' hv19
      subst hv19
      refine sm_if (cI_eq rfl (show (nI 0).toInt = 0 by decide)) ?_ ?_
      · exact hQj _ _ (show (nI 0).toInt = 0 by decide)
      · refine sm_obj ?_
        exact sm_X11_emits this _ _ (show (nI 11).toInt = 11 by decide) _ _ (show (nI 0).toInt = 0 by decide) _ _ hrec9
theorem sm_X11_readAllOfF (sK : Nat → Nat) {rJX11_readAllOf : Nat → (Int32 → JP) → JP} {rJX11_readAllOf' : Nat → (Int → MP) → MP} (hrJX11_readAllOf : ∀ (x0 : Nat), ∀ (x1 : Int32 → JP) (X1 : Int → MP), (∀ (x0 : Int32) (X0 : Int), x0.toInt = X0 → SM (x1 x0) (X1 X0)) → SM (rJX11_readAllOf x0 x1) (rJX11_readAllOf' x0 X1)) {rJX11_readAtom : Nat → (Int32 → JP) → JP} {rJX11_readAtom' : Nat → (Int → MP) → MP} (hrJX11_readAtom : ∀ (x0 : Nat), ∀ (x1 : Int32 → JP) (X1 : Int → MP), (∀ (x0 : Int32) (X0 : Int), x0.toInt = X0 → SM (x1 x0) (X1 X0)) → SM (rJX11_readAtom x0 x1) (rJX11_readAtom' x0 X1)) {rJX11_readCond : Nat → (Int32 → JP) → JP} {rJX11_readCond' : Nat → (Int → MP) → MP} (hrJX11_readCond : ∀ (x0 : Nat), ∀ (x1 : Int32 → JP) (X1 : Int → MP), (∀ (x0 : Int32) (X0 : Int), x0.toInt = X0 → SM (x1 x0) (X1 X0)) → SM (rJX11_readCond x0 x1) (rJX11_readCond' x0 X1)) : ∀ (x0 : Nat), ∀ (x1 : Int32 → JP) (X1 : Int → MP), (∀ (x0 : Int32) (X0 : Int), x0.toInt = X0 → SM (x1 x0) (X1 X0)) → SM ((JX11_readAllOfF sK rJX11_readAllOf rJX11_readAtom rJX11_readCond) x0 x1) ((MX11_readAllOfF sK rJX11_readAllOf' rJX11_readAtom' rJX11_readCond') x0 X1) := by
  intro this Qj Qj' hQj
  unfold JX11_readAllOfF MX11_readAllOfF
  refine sm_obj ?_
  refine hrJX11_readAtom this _ _ ?_
  intro v1 v1' hv1
  subst hv1
  refine sm_if (cI_eq rfl (show (nI 0).toInt = 0 by decide)) ?_ ?_
  · exact hQj _ _ (show (nI 0).toInt = 0 by decide)
  · refine sm_ex (fun n9 => ?_)
    refine smFX11_readAllOf_9 sK hrJX11_readAtom this hQj n9
theorem sm_X11_readAtomF (sK : Nat → Nat) {rJX11_readAllOf : Nat → (Int32 → JP) → JP} {rJX11_readAllOf' : Nat → (Int → MP) → MP} (hrJX11_readAllOf : ∀ (x0 : Nat), ∀ (x1 : Int32 → JP) (X1 : Int → MP), (∀ (x0 : Int32) (X0 : Int), x0.toInt = X0 → SM (x1 x0) (X1 X0)) → SM (rJX11_readAllOf x0 x1) (rJX11_readAllOf' x0 X1)) {rJX11_readAtom : Nat → (Int32 → JP) → JP} {rJX11_readAtom' : Nat → (Int → MP) → MP} (hrJX11_readAtom : ∀ (x0 : Nat), ∀ (x1 : Int32 → JP) (X1 : Int → MP), (∀ (x0 : Int32) (X0 : Int), x0.toInt = X0 → SM (x1 x0) (X1 X0)) → SM (rJX11_readAtom x0 x1) (rJX11_readAtom' x0 X1)) {rJX11_readCond : Nat → (Int32 → JP) → JP} {rJX11_readCond' : Nat → (Int → MP) → MP} (hrJX11_readCond : ∀ (x0 : Nat), ∀ (x1 : Int32 → JP) (X1 : Int → MP), (∀ (x0 : Int32) (X0 : Int), x0.toInt = X0 → SM (x1 x0) (X1 X0)) → SM (rJX11_readCond x0 x1) (rJX11_readCond' x0 X1)) : ∀ (x0 : Nat), ∀ (x1 : Int32 → JP) (X1 : Int → MP), (∀ (x0 : Int32) (X0 : Int), x0.toInt = X0 → SM (x1 x0) (X1 X0)) → SM ((JX11_readAtomF sK rJX11_readAllOf rJX11_readAtom rJX11_readCond) x0 x1) ((MX11_readAtomF sK rJX11_readAllOf' rJX11_readAtom' rJX11_readCond') x0 X1) := by
  intro this Qj Qj' hQj
  unfold JX11_readAtomF MX11_readAtomF
  refine sm_obj ?_
  refine sm_X11_sign this _ _ (show (nI 40).toInt = 40 by decide) _ _ ?_
  intro v3 v3' hv3
  subst hv3
  refine sm_if (cI_eq rfl (show (nI 0).toInt = 0 by decide)) ?_ ?_
  · refine sm_obj ?_
    refine sm_X11_passes sK this (sK 13) _ _ ?_
    intro v59 v59' hv59
    subst hv59
    refine sm_if (cI_eq rfl (show (nI 0).toInt = 0 by decide)) ?_ ?_
    · refine sm_obj ?_
      refine sm_X11_passes sK this (sK 14) _ _ ?_
      intro v117 v117' hv117
      subst hv117
      refine sm_join (fun (k134 : JP) (k134' : MP) => SM k134 k134') ?_ (fun k134 k134' hk134 => ?_)
      · refine sm_join (fun (k144 : Int32 → JP) (k144' : Int → MP) => ∀ (x0 : Int32) (X0 : Int), x0.toInt = X0 → SM (k144 x0) (k144' X0)) ?_ (fun k144 k144' hk144 => ?_)
        · intro s1_144 s1_144' hs1_144
          subst hs1_144
          refine sm_obj ?_
          refine sm_X11_emits this _ _ rfl _ _ (show (nI 0).toInt = 0 by decide) _ _ ?_
          exact hQj _ _ (show (nI 1).toInt = 1 by decide)
        refine sm_if (cI_eq rfl (show (nI 0).toInt = 0 by decide)) ?_ ?_
        · exact hk144 _ _ (show (nI 5).toInt = 5 by decide)
        · exact hk144 _ _ (show (nI 4).toInt = 4 by decide)
      refine sm_if (cI_eq rfl (show (nI 0).toInt = 0 by decide)) ?_ ?_
      · refine sm_obj ?_
        refine sm_X11_passes sK this (sK 15) _ _ ?_
        intro v128 v128' hv128
        subst hv128
        refine sm_if (cI_eq rfl (show (nI 0).toInt = 0 by decide)) ?_ ?_
        · refine sm_obj ?_
          refine sm_X11_readSum sK this _ _ ?_
          intro v151 v151' hv151
          subst hv151
          refine sm_if (cI_eq rfl (show (nI 0).toInt = 0 by decide)) ?_ ?_
          · exact hQj _ _ (show (nI 0).toInt = 0 by decide)
          · refine sm_obj ?_
            refine sm_X11_sign this _ _ (show (nI 60).toInt = 60 by decide) _ _ ?_
            intro v162 v162' hv162
            subst hv162
            refine sm_join (fun (k179 : JP) (k179' : MP) => SM k179 k179') ?_ (fun k179 k179' hk179 => ?_)
            · refine sm_obj ?_
              refine sm_X11_readSum sK this _ _ ?_
              intro v180 v180' hv180
              subst hv180
              refine sm_if (cI_eq rfl (show (nI 0).toInt = 0 by decide)) ?_ ?_
              · exact hQj _ _ (show (nI 0).toInt = 0 by decide)
              · refine sm_join (fun (k200 : Int32 → JP) (k200' : Int → MP) => ∀ (x0 : Int32) (X0 : Int), x0.toInt = X0 → SM (k200 x0) (k200' X0)) ?_ (fun k200 k200' hk200 => ?_)
                · intro s1_200 s1_200' hs1_200
                  subst hs1_200
                  refine sm_obj ?_
                  refine sm_X11_emits this _ _ rfl _ _ (show (nI 0).toInt = 0 by decide) _ _ ?_
                  exact hQj _ _ (show (nI 1).toInt = 1 by decide)
                refine sm_if (cI_eq rfl (show (nI 0).toInt = 0 by decide)) ?_ ?_
                · exact hk200 _ _ (show (nI 9).toInt = 9 by decide)
                · exact hk200 _ _ (show (nI 8).toInt = 8 by decide)
            refine sm_if (cI_eq rfl (show (nI 0).toInt = 0 by decide)) ?_ ?_
            · refine sm_obj ?_
              refine sm_X11_sign this _ _ (show (nI 62).toInt = 62 by decide) _ _ ?_
              intro v173 v173' hv173
              subst hv173
              refine sm_if (cI_eq rfl (show (nI 0).toInt = 0 by decide)) ?_ ?_
              · exact hQj _ _ (show (nI 0).toInt = 0 by decide)
              · exact hk179
            · exact hk179
        · exact hk134
      · exact hk134
    · refine sm_getI rfl (fun v66 => ?_)
      refine sm_if (cI_eq rfl (show (nI 6).toInt = 6 by decide)) ?_ ?_
      · exact hQj _ _ (show (nI 0).toInt = 0 by decide)
      · refine sm_getI rfl (fun v78 => ?_)
        refine sm_putI rfl (tc_add rfl (show (nI 1).toInt = 1 by decide)) ?_
        refine sm_obj ?_
        refine hrJX11_readAtom this _ _ ?_
        intro v87 v87' hv87
        subst hv87
        refine sm_if (cI_eq rfl (show (nI 0).toInt = 0 by decide)) ?_ ?_
        · exact hQj _ _ (show (nI 0).toInt = 0 by decide)
        · refine sm_getI rfl (fun v97 => ?_)
          refine sm_putI rfl (tc_sub rfl (show (nI 1).toInt = 1 by decide)) ?_
          refine sm_obj ?_
          refine sm_X11_emits this _ _ (show (nI 10).toInt = 10 by decide) _ _ (show (nI 0).toInt = 0 by decide) _ _ ?_
          exact hQj _ _ (show (nI 1).toInt = 1 by decide)
  · refine sm_getI rfl (fun v10 => ?_)
    refine sm_if (cI_eq rfl (show (nI 6).toInt = 6 by decide)) ?_ ?_
    · exact hQj _ _ (show (nI 0).toInt = 0 by decide)
    · refine sm_getI rfl (fun v22 => ?_)
      refine sm_putI rfl (tc_add rfl (show (nI 1).toInt = 1 by decide)) ?_
      refine sm_obj ?_
      refine hrJX11_readCond this _ _ ?_
      intro v31 v31' hv31
      subst hv31
      refine sm_if (cI_eq rfl (show (nI 0).toInt = 0 by decide)) ?_ ?_
      · exact hQj _ _ (show (nI 0).toInt = 0 by decide)
      · refine sm_getI rfl (fun v41 => ?_)
        refine sm_putI rfl (tc_sub rfl (show (nI 1).toInt = 1 by decide)) ?_
        refine sm_obj ?_
        refine sm_X11_sign this _ _ (show (nI 41).toInt = 41 by decide) _ _ ?_
        intro v52 v52' hv52
        subst hv52
        refine sm_and (fun h => h.imp (cI_eq rfl (show (nI 0).toInt = 0 by decide)).mpr (cI_eq rfl (show (nI 1).toInt = 1 by decide)).mpr) ?_
        exact hQj _ _ rfl
theorem smFX11_readCond_9 (sK : Nat → Nat) {rJX11_readAllOf : Nat → (Int32 → JP) → JP} {rJX11_readAllOf' : Nat → (Int → MP) → MP} (hrJX11_readAllOf : ∀ (x0 : Nat), ∀ (x1 : Int32 → JP) (X1 : Int → MP), (∀ (x0 : Int32) (X0 : Int), x0.toInt = X0 → SM (x1 x0) (X1 X0)) → SM (rJX11_readAllOf x0 x1) (rJX11_readAllOf' x0 X1)) (this : Nat) {Qj : Int32 → JP} {Qj' : Int → MP} (hQj : ∀ (x0 : Int32) (X0 : Int), x0.toInt = X0 → SM (Qj x0) (Qj' X0)) : ∀ n : Nat, SM (jit (FX11_readCond_9 sK rJX11_readAllOf this Qj) jbot n) (jit (GX11_readCond_9 sK rJX11_readAllOf' this Qj') mbot n) := by
  intro n
  induction n with
  | zero =>
    exact SM.bot
  | succ n ih =>
    show SM (FX11_readCond_9 sK rJX11_readAllOf this Qj (jit (FX11_readCond_9 sK rJX11_readAllOf this Qj) jbot n)) (GX11_readCond_9 sK rJX11_readAllOf' this Qj' (jit (GX11_readCond_9 sK rJX11_readAllOf' this Qj') mbot n))
    generalize jit (FX11_readCond_9 sK rJX11_readAllOf this Qj) jbot n = rec9 at ih ⊢
    generalize jit (GX11_readCond_9 sK rJX11_readAllOf' this Qj') mbot n = rec9' at ih ⊢
    have hrec9 := ih
    unfold FX11_readCond_9 GX11_readCond_9
    refine sm_obj ?_
    refine sm_X11_passes sK this (sK 12) _ _ ?_
    intro v12 v12' hv12
    subst hv12
    refine sm_if (cI_eq rfl (show (nI 0).toInt = 0 by decide)) ?_ ?_
    · exact hQj _ _ (show (nI 1).toInt = 1 by decide)
    · refine sm_obj ?_
      refine hrJX11_readAllOf this _ _ ?_
      intro v19 v19' hv19
      subst hv19
      refine sm_if (cI_eq rfl (show (nI 0).toInt = 0 by decide)) ?_ ?_
      · exact hQj _ _ (show (nI 0).toInt = 0 by decide)
      · refine sm_obj ?_
        exact sm_X11_emits this _ _ (show (nI 12).toInt = 12 by decide) _ _ (show (nI 0).toInt = 0 by decide) _ _ hrec9
theorem sm_X11_readCondF (sK : Nat → Nat) {rJX11_readAllOf : Nat → (Int32 → JP) → JP} {rJX11_readAllOf' : Nat → (Int → MP) → MP} (hrJX11_readAllOf : ∀ (x0 : Nat), ∀ (x1 : Int32 → JP) (X1 : Int → MP), (∀ (x0 : Int32) (X0 : Int), x0.toInt = X0 → SM (x1 x0) (X1 X0)) → SM (rJX11_readAllOf x0 x1) (rJX11_readAllOf' x0 X1)) {rJX11_readAtom : Nat → (Int32 → JP) → JP} {rJX11_readAtom' : Nat → (Int → MP) → MP} (hrJX11_readAtom : ∀ (x0 : Nat), ∀ (x1 : Int32 → JP) (X1 : Int → MP), (∀ (x0 : Int32) (X0 : Int), x0.toInt = X0 → SM (x1 x0) (X1 X0)) → SM (rJX11_readAtom x0 x1) (rJX11_readAtom' x0 X1)) {rJX11_readCond : Nat → (Int32 → JP) → JP} {rJX11_readCond' : Nat → (Int → MP) → MP} (hrJX11_readCond : ∀ (x0 : Nat), ∀ (x1 : Int32 → JP) (X1 : Int → MP), (∀ (x0 : Int32) (X0 : Int), x0.toInt = X0 → SM (x1 x0) (X1 X0)) → SM (rJX11_readCond x0 x1) (rJX11_readCond' x0 X1)) : ∀ (x0 : Nat), ∀ (x1 : Int32 → JP) (X1 : Int → MP), (∀ (x0 : Int32) (X0 : Int), x0.toInt = X0 → SM (x1 x0) (X1 X0)) → SM ((JX11_readCondF sK rJX11_readAllOf rJX11_readAtom rJX11_readCond) x0 x1) ((MX11_readCondF sK rJX11_readAllOf' rJX11_readAtom' rJX11_readCond') x0 X1) := by
  intro this Qj Qj' hQj
  unfold JX11_readCondF MX11_readCondF
  refine sm_obj ?_
  refine hrJX11_readAllOf this _ _ ?_
  intro v1 v1' hv1
  subst hv1
  refine sm_if (cI_eq rfl (show (nI 0).toInt = 0 by decide)) ?_ ?_
  · exact hQj _ _ (show (nI 0).toInt = 0 by decide)
  · refine sm_ex (fun n9 => ?_)
    refine smFX11_readCond_9 sK hrJX11_readAllOf this hQj n9
theorem sm_X11_readAllOfR (sK : Nat → Nat) : ∀ n : Nat, (∀ (x0 : Nat), ∀ (x1 : Int32 → JP) (X1 : Int → MP), (∀ (x0 : Int32) (X0 : Int), x0.toInt = X0 → SM (x1 x0) (X1 X0)) → SM (JX11_readAllOf sK n x0 x1) (MX11_readAllOf sK n x0 X1)) ∧ (∀ (x0 : Nat), ∀ (x1 : Int32 → JP) (X1 : Int → MP), (∀ (x0 : Int32) (X0 : Int), x0.toInt = X0 → SM (x1 x0) (X1 X0)) → SM (JX11_readAtom sK n x0 x1) (MX11_readAtom sK n x0 X1)) ∧ (∀ (x0 : Nat), ∀ (x1 : Int32 → JP) (X1 : Int → MP), (∀ (x0 : Int32) (X0 : Int), x0.toInt = X0 → SM (x1 x0) (X1 X0)) → SM (JX11_readCond sK n x0 x1) (MX11_readCond sK n x0 X1)) := by
  intro n
  induction n with
  | zero =>
    exact ⟨(by intros; exact SM.bot), (by intros; exact SM.bot), (by intros; exact SM.bot)⟩
  | succ n ih =>
    exact ⟨(sm_X11_readAllOfF sK ih.1 ih.2.1 ih.2.2), (sm_X11_readAtomF sK ih.1 ih.2.1 ih.2.2), (sm_X11_readCondF sK ih.1 ih.2.1 ih.2.2)⟩
theorem sm_X11_readAllOf (sK : Nat → Nat) (n : Nat) : ∀ (x0 : Nat), ∀ (x1 : Int32 → JP) (X1 : Int → MP), (∀ (x0 : Int32) (X0 : Int), x0.toInt = X0 → SM (x1 x0) (X1 X0)) → SM (JX11_readAllOf sK n x0 x1) (MX11_readAllOf sK n x0 X1) := (sm_X11_readAllOfR sK n).1
theorem sm_X11_readAtom (sK : Nat → Nat) (n : Nat) : ∀ (x0 : Nat), ∀ (x1 : Int32 → JP) (X1 : Int → MP), (∀ (x0 : Int32) (X0 : Int), x0.toInt = X0 → SM (x1 x0) (X1 X0)) → SM (JX11_readAtom sK n x0 x1) (MX11_readAtom sK n x0 X1) := (sm_X11_readAllOfR sK n).2.1
theorem sm_X11_readCond (sK : Nat → Nat) (n : Nat) : ∀ (x0 : Nat), ∀ (x1 : Int32 → JP) (X1 : Int → MP), (∀ (x0 : Int32) (X0 : Int), x0.toInt = X0 → SM (x1 x0) (X1 X0)) → SM (JX11_readCond sK n x0 x1) (MX11_readCond sK n x0 X1) := (sm_X11_readAllOfR sK n).2.2
theorem sm_X11_readMeasureLine (sK : Nat → Nat) : ∀ (x0 : Nat), ∀ (x1 : Int32) (X1 : Int), x1.toInt = X1 → ∀ (x2 : Int32 → JP) (X2 : Int → MP), (∀ (x0 : Int32) (X0 : Int), x0.toInt = X0 → SM (x2 x0) (X2 X0)) → SM ((JX11_readMeasureLine sK) x0 x1 x2) ((MX11_readMeasureLine sK) x0 X1 X2) := by
  intro this p1 p1' hp1 Qj Qj' hQj
  subst hp1
  unfold JX11_readMeasureLine MX11_readMeasureLine
  refine sm_obj ?_
  refine sm_X11_isWord sK this (sK 9) _ _ ?_
  intro v11 v11' hv11
  subst hv11
  refine sm_if (cI_eq rfl (show (nI 0).toInt = 0 by decide)) ?_ ?_
  · exact hQj _ _ (show (nI 0).toInt = 0 by decide)
  · refine sm_obj ?_
    refine sm_X11_number this _ _ (show (nI 0).toInt = 0 by decide) _ _ (show (nI 999).toInt = 999 by decide) _ _ ?_
    intro v24 v24' hv24
    subst hv24
    refine sm_obj ?_
    refine sm_X11_keepsAt this _ _ (tc_add (show (nI 1285).toInt = 1285 by decide) (tc_mul (show (nI 4).toInt = 4 by decide) rfl)) _ _ rfl _ _ ?_
    intro v27 v27' hv27
    subst hv27
    refine sm_if (cI_eq rfl (show (nI 0).toInt = 0 by decide)) ?_ ?_
    · exact hQj _ _ (show (nI 0).toInt = 0 by decide)
    · refine sm_getA rfl (fun v36 => ?_)
      refine sm_astI (tc_add (tc_add (show (nI 1285).toInt = 1285 by decide) (tc_mul (show (nI 4).toInt = 4 by decide) rfl)) (show (nI 1).toInt = 1 by decide)) (show ((-1) : Int32).toInt = (-1) by decide) ?_
      refine sm_obj ?_
      refine sm_X11_sign this _ _ (show (nI 42).toInt = 42 by decide) _ _ ?_
      intro v47 v47' hv47
      subst hv47
      refine sm_join (fun (k73 : JP) (k73' : MP) => SM k73 k73') ?_ (fun k73 k73' hk73 => ?_)
      · refine sm_getA rfl (fun v74 => ?_)
        refine sm_getI rfl (fun v81 => ?_)
        refine sm_astI (tc_add (tc_add (show (nI 1285).toInt = 1285 by decide) (tc_mul (show (nI 4).toInt = 4 by decide) rfl)) (show (nI 2).toInt = 2 by decide)) rfl ?_
        refine sm_putI rfl (show (nI 0).toInt = 0 by decide) ?_
        refine sm_obj ?_
        refine sm_X11_passes sK this (sK 10) _ _ ?_
        intro v93 v93' hv93
        subst hv93
        refine sm_join (fun (k108 : JP) (k108' : MP) => SM k108 k108') ?_ (fun k108 k108' hk108 => ?_)
        · refine sm_getA rfl (fun v109 => ?_)
          refine sm_getI rfl (fun v116 => ?_)
          refine sm_astI (tc_add (tc_add (show (nI 1285).toInt = 1285 by decide) (tc_mul (show (nI 4).toInt = 4 by decide) rfl)) (show (nI 3).toInt = 3 by decide)) rfl ?_
          exact hQj _ _ (show (nI 1).toInt = 1 by decide)
        refine sm_if (cI_eq rfl (show (nI 0).toInt = 0 by decide)) ?_ ?_
        · exact hk108
        · refine sm_obj ?_
          refine sm_X11_readCond sK 40 this _ _ ?_
          intro v100 v100' hv100
          subst hv100
          refine sm_if (cI_eq rfl (show (nI 0).toInt = 0 by decide)) ?_ ?_
          · exact hQj _ _ (show (nI 0).toInt = 0 by decide)
          · exact hk108
      refine sm_if (cI_eq rfl (show (nI 0).toInt = 0 by decide)) ?_ ?_
      · exact hk73
      · refine sm_obj ?_
        refine sm_X11_letters this _ _ ?_
        refine sm_obj ?_
        refine sm_X11_factAt sK this _ _ ?_
        intro v62 v62' hv62
        subst hv62
        refine sm_obj ?_
        refine sm_X11_keepsAt this _ _ (tc_add (tc_add (show (nI 1285).toInt = 1285 by decide) (tc_mul (show (nI 4).toInt = 4 by decide) rfl)) (show (nI 1).toInt = 1 by decide)) _ _ rfl _ _ ?_
        intro v65 v65' hv65
        subst hv65
        refine sm_if (cI_eq rfl (show (nI 0).toInt = 0 by decide)) ?_ ?_
        · exact hQj _ _ (show (nI 0).toInt = 0 by decide)
        · exact hk73
theorem smFX11_readAll_42 (sK : Nat → Nat) (this : Nat) (p1 : Int32) {Qj : Int32 → JP} {Qj' : Int → MP} (hQj : ∀ (x0 : Int32) (X0 : Int), x0.toInt = X0 → SM (Qj x0) (Qj' X0)) {k103 : Int32 → JP} {k103' : Int → MP} (hk103 : ∀ (x0 : Int32) (X0 : Int), x0.toInt = X0 → SM (k103 x0) (k103' X0)) : ∀ n : Nat, ∀ (x0 : Int32) (X0 : Int), x0.toInt = X0 → SM (jit (FX11_readAll_42 sK this p1 Qj k103) (fun _ => jbot) n x0) (jit (GX11_readAll_42 sK this p1.toInt Qj' k103') (fun _ => mbot) n X0) := by
  intro n
  induction n with
  | zero =>
    intro x2_42 x2_42' hx2_42
    exact SM.bot
  | succ n ih =>
    intro x2_42 x2_42' hx2_42
    subst hx2_42
    show SM (FX11_readAll_42 sK this p1 Qj k103 (jit (FX11_readAll_42 sK this p1 Qj k103) (fun _ => jbot) n) x2_42) (GX11_readAll_42 sK this p1.toInt Qj' k103' (jit (GX11_readAll_42 sK this p1.toInt Qj' k103') (fun _ => mbot) n) x2_42.toInt)
    generalize jit (FX11_readAll_42 sK this p1 Qj k103) (fun _ => jbot) n = rec42 at ih ⊢
    generalize jit (GX11_readAll_42 sK this p1.toInt Qj' k103') (fun _ => mbot) n = rec42' at ih ⊢
    have hrec42 := ih
    unfold FX11_readAll_42 GX11_readAll_42
    refine sm_obj ?_
    refine sm_X11_letters this _ _ ?_
    refine sm_join (fun (k58 : Int32 → JP) (k58' : Int → MP) => ∀ (x0 : Int32) (X0 : Int), x0.toInt = X0 → SM (k58 x0) (k58' X0)) ?_ (fun k58 k58' hk58 => ?_)
    · intro s1_58 s1_58' hs1_58
      subst hs1_58
      refine sm_if (cI_eq rfl rfl) ?_ ?_
      · exact hQj _ _ (show ((-1) : Int32).toInt = (-1) by decide)
      · refine sm_join (fun (k88 : JP) (k88' : MP) => SM k88 k88') ?_ (fun k88 k88' hk88 => ?_)
        · refine sm_obj ?_
          refine sm_X11_blanks this _ _ ?_
          refine sm_getI rfl (fun v93 => ?_)
          refine sm_getI rfl (fun v97 => ?_)
          refine sm_if (cI_eq rfl rfl) ?_ ?_
          · exact hk103 _ _ rfl
          · refine sm_obj ?_
            refine sm_X11_isAt this _ _ (show (nI 59).toInt = 59 by decide) _ _ (show (nI 59).toInt = 59 by decide) _ _ ?_
            intro v112 v112' hv112
            subst hv112
            refine sm_if (cI_eq rfl (show (nI 0).toInt = 0 by decide)) ?_ ?_
            · exact hQj _ _ (show ((-1) : Int32).toInt = (-1) by decide)
            · refine sm_getI rfl (fun v122 => ?_)
              refine sm_putI rfl (tc_add rfl (show (nI 1).toInt = 1 by decide)) ?_
              exact hrec42 _ _ (tc_add rfl (show (nI 1).toInt = 1 by decide))
        refine sm_if (cI_eq rfl (show (nI 0).toInt = 0 by decide)) ?_ ?_
        · refine sm_obj ?_
          refine sm_X11_readMeasureLine sK this _ _ rfl _ _ ?_
          intro v80 v80' hv80
          subst hv80
          refine sm_if (cI_eq rfl (show (nI 0).toInt = 0 by decide)) ?_ ?_
          · exact hQj _ _ (show ((-1) : Int32).toInt = (-1) by decide)
          · exact hk88
        · refine sm_obj ?_
          refine sm_X11_readKindLine sK this _ _ rfl _ _ ?_
          intro v69 v69' hv69
          subst hv69
          refine sm_if (cI_eq rfl (show (nI 0).toInt = 0 by decide)) ?_ ?_
          · exact hQj _ _ (show ((-1) : Int32).toInt = (-1) by decide)
          · exact hk88
    refine sm_if (cI_eq rfl (show (nI 0).toInt = 0 by decide)) ?_ ?_
    · exact hk58 _ _ (show (nI 10).toInt = 10 by decide)
    · exact hk58 _ _ (show (nI 6).toInt = 6 by decide)
theorem sm_X11_readAll (sK : Nat → Nat) : ∀ (x0 : Nat), ∀ (x1 : Int32) (X1 : Int), x1.toInt = X1 → ∀ (x2 : Int32 → JP) (X2 : Int → MP), (∀ (x0 : Int32) (X0 : Int), x0.toInt = X0 → SM (x2 x0) (X2 X0)) → SM ((JX11_readAll sK) x0 x1 x2) ((MX11_readAll sK) x0 X1 X2) := by
  intro this p1 p1' hp1 Qj Qj' hQj
  subst hp1
  unfold JX11_readAll MX11_readAll
  refine sm_getI rfl (fun v2 => ?_)
  refine sm_putI rfl rfl ?_
  refine sm_putI rfl (show (nI 0).toInt = 0 by decide) ?_
  refine sm_putI rfl (show (nI 0).toInt = 0 by decide) ?_
  refine sm_putI rfl (show (nI 0).toInt = 0 by decide) ?_
  refine sm_obj ?_
  refine sm_X11_blanks this _ _ ?_
  refine sm_getI rfl (fun v28 => ?_)
  refine sm_getI rfl (fun v32 => ?_)
  refine sm_if (cI_eq rfl rfl) ?_ ?_
  · exact hQj _ _ (show (nI 0).toInt = 0 by decide)
  · refine sm_ex (fun n42 => ?_)
    refine smFX11_readAll_42 sK this p1 hQj ?_ n42 _ _ (show (nI 0).toInt = 0 by decide)
    · intro y2_103 y2_103' hy2_103
      subst hy2_103
      exact hQj _ _ (tc_add rfl (show (nI 1).toInt = 1 by decide))
theorem sm_X11_in : ∀ (x0 : Int32) (X0 : Int), x0.toInt = X0 → ∀ (x1 : Int32) (X1 : Int), x1.toInt = X1 → ∀ (x2 : Int32) (X2 : Int), x2.toInt = X2 → ∀ (x3 : Int32 → JP) (X3 : Int → MP), (∀ (x0 : Int32) (X0 : Int), x0.toInt = X0 → SM (x3 x0) (X3 X0)) → SM (JX11_in x0 x1 x2 x3) (MX11_in X0 X1 X2 X3) := by
  intro p0 p0' hp0 p1 p1' hp1 p2 p2' hp2 Qj Qj' hQj
  subst hp0
  subst hp1
  subst hp2
  unfold JX11_in MX11_in
  refine sm_join (fun (k14 : JP) (k14' : MP) => SM k14 k14') ?_ (fun k14 k14' hk14 => ?_)
  · exact hQj _ _ (show (nI 0).toInt = 0 by decide)
  refine sm_if (cI_lt rfl rfl) ?_ ?_
  · exact hk14
  · refine sm_if (cI_lt rfl rfl) ?_ ?_
    · exact hk14
    · exact hQj _ _ (show (nI 1).toInt = 1 by decide)
theorem sm_X11_throwsIf : ∀ (x0 : Nat), ∀ (x1 : Int32) (X1 : Int), x1.toInt = X1 → ∀ (x2 : Int32) (X2 : Int), x2.toInt = X2 → ∀ (x3 : Int32 → JP) (X3 : Int → MP), (∀ (x0 : Int32) (X0 : Int), x0.toInt = X0 → SM (x3 x0) (X3 X0)) → SM (JX11_throwsIf x0 x1 x2 x3) (MX11_throwsIf x0 X1 X2 X3) := by
  intro this p1 p1' hp1 p2 p2' hp2 Qj Qj' hQj
  subst hp1
  subst hp2
  unfold JX11_throwsIf MX11_throwsIf
  refine sm_if (cI_eq rfl (show (nI 0).toInt = 0 by decide)) ?_ ?_
  · refine sm_and (fun h => h.imp (cI_eq rfl (show (nI 0).toInt = 0 by decide)).mpr (cI_eq rfl (show (nI 1).toInt = 1 by decide)).mpr) ?_
    exact hQj _ _ rfl
  · refine sm_putI rfl rfl ?_
    refine sm_and (fun h => h.imp (cI_eq rfl (show (nI 0).toInt = 0 by decide)).mpr (cI_eq rfl (show (nI 1).toInt = 1 by decide)).mpr) ?_
    exact hQj _ _ rfl
theorem smFX11_kind_111 (this : Nat) (v7 : Int32) (v88 : Int32) {k143 : JP} {k143' : MP} (hk143 : SM k143 k143') : ∀ n : Nat, ∀ (x0 : Int32) (X0 : Int), x0.toInt = X0 → SM (jit (FX11_kind_111 this v7 v88 k143) (fun _ => jbot) n x0) (jit (GX11_kind_111 this v7.toInt v88.toInt k143') (fun _ => mbot) n X0) := by
  intro n
  induction n with
  | zero =>
    intro x4_111 x4_111' hx4_111
    exact SM.bot
  | succ n ih =>
    intro x4_111 x4_111' hx4_111
    subst hx4_111
    show SM (FX11_kind_111 this v7 v88 k143 (jit (FX11_kind_111 this v7 v88 k143) (fun _ => jbot) n) x4_111) (GX11_kind_111 this v7.toInt v88.toInt k143' (jit (GX11_kind_111 this v7.toInt v88.toInt k143') (fun _ => mbot) n) x4_111.toInt)
    generalize jit (FX11_kind_111 this v7 v88 k143) (fun _ => jbot) n = rec111 at ih ⊢
    generalize jit (GX11_kind_111 this v7.toInt v88.toInt k143') (fun _ => mbot) n = rec111' at ih ⊢
    have hrec111 := ih
    unfold FX11_kind_111 GX11_kind_111
    refine sm_if (cI_le (tc_mul (show (nI 2).toInt = 2 by decide) rfl) rfl) ?_ ?_
    · exact hk143
    · refine sm_getA rfl (fun v120 => ?_)
      refine sm_getA rfl (fun v130 => ?_)
      refine sm_aldI (by decide) rfl (fun v135 => ?_)
      refine sm_astI (tc_add (tc_add (tc_add (show (nI 49).toInt = 49 by decide) (tc_mul (show (nI 14).toInt = 14 by decide) rfl)) (show (nI 2).toInt = 2 by decide)) rfl) rfl ?_
      exact hrec111 _ _ (tc_add rfl (show (nI 1).toInt = 1 by decide))
theorem sm_X11_kind (sK : Nat → Nat) : ∀ (x0 : Nat), ∀ (x1 : Int32) (X1 : Int), x1.toInt = X1 → ∀ (x2 : Int32 → JP) (X2 : Int → MP), (∀ (x0 : Int32) (X0 : Int), x0.toInt = X0 → SM (x2 x0) (X2 X0)) → SM ((JX11_kind sK) x0 x1 x2) ((MX11_kind sK) x0 X1 X2) := by
  intro this p1 p1' hp1 Qj Qj' hQj
  subst hp1
  unfold JX11_kind MX11_kind
  refine sm_putI rfl (show (nI 0).toInt = 0 by decide) ?_
  refine sm_obj ?_
  refine sm_X11_readAll sK this _ _ (show (nI 1).toInt = 1 by decide) _ _ ?_
  intro v7 v7' hv7
  subst hv7
  refine sm_join (fun (k24 : Int32 → JP) (k24' : Int → MP) => ∀ (x0 : Int32) (X0 : Int), x0.toInt = X0 → SM (k24 x0) (k24' X0)) ?_ (fun k24 k24' hk24 => ?_)
  · intro s1_24 s1_24' hs1_24
    subst hs1_24
    refine sm_putI rfl rfl ?_
    refine sm_join (fun (k47 : Int32 → JP) (k47' : Int → MP) => ∀ (x0 : Int32) (X0 : Int), x0.toInt = X0 → SM (k47 x0) (k47' X0)) ?_ (fun k47 k47' hk47 => ?_)
    · intro s1_47 s1_47' hs1_47
      subst hs1_47
      refine sm_obj ?_
      refine sm_X11_throwsIf this _ _ rfl _ _ (show (nI 1).toInt = 1 by decide) _ _ ?_
      intro v48 v48' hv48
      subst hv48
      refine sm_if (cI_eq rfl (show (nI 0).toInt = 0 by decide)) ?_ ?_
      · refine sm_getA rfl (fun v56 => ?_)
        refine sm_aldI (by decide) (show (nI 0).toInt = 0 by decide) (fun v60 => ?_)
        refine sm_join (fun (k70 : Int32 → JP) (k70' : Int → MP) => ∀ (x0 : Int32) (X0 : Int), x0.toInt = X0 → SM (k70 x0) (k70' X0)) ?_ (fun k70 k70' hk70 => ?_)
        · intro s1_70 s1_70' hs1_70
          subst hs1_70
          refine sm_obj ?_
          refine sm_X11_throwsIf this _ _ rfl _ _ (show (nI 2).toInt = 2 by decide) _ _ ?_
          intro v71 v71' hv71
          subst hv71
          refine sm_if (cI_eq rfl (show (nI 0).toInt = 0 by decide)) ?_ ?_
          · refine sm_getA rfl (fun v84 => ?_)
            refine sm_aldI (by decide) (show (nI 0).toInt = 0 by decide) (fun v88 => ?_)
            refine sm_getA rfl (fun v93 => ?_)
            refine sm_astI (tc_add (show (nI 49).toInt = 49 by decide) (tc_mul (show (nI 14).toInt = 14 by decide) rfl)) rfl ?_
            refine sm_getA rfl (fun v100 => ?_)
            refine sm_astI (tc_add (tc_add (show (nI 49).toInt = 49 by decide) (tc_mul (show (nI 14).toInt = 14 by decide) rfl)) (show (nI 1).toInt = 1 by decide)) rfl ?_
            refine sm_ex (fun n111 => ?_)
            refine smFX11_kind_111 this v7 v88 ?_ n111 _ _ (show (nI 0).toInt = 0 by decide)
            · refine sm_getA rfl (fun v144 => ?_)
              refine sm_aldI (by decide) (show (nI 0).toInt = 0 by decide) (fun v149 => ?_)
              refine sm_astI (show (nI 0).toInt = 0 by decide) (tc_add rfl (show (nI 1).toInt = 1 by decide)) ?_
              refine sm_getA rfl (fun v154 => ?_)
              refine sm_aldI (by decide) (show (nI 0).toInt = 0 by decide) (fun v158 => ?_)
              exact hQj _ _ (tc_sub rfl (show (nI 1).toInt = 1 by decide))
          · exact hQj _ _ (show (nI 0).toInt = 0 by decide)
        refine sm_if (cI_eq rfl (show (nI 5).toInt = 5 by decide)) ?_ ?_
        · exact hk70 _ _ (show (nI 1).toInt = 1 by decide)
        · exact hk70 _ _ (show (nI 0).toInt = 0 by decide)
      · exact hQj _ _ (show (nI 0).toInt = 0 by decide)
    refine sm_join (fun (k42 : JP) (k42' : MP) => SM k42 k42') ?_ (fun k42 k42' hk42 => ?_)
    · exact hk47 _ _ (show (nI 1).toInt = 1 by decide)
    refine sm_if (cI_lt rfl (show (nI 0).toInt = 0 by decide)) ?_ ?_
    · exact hk42
    · refine sm_X11_in _ _ rfl _ _ (show (nI 0).toInt = 0 by decide) _ _ (show (nI 20).toInt = 20 by decide) _ _ ?_
      intro v36 v36' hv36
      subst hv36
      refine sm_if (cI_eq rfl (show (nI 0).toInt = 0 by decide)) ?_ ?_
      · exact hk42
      · exact hk47 _ _ (show (nI 0).toInt = 0 by decide)
  refine sm_if (cI_le (show (nI 0).toInt = 0 by decide) rfl) ?_ ?_
  · exact hk24 _ _ (show ((-1) : Int32).toInt = (-1) by decide)
  · refine sm_getI rfl (fun v17 => ?_)
    exact hk24 _ _ rfl
theorem sm_X11_thrown : ∀ (x0 : Nat), ∀ (x1 : Int32 → JP) (X1 : Int → MP), (∀ (x0 : Int32) (X0 : Int), x0.toInt = X0 → SM (x1 x0) (X1 X0)) → SM (JX11_thrown x0 x1) (MX11_thrown x0 X1) := by
  intro this Qj Qj' hQj
  unfold JX11_thrown MX11_thrown
  refine sm_getI rfl (fun v1 => ?_)
  exact hQj _ _ rfl
theorem sm_X22_init : ∀ (x0 : Nat), ∀ (x1 : Nat), ∀ (x2 : Nat), ∀ (x3 : Nat), ∀ (x4 : Int32) (X4 : Int), x4.toInt = X4 → ∀ (x5 : JP) (X5 : MP), SM x5 X5 → SM (JX22_init x0 x1 x2 x3 x4 x5) (MX22_init x0 x1 x2 x3 X4 X5) := by
  intro bc bs this p1 p2 p2' hp2 Qj Qj' hQj
  subst hp2
  unfold JX22_init MX22_init
  refine sm_newA (by decide) rfl (fun v6 => ?_)
  refine sm_putR rfl rfl ?_
  refine sm_getA rfl (fun v15 => ?_)
  refine sm_cpyA (show (nI 0).toInt = 0 by decide) (show (nI 0).toInt = 0 by decide) rfl ?_
  exact hQj
theorem sm_X2_measure (sK : Nat → Nat) : ∀ (x0 : Nat), ∀ (x1 : Nat), ∀ (x2 : Nat), ∀ (x3 : Int32) (X3 : Int), x3.toInt = X3 → ∀ (x4 : Nat → Nat → JP) (X4 : Nat → Nat → MP), (∀ z q, SM (x4 z q) (X4 z q)) → ∀ (x5 : Nat → JP) (X5 : Nat → MP), (∀ (x0 : Nat), SM (x5 x0) (X5 x0)) → SM ((JX2_measure sK) x0 x1 x2 x3 x4 x5) ((MX2_measure sK) x0 x1 x2 X3 X4 X5) := by
  intro bc bs this p1 p1' hp1 Ex Ex' hEx Qj Qj' hQj
  subst hp1
  unfold JX2_measure MX2_measure
  refine sm_new rfl rfl (fun v0 => ?_)
  refine sm_getA rfl (fun v5 => ?_)
  refine sm_bud (fun mc11 ms11 => ?_)
  refine sm_obj ?_
  refine sm_X2_lines sK mc11 ms11 this _ _ rfl _ _ (show (nI 0).toInt = 0 by decide) _ _ hEx _ _ ?_
  intro v11 v11' hv11
  subst hv11
  refine sm_bud (fun mc14 ms14 => ?_)
  refine sm_X22_init mc14 ms14 v0 v5 _ _ rfl _ _ ?_
  exact hQj v0
theorem sm_X1_measure (sK : Nat → Nat) : ∀ (x0 : Nat), ∀ (x1 : Nat), ∀ (x2 : Nat), ∀ (x3 : Nat → Nat → JP) (X3 : Nat → Nat → MP), (∀ z q, SM (x3 z q) (X3 z q)) → ∀ (x4 : Int32 → JP) (X4 : Int → MP), (∀ (x0 : Int32) (X0 : Int), x0.toInt = X0 → SM (x4 x0) (X4 X0)) → SM ((JX1_measure sK) x0 x1 x2 x3 x4) ((MX1_measure sK) x0 x1 x2 X3 X4) := by
  intro bc bs this Ex Ex' hEx Qj Qj' hQj
  unfold JX1_measure MX1_measure
  refine sm_obj ?_
  refine sm_X1_use this _ _ ?_
  intro v1 v1' hv1
  subst hv1
  refine sm_getA rfl (fun v6 => ?_)
  refine sm_getA rfl (fun v10 => ?_)
  refine sm_bud (fun mc14 ms14 => ?_)
  refine sm_obj ?_
  refine sm_X2_measure sK mc14 ms14 v10 _ _ rfl _ _ (fun xx14 xq14 => ?_) _ _ ?_
  · refine sm_if Iff.rfl ?_ ?_
    · refine sm_getI rfl (fun v26 => ?_)
      refine sm_putI rfl rfl ?_
      exact sm_throw hEx
    · exact SM.bot
  intro v14
  refine sm_putR rfl rfl ?_
  refine sm_getA rfl (fun v41 => ?_)
  refine sm_getO rfl (fun v44 => ?_)
  refine sm_some (fun u47 => ?_)
  refine sm_getA rfl (fun v47 => ?_)
  refine sm_alen (fun v50 => ?_)
  exact hQj _ _ rfl
theorem sm_X0_measure (sK : Nat → Nat) : ∀ (x0 : Nat), ∀ (x1 : Nat), ∀ (x2 : Nat), ∀ (x3 : Nat), ∀ (x4 : Int32 → JP) (X4 : Int → MP), (∀ (x0 : Int32) (X0 : Int), x0.toInt = X0 → SM (x4 x0) (X4 X0)) → SM ((JX0_measure sK) x0 x1 x2 x3 x4) ((MX0_measure sK) x0 x1 x2 x3 X4) := by
  intro bc bs p0 p1 Qj Qj' hQj
  unfold JX0_measure MX0_measure
  refine sm_bud (fun mc3 ms3 => ?_)
  refine sm_obj ?_
  refine sm_X1_measure sK mc3 ms3 p0 _ _ (fun xx3 xq3 => ?_) _ _ ?_
  · refine sm_if Iff.rfl ?_ ?_
    · exact hQj _ _ (show (nI 1).toInt = 1 by decide)
    · exact SM.bot
  intro v3 v3' hv3
  subst hv3
  refine sm_astL (show (nI 0).toInt = 0 by decide) (tc_i2l rfl) ?_
  exact hQj _ _ (show (nI 0).toInt = 0 by decide)
theorem smFX11_measure_57 (this : Nat) {k90 : JP} {k90' : MP} (hk90 : SM k90 k90') : ∀ n : Nat, ∀ (x0 : Int32) (X0 : Int), x0.toInt = X0 → SM (jit (FX11_measure_57 this k90) (fun _ => jbot) n x0) (jit (GX11_measure_57 this k90') (fun _ => mbot) n X0) := by
  intro n
  induction n with
  | zero =>
    intro x2_57 x2_57' hx2_57
    exact SM.bot
  | succ n ih =>
    intro x2_57 x2_57' hx2_57
    subst hx2_57
    show SM (FX11_measure_57 this k90 (jit (FX11_measure_57 this k90) (fun _ => jbot) n) x2_57) (GX11_measure_57 this k90' (jit (GX11_measure_57 this k90') (fun _ => mbot) n) x2_57.toInt)
    generalize jit (FX11_measure_57 this k90) (fun _ => jbot) n = rec57 at ih ⊢
    generalize jit (GX11_measure_57 this k90') (fun _ => mbot) n = rec57' at ih ⊢
    have hrec57 := ih
    unfold FX11_measure_57 GX11_measure_57
    refine sm_if (cI_le (show (nI 841).toInt = 841 by decide) rfl) ?_ ?_
    · exact hk90
    · refine sm_getA rfl (fun v65 => ?_)
      refine sm_getA rfl (fun v74 => ?_)
      refine sm_aldI (by decide) (tc_add (show (nI 1284).toInt = 1284 by decide) rfl) (fun v82 => ?_)
      refine sm_astI (tc_add (show (nI 443).toInt = 443 by decide) rfl) rfl ?_
      exact hrec57 _ _ (tc_add rfl (show (nI 1).toInt = 1 by decide))
theorem sm_X11_measure (sK : Nat → Nat) : ∀ (x0 : Nat), ∀ (x1 : Int32 → JP) (X1 : Int → MP), (∀ (x0 : Int32) (X0 : Int), x0.toInt = X0 → SM (x1 x0) (X1 X0)) → SM ((JX11_measure sK) x0 x1) ((MX11_measure sK) x0 X1) := by
  intro this Qj Qj' hQj
  unfold JX11_measure MX11_measure
  refine sm_putI rfl (show (nI 0).toInt = 0 by decide) ?_
  refine sm_obj ?_
  refine sm_X11_readAll sK this _ _ (show (nI 0).toInt = 0 by decide) _ _ ?_
  intro v7 v7' hv7
  subst hv7
  refine sm_join (fun (k24 : Int32 → JP) (k24' : Int → MP) => ∀ (x0 : Int32) (X0 : Int), x0.toInt = X0 → SM (k24 x0) (k24' X0)) ?_ (fun k24 k24' hk24 => ?_)
  · intro s1_24 s1_24' hs1_24
    subst hs1_24
    refine sm_putI rfl rfl ?_
    refine sm_join (fun (k37 : Int32 → JP) (k37' : Int → MP) => ∀ (x0 : Int32) (X0 : Int), x0.toInt = X0 → SM (k37 x0) (k37' X0)) ?_ (fun k37 k37' hk37 => ?_)
    · intro s1_37 s1_37' hs1_37
      subst hs1_37
      refine sm_obj ?_
      refine sm_X11_throwsIf this _ _ rfl _ _ (show (nI 1).toInt = 1 by decide) _ _ ?_
      intro v38 v38' hv38
      subst hv38
      refine sm_if (cI_eq rfl (show (nI 0).toInt = 0 by decide)) ?_ ?_
      · refine sm_getA rfl (fun v47 => ?_)
        refine sm_astI (show (nI 1284).toInt = 1284 by decide) rfl ?_
        refine sm_ex (fun n57 => ?_)
        refine smFX11_measure_57 this ?_ n57 _ _ (show (nI 0).toInt = 0 by decide)
        · refine sm_getA rfl (fun v91 => ?_)
          refine sm_astI (show (nI 4).toInt = 4 by decide) (show (nI 1).toInt = 1 by decide) ?_
          exact hQj _ _ rfl
      · exact hQj _ _ (show (nI 0).toInt = 0 by decide)
    refine sm_if (cI_le (show (nI 0).toInt = 0 by decide) rfl) ?_ ?_
    · exact hk37 _ _ (show (nI 0).toInt = 0 by decide)
    · exact hk37 _ _ (show (nI 1).toInt = 1 by decide)
  refine sm_if (cI_le (show (nI 0).toInt = 0 by decide) rfl) ?_ ?_
  · exact hk24 _ _ (show ((-1) : Int32).toInt = (-1) by decide)
  · refine sm_getI rfl (fun v17 => ?_)
    exact hk24 _ _ rfl
theorem sm_X1_fault : ∀ (x0 : Nat), ∀ (x1 : Int32 → JP) (X1 : Int → MP), (∀ (x0 : Int32) (X0 : Int), x0.toInt = X0 → SM (x1 x0) (X1 X0)) → SM (JX1_fault x0 x1) (MX1_fault x0 X1) := by
  intro this Qj Qj' hQj
  unfold JX1_fault MX1_fault
  refine sm_getI rfl (fun v1 => ?_)
  exact hQj _ _ rfl
theorem sm_X11_fault : ∀ (x0 : Nat), ∀ (x1 : Int32 → JP) (X1 : Int → MP), (∀ (x0 : Int32) (X0 : Int), x0.toInt = X0 → SM (x1 x0) (X1 X0)) → SM (JX11_fault x0 x1) (MX11_fault x0 X1) := by
  intro this Qj Qj' hQj
  unfold JX11_fault MX11_fault
  refine sm_putI rfl (show (nI 0).toInt = 0 by decide) ?_
  refine sm_getI rfl (fun v6 => ?_)
  exact hQj _ _ rfl
theorem sm_X1_mustBe : ∀ (x0 : Nat), ∀ (x1 : Nat), ∀ (x2 : Int32) (X2 : Int), x2.toInt = X2 → ∀ (x3 : Nat → Nat → JP) (X3 : Nat → Nat → MP), (∀ z q, SM (x3 z q) (X3 z q)) → ∀ (x4 : JP) (X4 : MP), SM x4 X4 → SM (JX1_mustBe x0 x1 x2 x3 x4) (MX1_mustBe x0 x1 X2 X3 X4) := by
  intro bc bs p0 p0' hp0 Ex Ex' hEx Qj Qj' hQj
  subst hp0
  unfold JX1_mustBe MX1_mustBe
  refine sm_if (cI_eq rfl (show (nI 0).toInt = 0 by decide)) ?_ ?_
  · exact sm_throw hEx
  · exact hQj
theorem sm_X1_isSquare : ∀ (x0 : Nat), ∀ (x1 : Nat), ∀ (x2 : Int32) (X2 : Int), x2.toInt = X2 → ∀ (x3 : Nat → Nat → JP) (X3 : Nat → Nat → MP), (∀ z q, SM (x3 z q) (X3 z q)) → ∀ (x4 : JP) (X4 : MP), SM x4 X4 → SM (JX1_isSquare x0 x1 x2 x3 x4) (MX1_isSquare x0 x1 X2 X3 X4) := by
  intro bc bs p0 p0' hp0 Ex Ex' hEx Qj Qj' hQj
  subst hp0
  unfold JX1_isSquare MX1_isSquare
  refine sm_X1_isIn _ _ rfl _ _ (show (nI 0).toInt = 0 by decide) _ _ (show (nI 35).toInt = 35 by decide) _ _ ?_
  intro v4 v4' hv4
  subst hv4
  refine sm_bud (fun mc7 ms7 => ?_)
  exact sm_X1_mustBe mc7 ms7 _ _ rfl _ _ hEx _ _ hQj
theorem sm_X1_isKind : ∀ (x0 : Nat), ∀ (x1 : Nat), ∀ (x2 : Nat), ∀ (x3 : Int32) (X3 : Int), x3.toInt = X3 → ∀ (x4 : Int32) (X4 : Int), x4.toInt = X4 → ∀ (x5 : Nat → Nat → JP) (X5 : Nat → Nat → MP), (∀ z q, SM (x5 z q) (X5 z q)) → ∀ (x6 : JP) (X6 : MP), SM x6 X6 → SM (JX1_isKind x0 x1 x2 x3 x4 x5 x6) (MX1_isKind x0 x1 x2 X3 X4 X5 X6) := by
  intro bc bs this p1 p1' hp1 p2 p2' hp2 Ex Ex' hEx Qj Qj' hQj
  subst hp1
  subst hp2
  unfold JX1_isKind MX1_isKind
  refine sm_getA rfl (fun v3 => ?_)
  refine sm_getI rfl (fun v6 => ?_)
  refine sm_X1_isIn _ _ rfl _ _ rfl _ _ (tc_sub rfl (show (nI 1).toInt = 1 by decide)) _ _ ?_
  intro v11 v11' hv11
  subst hv11
  refine sm_bud (fun mc14 ms14 => ?_)
  exact sm_X1_mustBe mc14 ms14 _ _ rfl _ _ hEx _ _ hQj
theorem sm_X1_put : ∀ (x0 : Nat), ∀ (x1 : Nat), ∀ (x2 : Nat), ∀ (x3 : Int32) (X3 : Int), x3.toInt = X3 → ∀ (x4 : Int32) (X4 : Int), x4.toInt = X4 → ∀ (x5 : Int32) (X5 : Int), x5.toInt = X5 → ∀ (x6 : Nat → Nat → JP) (X6 : Nat → Nat → MP), (∀ z q, SM (x6 z q) (X6 z q)) → ∀ (x7 : JP) (X7 : MP), SM x7 X7 → SM (JX1_put x0 x1 x2 x3 x4 x5 x6 x7) (MX1_put x0 x1 x2 X3 X4 X5 X6 X7) := by
  intro bc bs this p1 p1' hp1 p2 p2' hp2 p3 p3' hp3 Ex Ex' hEx Qj Qj' hQj
  subst hp1
  subst hp2
  subst hp3
  unfold JX1_put MX1_put
  refine sm_bud (fun mc1 ms1 => ?_)
  refine sm_X1_isSquare mc1 ms1 _ _ rfl _ _ hEx _ _ ?_
  refine sm_bud (fun mc7 ms7 => ?_)
  refine sm_obj ?_
  refine sm_X1_isKind mc7 ms7 this _ _ rfl _ _ (show ((-1) : Int32).toInt = (-1) by decide) _ _ hEx _ _ ?_
  refine sm_join (fun (k29 : Int32 → JP) (k29' : Int → MP) => ∀ (x0 : Int32) (X0 : Int), x0.toInt = X0 → SM (k29 x0) (k29' X0)) ?_ (fun k29 k29' hk29 => ?_)
  · intro s0_29 s0_29' hs0_29
    subst hs0_29
    refine sm_bud (fun mc29 ms29 => ?_)
    refine sm_X1_must mc29 ms29 _ _ rfl _ _ hEx _ _ ?_
    refine sm_getA rfl (fun v33 => ?_)
    refine sm_getA rfl (fun v36 => ?_)
    refine sm_getA rfl (fun v39 => ?_)
    refine sm_astI rfl rfl ?_
    refine sm_getA rfl (fun v46 => ?_)
    refine sm_getA rfl (fun v49 => ?_)
    refine sm_getA rfl (fun v52 => ?_)
    refine sm_join (fun (k66 : Int32 → JP) (k66' : Int → MP) => ∀ (x0 : Int32) (X0 : Int), x0.toInt = X0 → SM (k66 x0) (k66' X0)) ?_ (fun k66 k66' hk66 => ?_)
    · intro s2_66 s2_66' hs2_66
      subst hs2_66
      refine sm_astI rfl rfl ?_
      refine sm_putZ rfl (show (nI 0).toInt = 0 by decide) ?_
      exact hQj
    refine sm_if (cI_eq rfl (show ((-1) : Int32).toInt = (-1) by decide)) ?_ ?_
    · exact hk66 _ _ (show (nI 0).toInt = 0 by decide)
    · exact hk66 _ _ rfl
  refine sm_join (fun (k24 : JP) (k24' : MP) => SM k24 k24') ?_ (fun k24 k24' hk24 => ?_)
  · exact hk29 _ _ (show (nI 1).toInt = 1 by decide)
  refine sm_if (cI_eq rfl (show ((-1) : Int32).toInt = (-1) by decide)) ?_ ?_
  · exact hk24
  · refine sm_X1_isIn _ _ rfl _ _ (show (nI 0).toInt = 0 by decide) _ _ (show (nI 1).toInt = 1 by decide) _ _ ?_
    intro v18 v18' hv18
    subst hv18
    refine sm_if (cI_eq rfl (show (nI 0).toInt = 0 by decide)) ?_ ?_
    · exact hk29 _ _ (show (nI 0).toInt = 0 by decide)
    · exact hk24
theorem sm_X0_put : ∀ (x0 : Nat), ∀ (x1 : Nat), ∀ (x2 : Nat), ∀ (x3 : Int32) (X3 : Int), x3.toInt = X3 → ∀ (x4 : Int32) (X4 : Int), x4.toInt = X4 → ∀ (x5 : Int32) (X5 : Int), x5.toInt = X5 → ∀ (x6 : Int32 → JP) (X6 : Int → MP), (∀ (x0 : Int32) (X0 : Int), x0.toInt = X0 → SM (x6 x0) (X6 X0)) → SM (JX0_put x0 x1 x2 x3 x4 x5 x6) (MX0_put x0 x1 x2 X3 X4 X5 X6) := by
  intro bc bs p0 p1 p1' hp1 p2 p2' hp2 p3 p3' hp3 Qj Qj' hQj
  subst hp1
  subst hp2
  subst hp3
  unfold JX0_put MX0_put
  refine sm_bud (fun mc4 ms4 => ?_)
  refine sm_obj ?_
  refine sm_X1_put mc4 ms4 p0 _ _ rfl _ _ rfl _ _ rfl _ _ (fun xx4 xq4 => ?_) _ _ ?_
  · refine sm_if Iff.rfl ?_ ?_
    · exact hQj _ _ (show (nI 1).toInt = 1 by decide)
    · refine sm_if Iff.rfl ?_ ?_
      · exact hQj _ _ (show (nI 2).toInt = 2 by decide)
      · exact SM.bot
  exact hQj _ _ (show (nI 0).toInt = 0 by decide)
theorem sm_X11_noSquare : ∀ (x0 : Int32) (X0 : Int), x0.toInt = X0 → ∀ (x1 : Int32 → JP) (X1 : Int → MP), (∀ (x0 : Int32) (X0 : Int), x0.toInt = X0 → SM (x1 x0) (X1 X0)) → SM (JX11_noSquare x0 x1) (MX11_noSquare X0 X1) := by
  intro p0 p0' hp0 Qj Qj' hQj
  subst hp0
  unfold JX11_noSquare MX11_noSquare
  refine sm_X11_in _ _ rfl _ _ (show (nI 0).toInt = 0 by decide) _ _ (show (nI 35).toInt = 35 by decide) _ _ ?_
  intro v4 v4' hv4
  subst hv4
  refine sm_if (cI_eq rfl (show (nI 0).toInt = 0 by decide)) ?_ ?_
  · exact hQj _ _ (show (nI 1).toInt = 1 by decide)
  · exact hQj _ _ (show (nI 0).toInt = 0 by decide)
theorem sm_X11_none : ∀ (x0 : Nat), ∀ (x1 : Int32) (X1 : Int), x1.toInt = X1 → ∀ (x2 : Int32) (X2 : Int), x2.toInt = X2 → ∀ (x3 : Int32 → JP) (X3 : Int → MP), (∀ (x0 : Int32) (X0 : Int), x0.toInt = X0 → SM (x3 x0) (X3 X0)) → SM (JX11_none x0 x1 x2 x3) (MX11_none x0 X1 X2 X3) := by
  intro this p1 p1' hp1 p2 p2' hp2 Qj Qj' hQj
  subst hp1
  subst hp2
  unfold JX11_none MX11_none
  refine sm_getA rfl (fun v3 => ?_)
  refine sm_aldI (by decide) rfl (fun v7 => ?_)
  refine sm_X11_in _ _ rfl _ _ (show (nI 0).toInt = 0 by decide) _ _ (tc_sub rfl (show (nI 1).toInt = 1 by decide)) _ _ ?_
  intro v10 v10' hv10
  subst hv10
  refine sm_if (cI_eq rfl (show (nI 0).toInt = 0 by decide)) ?_ ?_
  · exact hQj _ _ (show (nI 1).toInt = 1 by decide)
  · exact hQj _ _ (show (nI 0).toInt = 0 by decide)
theorem sm_X11_noKind : ∀ (x0 : Nat), ∀ (x1 : Int32) (X1 : Int), x1.toInt = X1 → ∀ (x2 : Int32 → JP) (X2 : Int → MP), (∀ (x0 : Int32) (X0 : Int), x0.toInt = X0 → SM (x2 x0) (X2 X0)) → SM (JX11_noKind x0 x1 x2) (MX11_noKind x0 X1 X2) := by
  intro this p1 p1' hp1 Qj Qj' hQj
  subst hp1
  unfold JX11_noKind MX11_noKind
  refine sm_obj ?_
  refine sm_X11_none this _ _ rfl _ _ (show (nI 0).toInt = 0 by decide) _ _ ?_
  intro v3 v3' hv3
  subst hv3
  refine sm_and (fun h => h.imp (cI_eq rfl (show (nI 0).toInt = 0 by decide)).mpr (cI_eq rfl (show (nI 1).toInt = 1 by decide)).mpr) ?_
  exact hQj _ _ rfl
theorem sm_X11_man : ∀ (x0 : Int32) (X0 : Int), x0.toInt = X0 → ∀ (x1 : Int32) (X1 : Int), x1.toInt = X1 → ∀ (x2 : Int32 → JP) (X2 : Int → MP), (∀ (x0 : Int32) (X0 : Int), x0.toInt = X0 → SM (x2 x0) (X2 X0)) → SM (JX11_man x0 x1 x2) (MX11_man X0 X1 X2) := by
  intro p0 p0' hp0 p1 p1' hp1 Qj Qj' hQj
  subst hp0
  subst hp1
  unfold JX11_man MX11_man
  refine sm_if (cI_le (show (nI 0).toInt = 0 by decide) rfl) ?_ ?_
  · exact hQj _ _ (tc_add (tc_mul (show (nI 2).toInt = 2 by decide) rfl) rfl)
  · exact hQj _ _ (show ((-1) : Int32).toInt = (-1) by decide)
theorem sm_X11_put : ∀ (x0 : Nat), ∀ (x1 : Int32) (X1 : Int), x1.toInt = X1 → ∀ (x2 : Int32) (X2 : Int), x2.toInt = X2 → ∀ (x3 : Int32) (X3 : Int), x3.toInt = X3 → ∀ (x4 : JP) (X4 : MP), SM x4 X4 → SM (JX11_put x0 x1 x2 x3 x4) (MX11_put x0 X1 X2 X3 X4) := by
  intro this p1 p1' hp1 p2 p2' hp2 p3 p3' hp3 Qj Qj' hQj
  subst hp1
  subst hp2
  subst hp3
  unfold JX11_put MX11_put
  refine sm_putI rfl (show (nI 0).toInt = 0 by decide) ?_
  refine sm_X11_noSquare _ _ rfl _ _ ?_
  intro v7 v7' hv7
  subst hv7
  refine sm_join (fun (k31 : Int32 → JP) (k31' : Int → MP) => ∀ (x0 : Int32) (X0 : Int), x0.toInt = X0 → SM (k31 x0) (k31' X0)) ?_ (fun k31 k31' hk31 => ?_)
  · intro s1_31 s1_31' hs1_31
    subst hs1_31
    refine sm_obj ?_
    refine sm_X11_throwsIf this _ _ rfl _ _ (show (nI 1).toInt = 1 by decide) _ _ ?_
    intro v32 v32' hv32
    subst hv32
    refine sm_if (cI_eq rfl (show (nI 0).toInt = 0 by decide)) ?_ ?_
    · refine sm_join (fun (k58 : Int32 → JP) (k58' : Int → MP) => ∀ (x0 : Int32) (X0 : Int), x0.toInt = X0 → SM (k58 x0) (k58' X0)) ?_ (fun k58 k58' hk58 => ?_)
      · intro s1_58 s1_58' hs1_58
        subst hs1_58
        refine sm_obj ?_
        refine sm_X11_throwsIf this _ _ rfl _ _ (show (nI 2).toInt = 2 by decide) _ _ ?_
        intro v59 v59' hv59
        subst hv59
        refine sm_if (cI_eq rfl (show (nI 0).toInt = 0 by decide)) ?_ ?_
        · refine sm_getA rfl (fun v67 => ?_)
          refine sm_X11_man _ _ rfl _ _ rfl _ _ ?_
          intro v76 v76' hv76
          subst hv76
          refine sm_astI (tc_add (show (nI 13).toInt = 13 by decide) rfl) rfl ?_
          exact hQj
        · exact hQj
      refine sm_join (fun (k57 : JP) (k57' : MP) => SM k57 k57') ?_ (fun k57 k57' hk57 => ?_)
      · exact hk58 _ _ (show (nI 0).toInt = 0 by decide)
      refine sm_if (cI_eq rfl (show ((-1) : Int32).toInt = (-1) by decide)) ?_ ?_
      · exact hk57
      · refine sm_X11_in _ _ rfl _ _ (show (nI 0).toInt = 0 by decide) _ _ (show (nI 1).toInt = 1 by decide) _ _ ?_
        intro v47 v47' hv47
        subst hv47
        refine sm_if (cI_eq rfl (show (nI 0).toInt = 0 by decide)) ?_ ?_
        · exact hk58 _ _ (show (nI 1).toInt = 1 by decide)
        · exact hk57
    · exact hQj
  refine sm_join (fun (k26 : JP) (k26' : MP) => SM k26 k26') ?_ (fun k26 k26' hk26 => ?_)
  · exact hk31 _ _ (show (nI 1).toInt = 1 by decide)
  refine sm_if (cI_eq rfl (show (nI 0).toInt = 0 by decide)) ?_ ?_
  · refine sm_join (fun (k30 : JP) (k30' : MP) => SM k30 k30') ?_ (fun k30 k30' hk30 => ?_)
    · exact hk31 _ _ (show (nI 0).toInt = 0 by decide)
    refine sm_if (cI_eq rfl (show ((-1) : Int32).toInt = (-1) by decide)) ?_ ?_
    · exact hk30
    · refine sm_obj ?_
      refine sm_X11_noKind this _ _ rfl _ _ ?_
      intro v20 v20' hv20
      subst hv20
      refine sm_if (cI_eq rfl (show (nI 0).toInt = 0 by decide)) ?_ ?_
      · exact hk30
      · exact hk26
  · exact hk26
theorem smFX4_marks_3 (p1 : Nat) (p2 : Int32) (p3 : Int32) (p4 : Nat) {Qj : JP} {Qj' : MP} (hQj : SM Qj Qj') : ∀ n : Nat, ∀ (x0 : Int32) (X0 : Int), x0.toInt = X0 → SM (jit (FX4_marks_3 p1 p2 p3 p4 Qj) (fun _ => jbot) n x0) (jit (GX4_marks_3 p1 p2.toInt p3.toInt p4 Qj') (fun _ => mbot) n X0) := by
  intro n
  induction n with
  | zero =>
    intro x5_3 x5_3' hx5_3
    exact SM.bot
  | succ n ih =>
    intro x5_3 x5_3' hx5_3
    subst hx5_3
    show SM (FX4_marks_3 p1 p2 p3 p4 Qj (jit (FX4_marks_3 p1 p2 p3 p4 Qj) (fun _ => jbot) n) x5_3) (GX4_marks_3 p1 p2.toInt p3.toInt p4 Qj' (jit (GX4_marks_3 p1 p2.toInt p3.toInt p4 Qj') (fun _ => mbot) n) x5_3.toInt)
    generalize jit (FX4_marks_3 p1 p2 p3 p4 Qj) (fun _ => jbot) n = rec3 at ih ⊢
    generalize jit (GX4_marks_3 p1 p2.toInt p3.toInt p4 Qj') (fun _ => mbot) n = rec3' at ih ⊢
    have hrec3 := ih
    unfold FX4_marks_3 GX4_marks_3
    refine sm_if (cI_le (show (nI 36).toInt = 36 by decide) rfl) ?_ ?_
    · exact hQj
    · refine sm_join (fun (k77 : JP) (k77' : MP) => SM k77 k77') ?_ (fun k77 k77' hk77 => ?_)
      · exact hrec3 _ _ (tc_add rfl (show (nI 1).toInt = 1 by decide))
      refine sm_if (cI_eq (tc_mul (tc_abs (tc_sub (tc_rem rfl (show (nI 6).toInt = 6 by decide)) (tc_rem rfl (show (nI 6).toInt = 6 by decide)))) (tc_abs (tc_sub (tc_div rfl (show (nI 6).toInt = 6 by decide)) (tc_div rfl (show (nI 6).toInt = 6 by decide))))) (show (nI 2).toInt = 2 by decide)) ?_ ?_
      · refine sm_getA rfl (fun v50 => ?_)
        refine sm_aldI (by decide) rfl (fun v55 => ?_)
        refine sm_join (fun (k71 : JP) (k71' : MP) => SM k71 k71') ?_ (fun k71 k71' hk71 => ?_)
        · refine sm_astZ rfl (show (nI 1).toInt = 1 by decide) ?_
          exact hk77
        refine sm_if (cI_eq rfl (show ((-1) : Int32).toInt = (-1) by decide)) ?_ ?_
        · exact hk71
        · refine sm_getA rfl (fun v61 => ?_)
          refine sm_aldI (by decide) rfl (fun v66 => ?_)
          refine sm_if (cI_eq rfl rfl) ?_ ?_
          · exact hk77
          · exact hk71
      · exact hk77
theorem sm_X4_marks : ∀ (x0 : Nat), ∀ (x1 : Nat), ∀ (x2 : Int32) (X2 : Int), x2.toInt = X2 → ∀ (x3 : Int32) (X3 : Int), x3.toInt = X3 → ∀ (x4 : Nat), ∀ (x5 : JP) (X5 : MP), SM x5 X5 → SM (JX4_marks x0 x1 x2 x3 x4 x5) (MX4_marks x0 x1 X2 X3 x4 X5) := by
  intro this p1 p2 p2' hp2 p3 p3' hp3 p4 Qj Qj' hQj
  subst hp2
  subst hp3
  unfold JX4_marks MX4_marks
  refine sm_ex (fun n3 => ?_)
  refine smFX4_marks_3 p1 p2 p3 p4 hQj n3 _ _ (show (nI 0).toInt = 0 by decide)
theorem smFX5_marks_24 (p1 : Nat) (p2 : Int32) (p3 : Int32) (p4 : Nat) {Qj : JP} {Qj' : MP} (hQj : SM Qj Qj') (s1_13 : Int32) : ∀ n : Nat, ∀ (x0 : Int32) (X0 : Int), x0.toInt = X0 → SM (jit (FX5_marks_24 p1 p2 p3 p4 Qj s1_13) (fun _ => jbot) n x0) (jit (GX5_marks_24 p1 p2.toInt p3.toInt p4 Qj' s1_13.toInt) (fun _ => mbot) n X0) := by
  intro n
  induction n with
  | zero =>
    intro x6_24 x6_24' hx6_24
    exact SM.bot
  | succ n ih =>
    intro x6_24 x6_24' hx6_24
    subst hx6_24
    show SM (FX5_marks_24 p1 p2 p3 p4 Qj s1_13 (jit (FX5_marks_24 p1 p2 p3 p4 Qj s1_13) (fun _ => jbot) n) x6_24) (GX5_marks_24 p1 p2.toInt p3.toInt p4 Qj' s1_13.toInt (jit (GX5_marks_24 p1 p2.toInt p3.toInt p4 Qj' s1_13.toInt) (fun _ => mbot) n) x6_24.toInt)
    generalize jit (FX5_marks_24 p1 p2 p3 p4 Qj s1_13) (fun _ => jbot) n = rec24 at ih ⊢
    generalize jit (GX5_marks_24 p1 p2.toInt p3.toInt p4 Qj' s1_13.toInt) (fun _ => mbot) n = rec24' at ih ⊢
    have hrec24 := ih
    unfold FX5_marks_24 GX5_marks_24
    refine sm_if (cI_lt (tc_add (tc_rem rfl (show (nI 6).toInt = 6 by decide)) (show (nI 1).toInt = 1 by decide)) rfl) ?_ ?_
    · exact hQj
    · refine sm_join (fun (k100 : JP) (k100' : MP) => SM k100 k100') ?_ (fun k100 k100' hk100 => ?_)
      · exact hrec24 _ _ (tc_add rfl (show (nI 2).toInt = 2 by decide))
      refine sm_if (cI_lt rfl (show (nI 0).toInt = 0 by decide)) ?_ ?_
      · exact hk100
      · refine sm_if (cI_le (show (nI 6).toInt = 6 by decide) rfl) ?_ ?_
        · exact hk100
        · refine sm_if (cI_lt (tc_add (tc_div rfl (show (nI 6).toInt = 6 by decide)) rfl) (show (nI 0).toInt = 0 by decide)) ?_ ?_
          · exact hk100
          · refine sm_if (cI_lt (tc_add (tc_div rfl (show (nI 6).toInt = 6 by decide)) rfl) (show (nI 6).toInt = 6 by decide)) ?_ ?_
            · refine sm_getA rfl (fun v73 => ?_)
              refine sm_aldI (by decide) (tc_add (tc_mul (show (nI 6).toInt = 6 by decide) (tc_add (tc_div rfl (show (nI 6).toInt = 6 by decide)) rfl)) rfl) (fun v78 => ?_)
              refine sm_if (cI_eq rfl (show ((-1) : Int32).toInt = (-1) by decide)) ?_ ?_
              · exact hk100
              · refine sm_getA rfl (fun v84 => ?_)
                refine sm_aldI (by decide) (tc_add (tc_mul (show (nI 6).toInt = 6 by decide) (tc_add (tc_div rfl (show (nI 6).toInt = 6 by decide)) rfl)) rfl) (fun v89 => ?_)
                refine sm_if (cI_eq rfl rfl) ?_ ?_
                · exact hk100
                · refine sm_astZ (tc_add (tc_mul (show (nI 6).toInt = 6 by decide) (tc_add (tc_div rfl (show (nI 6).toInt = 6 by decide)) rfl)) rfl) (show (nI 1).toInt = 1 by decide) ?_
                  exact hk100
            · exact hk100
theorem sm_X5_marks : ∀ (x0 : Nat), ∀ (x1 : Nat), ∀ (x2 : Int32) (X2 : Int), x2.toInt = X2 → ∀ (x3 : Int32) (X3 : Int), x3.toInt = X3 → ∀ (x4 : Nat), ∀ (x5 : JP) (X5 : MP), SM x5 X5 → SM (JX5_marks x0 x1 x2 x3 x4 x5) (MX5_marks x0 x1 X2 X3 x4 X5) := by
  intro this p1 p2 p2' hp2 p3 p3' hp3 p4 Qj Qj' hQj
  subst hp2
  subst hp3
  unfold JX5_marks MX5_marks
  refine sm_join (fun (k13 : Int32 → JP) (k13' : Int → MP) => ∀ (x0 : Int32) (X0 : Int), x0.toInt = X0 → SM (k13 x0) (k13' X0)) ?_ (fun k13 k13' hk13 => ?_)
  · intro s1_13 s1_13' hs1_13
    subst hs1_13
    refine sm_ex (fun n24 => ?_)
    refine smFX5_marks_24 p1 p2 p3 p4 hQj s1_13 n24 _ _ (tc_sub (tc_rem rfl (show (nI 6).toInt = 6 by decide)) (show (nI 1).toInt = 1 by decide))
  refine sm_if (cI_eq rfl (show (nI 0).toInt = 0 by decide)) ?_ ?_
  · exact hk13 _ _ (show (nI 1).toInt = 1 by decide)
  · exact hk13 _ _ (show ((-1) : Int32).toInt = (-1) by decide)
theorem smFX3_slides_20 (p0 : Nat) (p3 : Int32) (p4 : Int32) (p5 : Int32) (p7 : Nat) {Qj : JP} {Qj' : MP} (hQj : SM Qj Qj') {k72 : Int32 → JP} {k72' : Int → MP} (hk72 : ∀ (x0 : Int32) (X0 : Int), x0.toInt = X0 → SM (k72 x0) (k72' X0)) : ∀ n : Nat, ∀ (x0 : Int32) (X0 : Int), x0.toInt = X0 → ∀ (x1 : Int32) (X1 : Int), x1.toInt = X1 → ∀ (x2 : Int32) (X2 : Int), x2.toInt = X2 → SM (jit (FX3_slides_20 p0 p3 p4 p5 p7 Qj k72) (fun _ _ _ => jbot) n x0 x1 x2) (jit (GX3_slides_20 p0 p3.toInt p4.toInt p5.toInt p7 Qj' k72') (fun _ _ _ => mbot) n X0 X1 X2) := by
  intro n
  induction n with
  | zero =>
    intro x8_20 x8_20' hx8_20 x9_20 x9_20' hx9_20 x10_20 x10_20' hx10_20
    exact SM.bot
  | succ n ih =>
    intro x8_20 x8_20' hx8_20 x9_20 x9_20' hx9_20 x10_20 x10_20' hx10_20
    subst hx8_20
    subst hx9_20
    subst hx10_20
    show SM (FX3_slides_20 p0 p3 p4 p5 p7 Qj k72 (jit (FX3_slides_20 p0 p3 p4 p5 p7 Qj k72) (fun _ _ _ => jbot) n) x8_20 x9_20 x10_20) (GX3_slides_20 p0 p3.toInt p4.toInt p5.toInt p7 Qj' k72' (jit (GX3_slides_20 p0 p3.toInt p4.toInt p5.toInt p7 Qj' k72') (fun _ _ _ => mbot) n) x8_20.toInt x9_20.toInt x10_20.toInt)
    generalize jit (FX3_slides_20 p0 p3 p4 p5 p7 Qj k72) (fun _ _ _ => jbot) n = rec20 at ih ⊢
    generalize jit (GX3_slides_20 p0 p3.toInt p4.toInt p5.toInt p7 Qj' k72') (fun _ _ _ => mbot) n = rec20' at ih ⊢
    have hrec20 := ih
    unfold FX3_slides_20 GX3_slides_20
    refine sm_if (cI_le rfl rfl) ?_ ?_
    · exact hQj
    · refine sm_if (cI_lt rfl (show (nI 0).toInt = 0 by decide)) ?_ ?_
      · exact hQj
      · refine sm_if (cI_le (show (nI 6).toInt = 6 by decide) rfl) ?_ ?_
        · exact hQj
        · refine sm_if (cI_lt rfl (show (nI 0).toInt = 0 by decide)) ?_ ?_
          · exact hQj
          · refine sm_if (cI_le (show (nI 6).toInt = 6 by decide) rfl) ?_ ?_
            · exact hQj
            · refine sm_getA rfl (fun v62 => ?_)
              refine sm_aldI (by decide) (tc_add (tc_mul (show (nI 6).toInt = 6 by decide) rfl) rfl) (fun v67 => ?_)
              refine sm_if (cI_eq rfl (show ((-1) : Int32).toInt = (-1) by decide)) ?_ ?_
              · refine sm_astZ (tc_add (tc_mul (show (nI 6).toInt = 6 by decide) rfl) rfl) (show (nI 1).toInt = 1 by decide) ?_
                exact hrec20 _ _ (tc_add rfl rfl) _ _ (tc_add rfl rfl) _ _ (tc_add rfl (show (nI 1).toInt = 1 by decide))
              · exact hk72 _ _ (tc_add (tc_mul (show (nI 6).toInt = 6 by decide) rfl) rfl)
theorem sm_X3_slides : ∀ (x0 : Nat), ∀ (x1 : Int32) (X1 : Int), x1.toInt = X1 → ∀ (x2 : Int32) (X2 : Int), x2.toInt = X2 → ∀ (x3 : Int32) (X3 : Int), x3.toInt = X3 → ∀ (x4 : Int32) (X4 : Int), x4.toInt = X4 → ∀ (x5 : Int32) (X5 : Int), x5.toInt = X5 → ∀ (x6 : Int32) (X6 : Int), x6.toInt = X6 → ∀ (x7 : Nat), ∀ (x8 : JP) (X8 : MP), SM x8 X8 → SM (JX3_slides x0 x1 x2 x3 x4 x5 x6 x7 x8) (MX3_slides x0 X1 X2 X3 X4 X5 X6 x7 X8) := by
  intro p0 p1 p1' hp1 p2 p2' hp2 p3 p3' hp3 p4 p4' hp4 p5 p5' hp5 p6 p6' hp6 p7 Qj Qj' hQj
  subst hp1
  subst hp2
  subst hp3
  subst hp4
  subst hp5
  subst hp6
  unfold JX3_slides MX3_slides
  refine sm_ex (fun n20 => ?_)
  refine smFX3_slides_20 p0 p3 p4 p5 p7 hQj ?_ n20 _ _ (tc_add (tc_rem rfl (show (nI 6).toInt = 6 by decide)) rfl) _ _ (tc_add (tc_div rfl (show (nI 6).toInt = 6 by decide)) rfl) _ _ (show (nI 0).toInt = 0 by decide)
  · intro y11_72 y11_72' hy11_72
    subst hy11_72
    refine sm_if (cI_eq rfl (show (nI 0).toInt = 0 by decide)) ?_ ?_
    · exact hQj
    · refine sm_getA rfl (fun v78 => ?_)
      refine sm_aldI (by decide) rfl (fun v83 => ?_)
      refine sm_if (cI_eq rfl rfl) ?_ ?_
      · exact hQj
      · refine sm_astZ rfl (show (nI 1).toInt = 1 by decide) ?_
        exact hQj
theorem smFX13_marks_3 (this : Nat) (p1 : Nat) (p2 : Int32) (p3 : Int32) (p4 : Nat) {Qj : JP} {Qj' : MP} (hQj : SM Qj Qj') : ∀ n : Nat, ∀ (x0 : Int32) (X0 : Int), x0.toInt = X0 → SM (jit (FX13_marks_3 this p1 p2 p3 p4 Qj) (fun _ => jbot) n x0) (jit (GX13_marks_3 this p1 p2.toInt p3.toInt p4 Qj') (fun _ => mbot) n X0) := by
  intro n
  induction n with
  | zero =>
    intro x5_3 x5_3' hx5_3
    exact SM.bot
  | succ n ih =>
    intro x5_3 x5_3' hx5_3
    subst hx5_3
    show SM (FX13_marks_3 this p1 p2 p3 p4 Qj (jit (FX13_marks_3 this p1 p2 p3 p4 Qj) (fun _ => jbot) n) x5_3) (GX13_marks_3 this p1 p2.toInt p3.toInt p4 Qj' (jit (GX13_marks_3 this p1 p2.toInt p3.toInt p4 Qj') (fun _ => mbot) n) x5_3.toInt)
    generalize jit (FX13_marks_3 this p1 p2 p3 p4 Qj) (fun _ => jbot) n = rec3 at ih ⊢
    generalize jit (GX13_marks_3 this p1 p2.toInt p3.toInt p4 Qj') (fun _ => mbot) n = rec3' at ih ⊢
    have hrec3 := ih
    unfold FX13_marks_3 GX13_marks_3
    refine sm_if (cI_lt (show (nI 1).toInt = 1 by decide) rfl) ?_ ?_
    · exact hQj
    · refine sm_getI rfl (fun v16 => ?_)
      refine sm_X3_slides p1 _ _ rfl _ _ rfl _ _ rfl _ _ (show (nI 0).toInt = 0 by decide) _ _ rfl _ _ (show (nI 1).toInt = 1 by decide) p4 _ _ ?_
      refine sm_getI rfl (fun v32 => ?_)
      refine sm_X3_slides p1 _ _ rfl _ _ rfl _ _ (show (nI 0).toInt = 0 by decide) _ _ rfl _ _ rfl _ _ (show (nI 1).toInt = 1 by decide) p4 _ _ ?_
      exact hrec3 _ _ (tc_add rfl (show (nI 2).toInt = 2 by decide))
theorem sm_X13_marks : ∀ (x0 : Nat), ∀ (x1 : Nat), ∀ (x2 : Int32) (X2 : Int), x2.toInt = X2 → ∀ (x3 : Int32) (X3 : Int), x3.toInt = X3 → ∀ (x4 : Nat), ∀ (x5 : JP) (X5 : MP), SM x5 X5 → SM (JX13_marks x0 x1 x2 x3 x4 x5) (MX13_marks x0 x1 X2 X3 x4 X5) := by
  intro this p1 p2 p2' hp2 p3 p3' hp3 p4 Qj Qj' hQj
  subst hp2
  subst hp3
  unfold JX13_marks MX13_marks
  refine sm_ex (fun n3 => ?_)
  refine smFX13_marks_3 this p1 p2 p3 p4 hQj n3 _ _ (show ((-1) : Int32).toInt = (-1) by decide)
theorem smFX14_marks_12 (this : Nat) (p1 : Nat) (p2 : Int32) (p3 : Int32) (p4 : Nat) (x5_3 : Int32) {k41 : JP} {k41' : MP} (hk41 : SM k41 k41') : ∀ n : Nat, ∀ (x0 : Int32) (X0 : Int), x0.toInt = X0 → SM (jit (FX14_marks_12 this p1 p2 p3 p4 x5_3 k41) (fun _ => jbot) n x0) (jit (GX14_marks_12 this p1 p2.toInt p3.toInt p4 x5_3.toInt k41') (fun _ => mbot) n X0) := by
  intro n
  induction n with
  | zero =>
    intro x6_12 x6_12' hx6_12
    exact SM.bot
  | succ n ih =>
    intro x6_12 x6_12' hx6_12
    subst hx6_12
    show SM (FX14_marks_12 this p1 p2 p3 p4 x5_3 k41 (jit (FX14_marks_12 this p1 p2 p3 p4 x5_3 k41) (fun _ => jbot) n) x6_12) (GX14_marks_12 this p1 p2.toInt p3.toInt p4 x5_3.toInt k41' (jit (GX14_marks_12 this p1 p2.toInt p3.toInt p4 x5_3.toInt k41') (fun _ => mbot) n) x6_12.toInt)
    generalize jit (FX14_marks_12 this p1 p2 p3 p4 x5_3 k41) (fun _ => jbot) n = rec12 at ih ⊢
    generalize jit (GX14_marks_12 this p1 p2.toInt p3.toInt p4 x5_3.toInt k41') (fun _ => mbot) n = rec12' at ih ⊢
    have hrec12 := ih
    unfold FX14_marks_12 GX14_marks_12
    refine sm_if (cI_lt (show (nI 1).toInt = 1 by decide) rfl) ?_ ?_
    · exact hk41
    · refine sm_getI rfl (fun v26 => ?_)
      refine sm_X3_slides p1 _ _ rfl _ _ rfl _ _ rfl _ _ rfl _ _ rfl _ _ (show (nI 1).toInt = 1 by decide) p4 _ _ ?_
      exact hrec12 _ _ (tc_add rfl (show (nI 2).toInt = 2 by decide))
theorem smFX14_marks_3 (this : Nat) (p1 : Nat) (p2 : Int32) (p3 : Int32) (p4 : Nat) {Qj : JP} {Qj' : MP} (hQj : SM Qj Qj') : ∀ n : Nat, ∀ (x0 : Int32) (X0 : Int), x0.toInt = X0 → SM (jit (FX14_marks_3 this p1 p2 p3 p4 Qj) (fun _ => jbot) n x0) (jit (GX14_marks_3 this p1 p2.toInt p3.toInt p4 Qj') (fun _ => mbot) n X0) := by
  intro n
  induction n with
  | zero =>
    intro x5_3 x5_3' hx5_3
    exact SM.bot
  | succ n ih =>
    intro x5_3 x5_3' hx5_3
    subst hx5_3
    show SM (FX14_marks_3 this p1 p2 p3 p4 Qj (jit (FX14_marks_3 this p1 p2 p3 p4 Qj) (fun _ => jbot) n) x5_3) (GX14_marks_3 this p1 p2.toInt p3.toInt p4 Qj' (jit (GX14_marks_3 this p1 p2.toInt p3.toInt p4 Qj') (fun _ => mbot) n) x5_3.toInt)
    generalize jit (FX14_marks_3 this p1 p2 p3 p4 Qj) (fun _ => jbot) n = rec3 at ih ⊢
    generalize jit (GX14_marks_3 this p1 p2.toInt p3.toInt p4 Qj') (fun _ => mbot) n = rec3' at ih ⊢
    have hrec3 := ih
    unfold FX14_marks_3 GX14_marks_3
    refine sm_if (cI_lt (show (nI 1).toInt = 1 by decide) rfl) ?_ ?_
    · exact hQj
    · refine sm_ex (fun n12 => ?_)
      refine smFX14_marks_12 this p1 p2 p3 p4 x5_3 ?_ n12 _ _ (show ((-1) : Int32).toInt = (-1) by decide)
      · exact hrec3 _ _ (tc_add rfl (show (nI 2).toInt = 2 by decide))
theorem sm_X14_marks : ∀ (x0 : Nat), ∀ (x1 : Nat), ∀ (x2 : Int32) (X2 : Int), x2.toInt = X2 → ∀ (x3 : Int32) (X3 : Int), x3.toInt = X3 → ∀ (x4 : Nat), ∀ (x5 : JP) (X5 : MP), SM x5 X5 → SM (JX14_marks x0 x1 x2 x3 x4 x5) (MX14_marks x0 x1 X2 X3 x4 X5) := by
  intro this p1 p2 p2' hp2 p3 p3' hp3 p4 Qj Qj' hQj
  subst hp2
  subst hp3
  unfold JX14_marks MX14_marks
  refine sm_ex (fun n3 => ?_)
  refine smFX14_marks_3 this p1 p2 p3 p4 hQj n3 _ _ (show ((-1) : Int32).toInt = (-1) by decide)
theorem sm_X15_marks : ∀ (x0 : Nat), ∀ (x1 : Nat), ∀ (x2 : Int32) (X2 : Int), x2.toInt = X2 → ∀ (x3 : Int32) (X3 : Int), x3.toInt = X3 → ∀ (x4 : Nat), ∀ (x5 : JP) (X5 : MP), SM x5 X5 → SM (JX15_marks x0 x1 x2 x3 x4 x5) (MX15_marks x0 x1 X2 X3 x4 X5) := by
  intro this p1 p2 p2' hp2 p3 p3' hp3 p4 Qj Qj' hQj
  subst hp2
  subst hp3
  unfold JX15_marks MX15_marks
  refine sm_join (fun (k13 : Int32 → JP) (k13' : Int → MP) => ∀ (x0 : Int32) (X0 : Int), x0.toInt = X0 → SM (k13 x0) (k13' X0)) ?_ (fun k13 k13' hk13 => ?_)
  · intro s4_13 s4_13' hs4_13
    subst hs4_13
    refine sm_getI rfl (fun v14 => ?_)
    exact sm_X3_slides p1 _ _ rfl _ _ rfl _ _ (show (nI 0).toInt = 0 by decide) _ _ rfl _ _ rfl _ _ (show (nI 0).toInt = 0 by decide) p4 _ _ hQj
  refine sm_if (cI_eq rfl (show (nI 0).toInt = 0 by decide)) ?_ ?_
  · exact hk13 _ _ (show (nI 1).toInt = 1 by decide)
  · exact hk13 _ _ (show ((-1) : Int32).toInt = (-1) by decide)
theorem smFX10_gathers_126 (this : Nat) (p3 : Nat) (x5_6 : Int32) {k167 : Int32 → JP} {k167' : Int → MP} (hk167 : ∀ (x0 : Int32) (X0 : Int), x0.toInt = X0 → SM (k167 x0) (k167' X0)) : ∀ n : Nat, ∀ (x0 : Int32) (X0 : Int), x0.toInt = X0 → ∀ (x1 : Int32) (X1 : Int), x1.toInt = X1 → SM (jit (FX10_gathers_126 this p3 x5_6 k167) (fun _ _ => jbot) n x0 x1) (jit (GX10_gathers_126 this p3 x5_6.toInt k167') (fun _ _ => mbot) n X0 X1) := by
  intro n
  induction n with
  | zero =>
    intro x4_126 x4_126' hx4_126 x6_126 x6_126' hx6_126
    exact SM.bot
  | succ n ih =>
    intro x4_126 x4_126' hx4_126 x6_126 x6_126' hx6_126
    subst hx4_126
    subst hx6_126
    show SM (FX10_gathers_126 this p3 x5_6 k167 (jit (FX10_gathers_126 this p3 x5_6 k167) (fun _ _ => jbot) n) x4_126 x6_126) (GX10_gathers_126 this p3 x5_6.toInt k167' (jit (GX10_gathers_126 this p3 x5_6.toInt k167') (fun _ _ => mbot) n) x4_126.toInt x6_126.toInt)
    generalize jit (FX10_gathers_126 this p3 x5_6 k167) (fun _ _ => jbot) n = rec126 at ih ⊢
    generalize jit (GX10_gathers_126 this p3 x5_6.toInt k167') (fun _ _ => mbot) n = rec126' at ih ⊢
    have hrec126 := ih
    unfold FX10_gathers_126 GX10_gathers_126
    refine sm_if (cI_le (show (nI 36).toInt = 36 by decide) rfl) ?_ ?_
    · exact hk167 _ _ rfl
    · refine sm_getA rfl (fun v134 => ?_)
      refine sm_aldI (by decide) rfl (fun v139 => ?_)
      refine sm_join (fun (k161 : Int32 → JP) (k161' : Int → MP) => ∀ (x0 : Int32) (X0 : Int), x0.toInt = X0 → SM (k161 x0) (k161' X0)) ?_ (fun k161 k161' hk161 => ?_)
      · intro x4_161 x4_161' hx4_161
        subst hx4_161
        exact hrec126 _ _ rfl _ _ (tc_add rfl (show (nI 1).toInt = 1 by decide))
      refine sm_if (cI_eq rfl (show (nI 0).toInt = 0 by decide)) ?_ ?_
      · exact hk161 _ _ rfl
      · refine sm_astI rfl (tc_add (tc_mul (show (nI 36).toInt = 36 by decide) rfl) rfl) ?_
        exact hk161 _ _ (tc_add rfl (show (nI 1).toInt = 1 by decide))
theorem smFX10_gathers_90 (this : Nat) (p1 : Nat) (p2 : Int32) (x5_6 : Int32) (v77 : Nat) (v84 : Int32) {k123 : JP} {k123' : MP} (hk123 : SM k123 k123') : ∀ n : Nat, ∀ (x0 : Int32) (X0 : Int), x0.toInt = X0 → SM (jit (FX10_gathers_90 this p1 p2 x5_6 v77 v84 k123) (fun _ => jbot) n x0) (jit (GX10_gathers_90 this p1 p2.toInt x5_6.toInt v77 v84.toInt k123') (fun _ => mbot) n X0) := by
  intro n
  induction n with
  | zero =>
    intro x8_90 x8_90' hx8_90
    exact SM.bot
  | succ n ih =>
    intro x8_90 x8_90' hx8_90
    subst hx8_90
    show SM (FX10_gathers_90 this p1 p2 x5_6 v77 v84 k123 (jit (FX10_gathers_90 this p1 p2 x5_6 v77 v84 k123) (fun _ => jbot) n) x8_90) (GX10_gathers_90 this p1 p2.toInt x5_6.toInt v77 v84.toInt k123' (jit (GX10_gathers_90 this p1 p2.toInt x5_6.toInt v77 v84.toInt k123') (fun _ => mbot) n) x8_90.toInt)
    generalize jit (FX10_gathers_90 this p1 p2 x5_6 v77 v84 k123) (fun _ => jbot) n = rec90 at ih ⊢
    generalize jit (GX10_gathers_90 this p1 p2.toInt x5_6.toInt v77 v84.toInt k123') (fun _ => mbot) n = rec90' at ih ⊢
    have hrec90 := ih
    unfold FX10_gathers_90 GX10_gathers_90
    refine sm_if (cI_le rfl rfl) ?_ ?_
    · exact hk123
    · refine sm_aldA (by decide) rfl (fun v101 => ?_)
      refine sm_getA rfl (fun v111 => ?_)
      refine sm_join (fun (kd114 : JP) (kd114' : MP) => SM kd114 kd114') ?_ (fun kd114 kd114' hkd114 => ?_)
      · exact hrec90 _ _ (tc_add rfl (show (nI 1).toInt = 1 by decide))
      refine sm_dispC ?_ ?_
      · exact sm_X4_marks v101 p1 _ _ rfl _ _ rfl v111 _ _ hkd114
      refine sm_dispC ?_ ?_
      · exact sm_X5_marks v101 p1 _ _ rfl _ _ rfl v111 _ _ hkd114
      refine sm_dispC ?_ ?_
      · exact sm_X13_marks v101 p1 _ _ rfl _ _ rfl v111 _ _ hkd114
      refine sm_dispC ?_ ?_
      · exact sm_X14_marks v101 p1 _ _ rfl _ _ rfl v111 _ _ hkd114
      refine sm_dispC ?_ ?_
      · exact sm_X15_marks v101 p1 _ _ rfl _ _ rfl v111 _ _ hkd114
      exact sm_disp0
theorem smFX10_gathers_41 (this : Nat) {k62 : JP} {k62' : MP} (hk62 : SM k62 k62') : ∀ n : Nat, ∀ (x0 : Int32) (X0 : Int), x0.toInt = X0 → SM (jit (FX10_gathers_41 this k62) (fun _ => jbot) n x0) (jit (GX10_gathers_41 this k62') (fun _ => mbot) n X0) := by
  intro n
  induction n with
  | zero =>
    intro x6_41 x6_41' hx6_41
    exact SM.bot
  | succ n ih =>
    intro x6_41 x6_41' hx6_41
    subst hx6_41
    show SM (FX10_gathers_41 this k62 (jit (FX10_gathers_41 this k62) (fun _ => jbot) n) x6_41) (GX10_gathers_41 this k62' (jit (GX10_gathers_41 this k62') (fun _ => mbot) n) x6_41.toInt)
    generalize jit (FX10_gathers_41 this k62) (fun _ => jbot) n = rec41 at ih ⊢
    generalize jit (GX10_gathers_41 this k62') (fun _ => mbot) n = rec41' at ih ⊢
    have hrec41 := ih
    unfold FX10_gathers_41 GX10_gathers_41
    refine sm_if (cI_le (show (nI 36).toInt = 36 by decide) rfl) ?_ ?_
    · exact hk62
    · refine sm_getA rfl (fun v49 => ?_)
      refine sm_astZ rfl (show (nI 0).toInt = 0 by decide) ?_
      exact hrec41 _ _ (tc_add rfl (show (nI 1).toInt = 1 by decide))
theorem smFX10_gathers_6 (this : Nat) (p1 : Nat) (p2 : Int32) (p3 : Nat) {Qj : Int32 → JP} {Qj' : Int → MP} (hQj : ∀ (x0 : Int32) (X0 : Int), x0.toInt = X0 → SM (Qj x0) (Qj' X0)) : ∀ n : Nat, ∀ (x0 : Int32) (X0 : Int), x0.toInt = X0 → ∀ (x1 : Int32) (X1 : Int), x1.toInt = X1 → SM (jit (FX10_gathers_6 this p1 p2 p3 Qj) (fun _ _ => jbot) n x0 x1) (jit (GX10_gathers_6 this p1 p2.toInt p3 Qj') (fun _ _ => mbot) n X0 X1) := by
  intro n
  induction n with
  | zero =>
    intro x4_6 x4_6' hx4_6 x5_6 x5_6' hx5_6
    exact SM.bot
  | succ n ih =>
    intro x4_6 x4_6' hx4_6 x5_6 x5_6' hx5_6
    subst hx4_6
    subst hx5_6
    show SM (FX10_gathers_6 this p1 p2 p3 Qj (jit (FX10_gathers_6 this p1 p2 p3 Qj) (fun _ _ => jbot) n) x4_6 x5_6) (GX10_gathers_6 this p1 p2.toInt p3 Qj' (jit (GX10_gathers_6 this p1 p2.toInt p3 Qj') (fun _ _ => mbot) n) x4_6.toInt x5_6.toInt)
    generalize jit (FX10_gathers_6 this p1 p2 p3 Qj) (fun _ _ => jbot) n = rec6 at ih ⊢
    generalize jit (GX10_gathers_6 this p1 p2.toInt p3 Qj') (fun _ _ => mbot) n = rec6' at ih ⊢
    have hrec6 := ih
    unfold FX10_gathers_6 GX10_gathers_6
    refine sm_if (cI_le (show (nI 36).toInt = 36 by decide) rfl) ?_ ?_
    · exact hQj _ _ rfl
    · refine sm_getA rfl (fun v14 => ?_)
      refine sm_aldI (by decide) rfl (fun v19 => ?_)
      refine sm_join (fun (k167 : Int32 → JP) (k167' : Int → MP) => ∀ (x0 : Int32) (X0 : Int), x0.toInt = X0 → SM (k167 x0) (k167' X0)) ?_ (fun k167 k167' hk167 => ?_)
      · intro x4_167 x4_167' hx4_167
        subst hx4_167
        exact hrec6 _ _ rfl _ _ (tc_add rfl (show (nI 1).toInt = 1 by decide))
      refine sm_if (cI_eq rfl (show ((-1) : Int32).toInt = (-1) by decide)) ?_ ?_
      · exact hk167 _ _ rfl
      · refine sm_getA rfl (fun v25 => ?_)
        refine sm_aldI (by decide) rfl (fun v30 => ?_)
        refine sm_if (cI_eq rfl rfl) ?_ ?_
        · refine sm_ex (fun n41 => ?_)
          refine smFX10_gathers_41 this ?_ n41 _ _ (show (nI 0).toInt = 0 by decide)
          · refine sm_getA rfl (fun v63 => ?_)
            refine sm_getA rfl (fun v66 => ?_)
            refine sm_getA rfl (fun v70 => ?_)
            refine sm_aldI (by decide) rfl (fun v75 => ?_)
            refine sm_aldA (by decide) rfl (fun v76 => ?_)
            refine sm_getA rfl (fun v77 => ?_)
            refine sm_alen (fun v84 => ?_)
            refine sm_ex (fun n90 => ?_)
            refine smFX10_gathers_90 this p1 p2 x5_6 v77 v84 ?_ n90 _ _ (show (nI 0).toInt = 0 by decide)
            · refine sm_ex (fun n126 => ?_)
              refine smFX10_gathers_126 this p3 x5_6 hk167 n126 _ _ rfl _ _ (show (nI 0).toInt = 0 by decide)
        · exact hk167 _ _ rfl
theorem sm_X10_gathers : ∀ (x0 : Nat), ∀ (x1 : Nat), ∀ (x2 : Int32) (X2 : Int), x2.toInt = X2 → ∀ (x3 : Nat), ∀ (x4 : Int32 → JP) (X4 : Int → MP), (∀ (x0 : Int32) (X0 : Int), x0.toInt = X0 → SM (x4 x0) (X4 X0)) → SM (JX10_gathers x0 x1 x2 x3 x4) (MX10_gathers x0 x1 X2 x3 X4) := by
  intro this p1 p2 p2' hp2 p3 Qj Qj' hQj
  subst hp2
  unfold JX10_gathers MX10_gathers
  refine sm_ex (fun n6 => ?_)
  refine smFX10_gathers_6 this p1 p2 p3 hQj n6 _ _ (show (nI 0).toInt = 0 by decide) _ _ (show (nI 0).toInt = 0 by decide)
theorem sm_X1_moves : ∀ (x0 : Nat), ∀ (x1 : Nat), ∀ (x2 : Nat), ∀ (x3 : Int32) (X3 : Int), x3.toInt = X3 → ∀ (x4 : Int32) (X4 : Int), x4.toInt = X4 → ∀ (x5 : Nat → Nat → JP) (X5 : Nat → Nat → MP), (∀ z q, SM (x5 z q) (X5 z q)) → ∀ (x6 : Int32 → JP) (X6 : Int → MP), (∀ (x0 : Int32) (X0 : Int), x0.toInt = X0 → SM (x6 x0) (X6 X0)) → SM (JX1_moves x0 x1 x2 x3 x4 x5 x6) (MX1_moves x0 x1 x2 X3 X4 X5 X6) := by
  intro bc bs this p1 p1' hp1 p2 p2' hp2 Ex Ex' hEx Qj Qj' hQj
  subst hp1
  subst hp2
  unfold JX1_moves MX1_moves
  refine sm_X1_isIn _ _ rfl _ _ (show (nI 0).toInt = 0 by decide) _ _ (show (nI 1).toInt = 1 by decide) _ _ ?_
  intro v3 v3' hv3
  subst hv3
  refine sm_join (fun (k19 : Int32 → JP) (k19' : Int → MP) => ∀ (x0 : Int32) (X0 : Int), x0.toInt = X0 → SM (k19 x0) (k19' X0)) ?_ (fun k19 k19' hk19 => ?_)
  · intro s0_19 s0_19' hs0_19
    subst hs0_19
    refine sm_bud (fun mc19 ms19 => ?_)
    refine sm_X1_must mc19 ms19 _ _ rfl _ _ hEx _ _ ?_
    refine sm_getA rfl (fun v23 => ?_)
    refine sm_getA rfl (fun v27 => ?_)
    refine sm_getA rfl (fun v30 => ?_)
    refine sm_getA rfl (fun v35 => ?_)
    refine sm_obj ?_
    refine sm_X10_gathers v23 v30 _ _ rfl v35 _ _ ?_
    intro v38 v38' hv38
    subst hv38
    refine sm_if (cI_eq rfl (show ((-1) : Int32).toInt = (-1) by decide)) ?_ ?_
    · exact hQj _ _ rfl
    · refine sm_if (cI_le rfl rfl) ?_ ?_
      · exact hQj _ _ (show ((-1) : Int32).toInt = (-1) by decide)
      · refine sm_getA rfl (fun v57 => ?_)
        refine sm_aldI (by decide) rfl (fun v61 => ?_)
        exact hQj _ _ rfl
  refine sm_join (fun (k18 : JP) (k18' : MP) => SM k18 k18') ?_ (fun k18 k18' hk18 => ?_)
  · exact hk19 _ _ (show (nI 0).toInt = 0 by decide)
  refine sm_if (cI_eq rfl (show (nI 0).toInt = 0 by decide)) ?_ ?_
  · exact hk18
  · refine sm_if (cI_lt rfl (show ((-1) : Int32).toInt = (-1) by decide)) ?_ ?_
    · exact hk18
    · exact hk19 _ _ (show (nI 1).toInt = 1 by decide)
theorem sm_X0_moves : ∀ (x0 : Nat), ∀ (x1 : Nat), ∀ (x2 : Nat), ∀ (x3 : Int32) (X3 : Int), x3.toInt = X3 → ∀ (x4 : Int32) (X4 : Int), x4.toInt = X4 → ∀ (x5 : Nat), ∀ (x6 : Int32 → JP) (X6 : Int → MP), (∀ (x0 : Int32) (X0 : Int), x0.toInt = X0 → SM (x6 x0) (X6 X0)) → SM (JX0_moves x0 x1 x2 x3 x4 x5 x6) (MX0_moves x0 x1 x2 X3 X4 x5 X6) := by
  intro bc bs p0 p1 p1' hp1 p2 p2' hp2 p3 Qj Qj' hQj
  subst hp1
  subst hp2
  unfold JX0_moves MX0_moves
  refine sm_bud (fun mc5 ms5 => ?_)
  refine sm_obj ?_
  refine sm_X1_moves mc5 ms5 p0 _ _ rfl _ _ rfl _ _ (fun xx5 xq5 => ?_) _ _ ?_
  · refine sm_if Iff.rfl ?_ ?_
    · exact hQj _ _ (show (nI 1).toInt = 1 by decide)
    · exact SM.bot
  intro v5 v5' hv5
  subst hv5
  refine sm_astL (show (nI 0).toInt = 0 by decide) (tc_i2l rfl) ?_
  exact hQj _ _ (show (nI 0).toInt = 0 by decide)
theorem smFX11_begins_2 (this : Nat) {Qj : JP} {Qj' : MP} (hQj : SM Qj Qj') : ∀ n : Nat, ∀ (x0 : Int32) (X0 : Int), x0.toInt = X0 → SM (jit (FX11_begins_2 this Qj) (fun _ => jbot) n x0) (jit (GX11_begins_2 this Qj') (fun _ => mbot) n X0) := by
  intro n
  induction n with
  | zero =>
    intro x1_2 x1_2' hx1_2
    exact SM.bot
  | succ n ih =>
    intro x1_2 x1_2' hx1_2
    subst hx1_2
    show SM (FX11_begins_2 this Qj (jit (FX11_begins_2 this Qj) (fun _ => jbot) n) x1_2) (GX11_begins_2 this Qj' (jit (GX11_begins_2 this Qj') (fun _ => mbot) n) x1_2.toInt)
    generalize jit (FX11_begins_2 this Qj) (fun _ => jbot) n = rec2 at ih ⊢
    generalize jit (GX11_begins_2 this Qj') (fun _ => mbot) n = rec2' at ih ⊢
    have hrec2 := ih
    unfold FX11_begins_2 GX11_begins_2
    refine sm_if (cI_le (show (nI 36).toInt = 36 by decide) rfl) ?_ ?_
    · exact hQj
    · refine sm_getA rfl (fun v9 => ?_)
      refine sm_getA rfl (fun v14 => ?_)
      refine sm_aldI (by decide) (tc_add (show (nI 13).toInt = 13 by decide) rfl) (fun v21 => ?_)
      refine sm_astI rfl rfl ?_
      exact hrec2 _ _ (tc_add rfl (show (nI 1).toInt = 1 by decide))
theorem sm_X11_begins : ∀ (x0 : Nat), ∀ (x1 : JP) (X1 : MP), SM x1 X1 → SM (JX11_begins x0 x1) (MX11_begins x0 X1) := by
  intro this Qj Qj' hQj
  unfold JX11_begins MX11_begins
  refine sm_ex (fun n2 => ?_)
  refine smFX11_begins_2 this hQj n2 _ _ (show (nI 0).toInt = 0 by decide)
theorem sm_X11_at : ∀ (x0 : Nat), ∀ (x1 : Int32) (X1 : Int), x1.toInt = X1 → ∀ (x2 : Int32) (X2 : Int), x2.toInt = X2 → ∀ (x3 : Int32 → JP) (X3 : Int → MP), (∀ (x0 : Int32) (X0 : Int), x0.toInt = X0 → SM (x3 x0) (X3 X0)) → SM (JX11_at x0 x1 x2 x3) (MX11_at x0 X1 X2 X3) := by
  intro this p1 p1' hp1 p2 p2' hp2 Qj Qj' hQj
  subst hp1
  subst hp2
  unfold JX11_at MX11_at
  refine sm_getA rfl (fun v1 => ?_)
  refine sm_aldI (by decide) (tc_add (tc_mul (show (nI 36).toInt = 36 by decide) rfl) rfl) (fun v10 => ?_)
  exact hQj _ _ rfl
theorem sm_X11_sideOf : ∀ (x0 : Int32) (X0 : Int), x0.toInt = X0 → ∀ (x1 : Int32 → JP) (X1 : Int → MP), (∀ (x0 : Int32) (X0 : Int), x0.toInt = X0 → SM (x1 x0) (X1 X0)) → SM (JX11_sideOf x0 x1) (MX11_sideOf X0 X1) := by
  intro p0 p0' hp0 Qj Qj' hQj
  subst hp0
  unfold JX11_sideOf MX11_sideOf
  exact hQj _ _ (tc_and rfl (show (nI 1).toInt = 1 by decide))
theorem sm_X11_off : ∀ (x0 : Int32) (X0 : Int), x0.toInt = X0 → ∀ (x1 : Int32) (X1 : Int), x1.toInt = X1 → ∀ (x2 : Int32) (X2 : Int), x2.toInt = X2 → ∀ (x3 : Int32 → JP) (X3 : Int → MP), (∀ (x0 : Int32) (X0 : Int), x0.toInt = X0 → SM (x3 x0) (X3 X0)) → SM (JX11_off x0 x1 x2 x3) (MX11_off X0 X1 X2 X3) := by
  intro p0 p0' hp0 p1 p1' hp1 p2 p2' hp2 Qj Qj' hQj
  subst hp0
  subst hp1
  subst hp2
  unfold JX11_off MX11_off
  refine sm_X11_in _ _ (tc_add (tc_rem rfl (show (nI 6).toInt = 6 by decide)) rfl) _ _ (show (nI 0).toInt = 0 by decide) _ _ (show (nI 5).toInt = 5 by decide) _ _ ?_
  intro v18 v18' hv18
  subst hv18
  refine sm_join (fun (k44 : JP) (k44' : MP) => SM k44 k44') ?_ (fun k44 k44' hk44 => ?_)
  · exact hQj _ _ (show ((-1) : Int32).toInt = (-1) by decide)
  refine sm_if (cI_eq rfl (show (nI 0).toInt = 0 by decide)) ?_ ?_
  · exact hk44
  · refine sm_X11_in _ _ (tc_add (tc_div rfl (show (nI 6).toInt = 6 by decide)) rfl) _ _ (show (nI 0).toInt = 0 by decide) _ _ (show (nI 5).toInt = 5 by decide) _ _ ?_
    intro v28 v28' hv28
    subst hv28
    refine sm_if (cI_eq rfl (show (nI 0).toInt = 0 by decide)) ?_ ?_
    · exact hk44
    · exact hQj _ _ (tc_add (tc_mul (show (nI 6).toInt = 6 by decide) (tc_add (tc_div rfl (show (nI 6).toInt = 6 by decide)) rfl)) (tc_add (tc_rem rfl (show (nI 6).toInt = 6 by decide)) rfl))
theorem sm_X11_may : ∀ (x0 : Nat), ∀ (x1 : Int32) (X1 : Int), x1.toInt = X1 → ∀ (x2 : Int32) (X2 : Int), x2.toInt = X2 → ∀ (x3 : Int32) (X3 : Int), x3.toInt = X3 → ∀ (x4 : JP) (X4 : MP), SM x4 X4 → SM (JX11_may x0 x1 x2 x3 x4) (MX11_may x0 X1 X2 X3 X4) := by
  intro this p1 p1' hp1 p2 p2' hp2 p3 p3' hp3 Qj Qj' hQj
  subst hp1
  subst hp2
  subst hp3
  unfold JX11_may MX11_may
  refine sm_getA rfl (fun v1 => ?_)
  refine sm_astZ (tc_add (tc_add (tc_mul (show (nI 1296).toInt = 1296 by decide) rfl) (tc_mul (show (nI 36).toInt = 36 by decide) rfl)) rfl) (show (nI 1).toInt = 1 by decide) ?_
  exact hQj
theorem smFX11_along_6 (this : Nat) (p1 : Int32) (p2 : Int32) (p3 : Int32) (p4 : Int32) (p5 : Int32) (p6 : Int32) {Qj : JP} {Qj' : MP} (hQj : SM Qj Qj') : ∀ n : Nat, ∀ (x0 : Int32) (X0 : Int), x0.toInt = X0 → ∀ (x1 : Int32) (X1 : Int), x1.toInt = X1 → SM (jit (FX11_along_6 this p1 p2 p3 p4 p5 p6 Qj) (fun _ _ => jbot) n x0 x1) (jit (GX11_along_6 this p1.toInt p2.toInt p3.toInt p4.toInt p5.toInt p6.toInt Qj') (fun _ _ => mbot) n X0 X1) := by
  intro n
  induction n with
  | zero =>
    intro x7_6 x7_6' hx7_6 x8_6 x8_6' hx8_6
    exact SM.bot
  | succ n ih =>
    intro x7_6 x7_6' hx7_6 x8_6 x8_6' hx8_6
    subst hx7_6
    subst hx8_6
    show SM (FX11_along_6 this p1 p2 p3 p4 p5 p6 Qj (jit (FX11_along_6 this p1 p2 p3 p4 p5 p6 Qj) (fun _ _ => jbot) n) x7_6 x8_6) (GX11_along_6 this p1.toInt p2.toInt p3.toInt p4.toInt p5.toInt p6.toInt Qj' (jit (GX11_along_6 this p1.toInt p2.toInt p3.toInt p4.toInt p5.toInt p6.toInt Qj') (fun _ _ => mbot) n) x7_6.toInt x8_6.toInt)
    generalize jit (FX11_along_6 this p1 p2 p3 p4 p5 p6 Qj) (fun _ _ => jbot) n = rec6 at ih ⊢
    generalize jit (GX11_along_6 this p1.toInt p2.toInt p3.toInt p4.toInt p5.toInt p6.toInt Qj') (fun _ _ => mbot) n = rec6' at ih ⊢
    have hrec6 := ih
    unfold FX11_along_6 GX11_along_6
    refine sm_if (cI_le rfl rfl) ?_ ?_
    · exact hQj
    · refine sm_X11_off _ _ rfl _ _ rfl _ _ rfl _ _ ?_
      intro v18 v18' hv18
      subst hv18
      refine sm_if (cI_le (show (nI 0).toInt = 0 by decide) rfl) ?_ ?_
      · refine sm_obj ?_
        refine sm_X11_at this _ _ rfl _ _ rfl _ _ ?_
        intro v33 v33' hv33
        subst hv33
        refine sm_join (fun (k73 : JP) (k73' : MP) => SM k73 k73') ?_ (fun k73 k73' hk73 => ?_)
        · refine sm_if (cI_lt rfl (show (nI 0).toInt = 0 by decide)) ?_ ?_
          · exact hrec6 _ _ rfl _ _ (tc_add rfl (show (nI 1).toInt = 1 by decide))
          · exact hQj
        refine sm_join (fun (k65 : JP) (k65' : MP) => SM k65 k65') ?_ (fun k65 k65' hk65 => ?_)
        · refine sm_obj ?_
          exact sm_X11_may this _ _ rfl _ _ rfl _ _ rfl _ _ hk73
        refine sm_if (cI_lt rfl (show (nI 0).toInt = 0 by decide)) ?_ ?_
        · exact hk65
        · refine sm_if (cI_eq rfl (show (nI 0).toInt = 0 by decide)) ?_ ?_
          · refine sm_X11_sideOf _ _ rfl _ _ ?_
            intro v50 v50' hv50
            subst hv50
            refine sm_obj ?_
            refine sm_X11_at this _ _ rfl _ _ rfl _ _ ?_
            intro v56 v56' hv56
            subst hv56
            refine sm_X11_sideOf _ _ rfl _ _ ?_
            intro v59 v59' hv59
            subst hv59
            refine sm_if (cI_eq rfl rfl) ?_ ?_
            · exact hk73
            · exact hk65
          · exact hk73
      · exact hQj
theorem sm_X11_along : ∀ (x0 : Nat), ∀ (x1 : Int32) (X1 : Int), x1.toInt = X1 → ∀ (x2 : Int32) (X2 : Int), x2.toInt = X2 → ∀ (x3 : Int32) (X3 : Int), x3.toInt = X3 → ∀ (x4 : Int32) (X4 : Int), x4.toInt = X4 → ∀ (x5 : Int32) (X5 : Int), x5.toInt = X5 → ∀ (x6 : Int32) (X6 : Int), x6.toInt = X6 → ∀ (x7 : JP) (X7 : MP), SM x7 X7 → SM (JX11_along x0 x1 x2 x3 x4 x5 x6 x7) (MX11_along x0 X1 X2 X3 X4 X5 X6 X7) := by
  intro this p1 p1' hp1 p2 p2' hp2 p3 p3' hp3 p4 p4' hp4 p5 p5' hp5 p6 p6' hp6 Qj Qj' hQj
  subst hp1
  subst hp2
  subst hp3
  subst hp4
  subst hp5
  subst hp6
  unfold JX11_along MX11_along
  refine sm_ex (fun n6 => ?_)
  refine smFX11_along_6 this p1 p2 p3 p4 p5 p6 hQj n6 _ _ rfl _ _ (show (nI 0).toInt = 0 by decide)
theorem smFX11_leaps_12 (this : Nat) (p1 : Int32) (p2 : Int32) (x3_3 : Int32) {k48 : JP} {k48' : MP} (hk48 : SM k48 k48') : ∀ n : Nat, ∀ (x0 : Int32) (X0 : Int), x0.toInt = X0 → SM (jit (FX11_leaps_12 this p1 p2 x3_3 k48) (fun _ => jbot) n x0) (jit (GX11_leaps_12 this p1.toInt p2.toInt x3_3.toInt k48') (fun _ => mbot) n X0) := by
  intro n
  induction n with
  | zero =>
    intro x4_12 x4_12' hx4_12
    exact SM.bot
  | succ n ih =>
    intro x4_12 x4_12' hx4_12
    subst hx4_12
    show SM (FX11_leaps_12 this p1 p2 x3_3 k48 (jit (FX11_leaps_12 this p1 p2 x3_3 k48) (fun _ => jbot) n) x4_12) (GX11_leaps_12 this p1.toInt p2.toInt x3_3.toInt k48' (jit (GX11_leaps_12 this p1.toInt p2.toInt x3_3.toInt k48') (fun _ => mbot) n) x4_12.toInt)
    generalize jit (FX11_leaps_12 this p1 p2 x3_3 k48) (fun _ => jbot) n = rec12 at ih ⊢
    generalize jit (GX11_leaps_12 this p1.toInt p2.toInt x3_3.toInt k48') (fun _ => mbot) n = rec12' at ih ⊢
    have hrec12 := ih
    unfold FX11_leaps_12 GX11_leaps_12
    refine sm_if (cI_lt (show (nI 2).toInt = 2 by decide) rfl) ?_ ?_
    · exact hk48
    · refine sm_join (fun (k42 : JP) (k42' : MP) => SM k42 k42') ?_ (fun k42 k42' hk42 => ?_)
      · exact hrec12 _ _ (tc_add rfl (show (nI 1).toInt = 1 by decide))
      refine sm_if (cI_eq (tc_add (tc_mul rfl rfl) (tc_mul rfl rfl)) (show (nI 5).toInt = 5 by decide)) ?_ ?_
      · refine sm_obj ?_
        exact sm_X11_along this _ _ rfl _ _ rfl _ _ rfl _ _ rfl _ _ (show (nI 1).toInt = 1 by decide) _ _ (show (nI 0).toInt = 0 by decide) _ _ hk42
      · exact hk42
theorem smFX11_leaps_3 (this : Nat) (p1 : Int32) (p2 : Int32) {Qj : JP} {Qj' : MP} (hQj : SM Qj Qj') : ∀ n : Nat, ∀ (x0 : Int32) (X0 : Int), x0.toInt = X0 → SM (jit (FX11_leaps_3 this p1 p2 Qj) (fun _ => jbot) n x0) (jit (GX11_leaps_3 this p1.toInt p2.toInt Qj') (fun _ => mbot) n X0) := by
  intro n
  induction n with
  | zero =>
    intro x3_3 x3_3' hx3_3
    exact SM.bot
  | succ n ih =>
    intro x3_3 x3_3' hx3_3
    subst hx3_3
    show SM (FX11_leaps_3 this p1 p2 Qj (jit (FX11_leaps_3 this p1 p2 Qj) (fun _ => jbot) n) x3_3) (GX11_leaps_3 this p1.toInt p2.toInt Qj' (jit (GX11_leaps_3 this p1.toInt p2.toInt Qj') (fun _ => mbot) n) x3_3.toInt)
    generalize jit (FX11_leaps_3 this p1 p2 Qj) (fun _ => jbot) n = rec3 at ih ⊢
    generalize jit (GX11_leaps_3 this p1.toInt p2.toInt Qj') (fun _ => mbot) n = rec3' at ih ⊢
    have hrec3 := ih
    unfold FX11_leaps_3 GX11_leaps_3
    refine sm_if (cI_lt (show (nI 2).toInt = 2 by decide) rfl) ?_ ?_
    · exact hQj
    · refine sm_ex (fun n12 => ?_)
      refine smFX11_leaps_12 this p1 p2 x3_3 ?_ n12 _ _ (show ((-2) : Int32).toInt = (-2) by decide)
      · exact hrec3 _ _ (tc_add rfl (show (nI 1).toInt = 1 by decide))
theorem sm_X11_leaps : ∀ (x0 : Nat), ∀ (x1 : Int32) (X1 : Int), x1.toInt = X1 → ∀ (x2 : Int32) (X2 : Int), x2.toInt = X2 → ∀ (x3 : JP) (X3 : MP), SM x3 X3 → SM (JX11_leaps x0 x1 x2 x3) (MX11_leaps x0 X1 X2 X3) := by
  intro this p1 p1' hp1 p2 p2' hp2 Qj Qj' hQj
  subst hp1
  subst hp2
  unfold JX11_leaps MX11_leaps
  refine sm_ex (fun n3 => ?_)
  refine smFX11_leaps_3 this p1 p2 hQj n3 _ _ (show ((-2) : Int32).toInt = (-2) by decide)
theorem smFX11_bites_3 (this : Nat) (p1 : Int32) (p2 : Int32) (p3 : Int32) {Qj : JP} {Qj' : MP} (hQj : SM Qj Qj') : ∀ n : Nat, ∀ (x0 : Int32) (X0 : Int), x0.toInt = X0 → SM (jit (FX11_bites_3 this p1 p2 p3 Qj) (fun _ => jbot) n x0) (jit (GX11_bites_3 this p1.toInt p2.toInt p3.toInt Qj') (fun _ => mbot) n X0) := by
  intro n
  induction n with
  | zero =>
    intro x4_3 x4_3' hx4_3
    exact SM.bot
  | succ n ih =>
    intro x4_3 x4_3' hx4_3
    subst hx4_3
    show SM (FX11_bites_3 this p1 p2 p3 Qj (jit (FX11_bites_3 this p1 p2 p3 Qj) (fun _ => jbot) n) x4_3) (GX11_bites_3 this p1.toInt p2.toInt p3.toInt Qj' (jit (GX11_bites_3 this p1.toInt p2.toInt p3.toInt Qj') (fun _ => mbot) n) x4_3.toInt)
    generalize jit (FX11_bites_3 this p1 p2 p3 Qj) (fun _ => jbot) n = rec3 at ih ⊢
    generalize jit (GX11_bites_3 this p1.toInt p2.toInt p3.toInt Qj') (fun _ => mbot) n = rec3' at ih ⊢
    have hrec3 := ih
    unfold FX11_bites_3 GX11_bites_3
    refine sm_if (cI_lt (show (nI 1).toInt = 1 by decide) rfl) ?_ ?_
    · exact hQj
    · refine sm_X11_off _ _ rfl _ _ rfl _ _ rfl _ _ ?_
      intro v13 v13' hv13
      subst hv13
      refine sm_join (fun (k44 : JP) (k44' : MP) => SM k44 k44') ?_ (fun k44 k44' hk44 => ?_)
      · exact hrec3 _ _ (tc_add rfl (show (nI 2).toInt = 2 by decide))
      refine sm_if (cI_lt rfl (show (nI 0).toInt = 0 by decide)) ?_ ?_
      · exact hk44
      · refine sm_obj ?_
        refine sm_X11_at this _ _ rfl _ _ rfl _ _ ?_
        intro v27 v27' hv27
        subst hv27
        refine sm_if (cI_lt rfl (show (nI 0).toInt = 0 by decide)) ?_ ?_
        · exact hk44
        · refine sm_obj ?_
          exact sm_X11_along this _ _ rfl _ _ rfl _ _ rfl _ _ rfl _ _ (show (nI 1).toInt = 1 by decide) _ _ (show (nI 0).toInt = 0 by decide) _ _ hk44
theorem sm_X11_bites : ∀ (x0 : Nat), ∀ (x1 : Int32) (X1 : Int), x1.toInt = X1 → ∀ (x2 : Int32) (X2 : Int), x2.toInt = X2 → ∀ (x3 : Int32) (X3 : Int), x3.toInt = X3 → ∀ (x4 : JP) (X4 : MP), SM x4 X4 → SM (JX11_bites x0 x1 x2 x3 x4) (MX11_bites x0 X1 X2 X3 X4) := by
  intro this p1 p1' hp1 p2 p2' hp2 p3 p3' hp3 Qj Qj' hQj
  subst hp1
  subst hp2
  subst hp3
  unfold JX11_bites MX11_bites
  refine sm_ex (fun n3 => ?_)
  refine smFX11_bites_3 this p1 p2 p3 hQj n3 _ _ (show ((-1) : Int32).toInt = (-1) by decide)
theorem smFX11_goes_187 (this : Nat) (p1 : Int32) (p2 : Int32) (v78 : Int32) (x9_172 : Int32) {k212 : JP} {k212' : MP} (hk212 : SM k212 k212') : ∀ n : Nat, ∀ (x0 : Int32) (X0 : Int), x0.toInt = X0 → SM (jit (FX11_goes_187 this p1 p2 v78 x9_172 k212) (fun _ => jbot) n x0) (jit (GX11_goes_187 this p1.toInt p2.toInt v78.toInt x9_172.toInt k212') (fun _ => mbot) n X0) := by
  intro n
  induction n with
  | zero =>
    intro x10_187 x10_187' hx10_187
    exact SM.bot
  | succ n ih =>
    intro x10_187 x10_187' hx10_187
    subst hx10_187
    show SM (FX11_goes_187 this p1 p2 v78 x9_172 k212 (jit (FX11_goes_187 this p1 p2 v78 x9_172 k212) (fun _ => jbot) n) x10_187) (GX11_goes_187 this p1.toInt p2.toInt v78.toInt x9_172.toInt k212' (jit (GX11_goes_187 this p1.toInt p2.toInt v78.toInt x9_172.toInt k212') (fun _ => mbot) n) x10_187.toInt)
    generalize jit (FX11_goes_187 this p1 p2 v78 x9_172 k212) (fun _ => jbot) n = rec187 at ih ⊢
    generalize jit (GX11_goes_187 this p1.toInt p2.toInt v78.toInt x9_172.toInt k212') (fun _ => mbot) n = rec187' at ih ⊢
    have hrec187 := ih
    unfold FX11_goes_187 GX11_goes_187
    refine sm_if (cI_lt (show (nI 1).toInt = 1 by decide) rfl) ?_ ?_
    · exact hk212
    · refine sm_obj ?_
      refine sm_X11_along this _ _ rfl _ _ rfl _ _ rfl _ _ rfl _ _ rfl _ _ (show (nI 0).toInt = 0 by decide) _ _ ?_
      exact hrec187 _ _ (tc_add rfl (show (nI 2).toInt = 2 by decide))
theorem smFX11_goes_172 (this : Nat) (p1 : Int32) (p2 : Int32) (v62 : Int32) (v78 : Int32) {k218 : JP} {k218' : MP} (hk218 : SM k218 k218') : ∀ n : Nat, ∀ (x0 : Int32) (X0 : Int), x0.toInt = X0 → SM (jit (FX11_goes_172 this p1 p2 v62 v78 k218) (fun _ => jbot) n x0) (jit (GX11_goes_172 this p1.toInt p2.toInt v62.toInt v78.toInt k218') (fun _ => mbot) n X0) := by
  intro n
  induction n with
  | zero =>
    intro x9_172 x9_172' hx9_172
    exact SM.bot
  | succ n ih =>
    intro x9_172 x9_172' hx9_172
    subst hx9_172
    show SM (FX11_goes_172 this p1 p2 v62 v78 k218 (jit (FX11_goes_172 this p1 p2 v62 v78 k218) (fun _ => jbot) n) x9_172) (GX11_goes_172 this p1.toInt p2.toInt v62.toInt v78.toInt k218' (jit (GX11_goes_172 this p1.toInt p2.toInt v62.toInt v78.toInt k218') (fun _ => mbot) n) x9_172.toInt)
    generalize jit (FX11_goes_172 this p1 p2 v62 v78 k218) (fun _ => jbot) n = rec172 at ih ⊢
    generalize jit (GX11_goes_172 this p1.toInt p2.toInt v62.toInt v78.toInt k218') (fun _ => mbot) n = rec172' at ih ⊢
    have hrec172 := ih
    unfold FX11_goes_172 GX11_goes_172
    refine sm_if (cI_lt (show (nI 1).toInt = 1 by decide) rfl) ?_ ?_
    · exact hk218
    · refine sm_if (cI_eq rfl (show (nI 1).toInt = 1 by decide)) ?_ ?_
      · refine sm_ex (fun n187 => ?_)
        refine smFX11_goes_187 this p1 p2 v78 x9_172 ?_ n187 _ _ (show ((-1) : Int32).toInt = (-1) by decide)
        · exact hrec172 _ _ (tc_add rfl (show (nI 2).toInt = 2 by decide))
      · exact hk218
theorem smFX11_goes_128 (this : Nat) (p1 : Int32) (p2 : Int32) (v62 : Int32) (v78 : Int32) {k169 : JP} {k169' : MP} (hk169 : SM k169 k169') : ∀ n : Nat, ∀ (x0 : Int32) (X0 : Int), x0.toInt = X0 → SM (jit (FX11_goes_128 this p1 p2 v62 v78 k169) (fun _ => jbot) n x0) (jit (GX11_goes_128 this p1.toInt p2.toInt v62.toInt v78.toInt k169') (fun _ => mbot) n X0) := by
  intro n
  induction n with
  | zero =>
    intro x9_128 x9_128' hx9_128
    exact SM.bot
  | succ n ih =>
    intro x9_128 x9_128' hx9_128
    subst hx9_128
    show SM (FX11_goes_128 this p1 p2 v62 v78 k169 (jit (FX11_goes_128 this p1 p2 v62 v78 k169) (fun _ => jbot) n) x9_128) (GX11_goes_128 this p1.toInt p2.toInt v62.toInt v78.toInt k169' (jit (GX11_goes_128 this p1.toInt p2.toInt v62.toInt v78.toInt k169') (fun _ => mbot) n) x9_128.toInt)
    generalize jit (FX11_goes_128 this p1 p2 v62 v78 k169) (fun _ => jbot) n = rec128 at ih ⊢
    generalize jit (GX11_goes_128 this p1.toInt p2.toInt v62.toInt v78.toInt k169') (fun _ => mbot) n = rec128' at ih ⊢
    have hrec128 := ih
    unfold FX11_goes_128 GX11_goes_128
    refine sm_if (cI_lt (show (nI 1).toInt = 1 by decide) rfl) ?_ ?_
    · exact hk169
    · refine sm_if (cI_eq rfl (show (nI 0).toInt = 0 by decide)) ?_ ?_
      · refine sm_obj ?_
        refine sm_X11_along this _ _ rfl _ _ rfl _ _ rfl _ _ (show (nI 0).toInt = 0 by decide) _ _ rfl _ _ (show (nI 0).toInt = 0 by decide) _ _ ?_
        refine sm_obj ?_
        refine sm_X11_along this _ _ rfl _ _ rfl _ _ (show (nI 0).toInt = 0 by decide) _ _ rfl _ _ rfl _ _ (show (nI 0).toInt = 0 by decide) _ _ ?_
        exact hrec128 _ _ (tc_add rfl (show (nI 2).toInt = 2 by decide))
      · exact hk169
theorem smFX11_goes_35 (this : Nat) (p1 : Int32) (p2 : Int32) {Qj : JP} {Qj' : MP} (hQj : SM Qj Qj') (v3 : Int32) (s0_19 : Int32) : ∀ n : Nat, ∀ (x0 : Int32) (X0 : Int), x0.toInt = X0 → SM (jit (FX11_goes_35 this p1 p2 Qj v3 s0_19) (fun _ => jbot) n x0) (jit (GX11_goes_35 this p1.toInt p2.toInt Qj' v3.toInt s0_19.toInt) (fun _ => mbot) n X0) := by
  intro n
  induction n with
  | zero =>
    intro x6_35 x6_35' hx6_35
    exact SM.bot
  | succ n ih =>
    intro x6_35 x6_35' hx6_35
    subst hx6_35
    show SM (FX11_goes_35 this p1 p2 Qj v3 s0_19 (jit (FX11_goes_35 this p1 p2 Qj v3 s0_19) (fun _ => jbot) n) x6_35) (GX11_goes_35 this p1.toInt p2.toInt Qj' v3.toInt s0_19.toInt (jit (GX11_goes_35 this p1.toInt p2.toInt Qj' v3.toInt s0_19.toInt) (fun _ => mbot) n) x6_35.toInt)
    generalize jit (FX11_goes_35 this p1 p2 Qj v3 s0_19) (fun _ => jbot) n = rec35 at ih ⊢
    generalize jit (GX11_goes_35 this p1.toInt p2.toInt Qj' v3.toInt s0_19.toInt) (fun _ => mbot) n = rec35' at ih ⊢
    have hrec35 := ih
    unfold FX11_goes_35 GX11_goes_35
    refine sm_getA rfl (fun v38 => ?_)
    refine sm_aldI (by decide) (tc_add (tc_add (show (nI 49).toInt = 49 by decide) (tc_mul (show (nI 14).toInt = 14 by decide) (tc_div rfl (show (nI 2).toInt = 2 by decide)))) (show (nI 1).toInt = 1 by decide)) (fun v45 => ?_)
    refine sm_if (cI_le rfl rfl) ?_ ?_
    · exact hQj
    · refine sm_getA rfl (fun v50 => ?_)
      refine sm_aldI (by decide) (tc_add (tc_add (tc_add (show (nI 49).toInt = 49 by decide) (tc_mul (show (nI 14).toInt = 14 by decide) (tc_div rfl (show (nI 2).toInt = 2 by decide)))) (show (nI 2).toInt = 2 by decide)) (tc_mul (show (nI 2).toInt = 2 by decide) rfl)) (fun v62 => ?_)
      refine sm_getA rfl (fun v66 => ?_)
      refine sm_aldI (by decide) (tc_add (tc_add (tc_add (show (nI 49).toInt = 49 by decide) (tc_mul (show (nI 14).toInt = 14 by decide) (tc_div rfl (show (nI 2).toInt = 2 by decide)))) (show (nI 3).toInt = 3 by decide)) (tc_mul (show (nI 2).toInt = 2 by decide) rfl)) (fun v78 => ?_)
      refine sm_join (fun (k99 : JP) (k99' : MP) => SM k99 k99') ?_ (fun k99 k99' hk99 => ?_)
      · refine sm_join (fun (k111 : JP) (k111' : MP) => SM k111 k111') ?_ (fun k111 k111' hk111 => ?_)
        · refine sm_join (fun (k125 : JP) (k125' : MP) => SM k125 k125') ?_ (fun k125 k125' hk125 => ?_)
          · refine sm_ex (fun n128 => ?_)
            refine smFX11_goes_128 this p1 p2 v62 v78 ?_ n128 _ _ (show ((-1) : Int32).toInt = (-1) by decide)
            · refine sm_ex (fun n172 => ?_)
              refine smFX11_goes_172 this p1 p2 v62 v78 ?_ n172 _ _ (show ((-1) : Int32).toInt = (-1) by decide)
              · exact hrec35 _ _ (tc_add rfl (show (nI 1).toInt = 1 by decide))
          refine sm_if (cI_eq rfl (show (nI 4).toInt = 4 by decide)) ?_ ?_
          · refine sm_obj ?_
            exact sm_X11_bites this _ _ rfl _ _ rfl _ _ rfl _ _ hk125
          · exact hk125
        refine sm_if (cI_eq rfl (show (nI 3).toInt = 3 by decide)) ?_ ?_
        · refine sm_obj ?_
          exact sm_X11_leaps this _ _ rfl _ _ rfl _ _ hk111
        · exact hk111
      refine sm_if (cI_eq rfl (show (nI 2).toInt = 2 by decide)) ?_ ?_
      · refine sm_obj ?_
        exact sm_X11_along this _ _ rfl _ _ rfl _ _ (show (nI 0).toInt = 0 by decide) _ _ rfl _ _ rfl _ _ (show (nI 1).toInt = 1 by decide) _ _ hk99
      · exact hk99
theorem sm_X11_goes : ∀ (x0 : Nat), ∀ (x1 : Int32) (X1 : Int), x1.toInt = X1 → ∀ (x2 : Int32) (X2 : Int), x2.toInt = X2 → ∀ (x3 : JP) (X3 : MP), SM x3 X3 → SM (JX11_goes x0 x1 x2 x3) (MX11_goes x0 X1 X2 X3) := by
  intro this p1 p1' hp1 p2 p2' hp2 Qj Qj' hQj
  subst hp1
  subst hp2
  unfold JX11_goes MX11_goes
  refine sm_obj ?_
  refine sm_X11_at this _ _ rfl _ _ rfl _ _ ?_
  intro v3 v3' hv3
  subst hv3
  refine sm_X11_sideOf _ _ rfl _ _ ?_
  intro v8 v8' hv8
  subst hv8
  refine sm_join (fun (k19 : Int32 → JP) (k19' : Int → MP) => ∀ (x0 : Int32) (X0 : Int), x0.toInt = X0 → SM (k19 x0) (k19' X0)) ?_ (fun k19 k19' hk19 => ?_)
  · intro s0_19 s0_19' hs0_19
    subst hs0_19
    refine sm_ex (fun n35 => ?_)
    refine smFX11_goes_35 this p1 p2 hQj v3 s0_19 n35 _ _ (show (nI 0).toInt = 0 by decide)
  refine sm_if (cI_eq rfl (show (nI 0).toInt = 0 by decide)) ?_ ?_
  · exact hk19 _ _ (show (nI 1).toInt = 1 by decide)
  · exact hk19 _ _ (show ((-1) : Int32).toInt = (-1) by decide)
theorem smFX11_finds_30 (this : Nat) (p1 : Int32) (p2 : Int32) {Qj : JP} {Qj' : MP} (hQj : SM Qj Qj') : ∀ n : Nat, ∀ (x0 : Int32) (X0 : Int), x0.toInt = X0 → SM (jit (FX11_finds_30 this p1 p2 Qj) (fun _ => jbot) n x0) (jit (GX11_finds_30 this p1.toInt p2.toInt Qj') (fun _ => mbot) n X0) := by
  intro n
  induction n with
  | zero =>
    intro x3_30 x3_30' hx3_30
    exact SM.bot
  | succ n ih =>
    intro x3_30 x3_30' hx3_30
    subst hx3_30
    show SM (FX11_finds_30 this p1 p2 Qj (jit (FX11_finds_30 this p1 p2 Qj) (fun _ => jbot) n) x3_30) (GX11_finds_30 this p1.toInt p2.toInt Qj' (jit (GX11_finds_30 this p1.toInt p2.toInt Qj') (fun _ => mbot) n) x3_30.toInt)
    generalize jit (FX11_finds_30 this p1 p2 Qj) (fun _ => jbot) n = rec30 at ih ⊢
    generalize jit (GX11_finds_30 this p1.toInt p2.toInt Qj') (fun _ => mbot) n = rec30' at ih ⊢
    have hrec30 := ih
    unfold FX11_finds_30 GX11_finds_30
    refine sm_if (cI_le (show (nI 36).toInt = 36 by decide) rfl) ?_ ?_
    · exact hQj
    · refine sm_obj ?_
      refine sm_X11_at this _ _ rfl _ _ rfl _ _ ?_
      intro v39 v39' hv39
      subst hv39
      refine sm_join (fun (k64 : JP) (k64' : MP) => SM k64 k64') ?_ (fun k64 k64' hk64 => ?_)
      · exact hrec30 _ _ (tc_add rfl (show (nI 1).toInt = 1 by decide))
      refine sm_if (cI_lt rfl (show (nI 0).toInt = 0 by decide)) ?_ ?_
      · exact hk64
      · refine sm_obj ?_
        refine sm_X11_at this _ _ rfl _ _ rfl _ _ ?_
        intro v48 v48' hv48
        subst hv48
        refine sm_X11_sideOf _ _ rfl _ _ ?_
        intro v51 v51' hv51
        subst hv51
        refine sm_if (cI_eq rfl rfl) ?_ ?_
        · refine sm_obj ?_
          exact sm_X11_goes this _ _ rfl _ _ rfl _ _ hk64
        · exact hk64
theorem smFX11_finds_2 (this : Nat) (p1 : Int32) {k28 : JP} {k28' : MP} (hk28 : SM k28 k28') : ∀ n : Nat, ∀ (x0 : Int32) (X0 : Int), x0.toInt = X0 → SM (jit (FX11_finds_2 this p1 k28) (fun _ => jbot) n x0) (jit (GX11_finds_2 this p1.toInt k28') (fun _ => mbot) n X0) := by
  intro n
  induction n with
  | zero =>
    intro x3_2 x3_2' hx3_2
    exact SM.bot
  | succ n ih =>
    intro x3_2 x3_2' hx3_2
    subst hx3_2
    show SM (FX11_finds_2 this p1 k28 (jit (FX11_finds_2 this p1 k28) (fun _ => jbot) n) x3_2) (GX11_finds_2 this p1.toInt k28' (jit (GX11_finds_2 this p1.toInt k28') (fun _ => mbot) n) x3_2.toInt)
    generalize jit (FX11_finds_2 this p1 k28) (fun _ => jbot) n = rec2 at ih ⊢
    generalize jit (GX11_finds_2 this p1.toInt k28') (fun _ => mbot) n = rec2' at ih ⊢
    have hrec2 := ih
    unfold FX11_finds_2 GX11_finds_2
    refine sm_if (cI_le (show (nI 1296).toInt = 1296 by decide) rfl) ?_ ?_
    · exact hk28
    · refine sm_getA rfl (fun v10 => ?_)
      refine sm_astZ (tc_add (tc_mul (show (nI 1296).toInt = 1296 by decide) rfl) rfl) (show (nI 0).toInt = 0 by decide) ?_
      exact hrec2 _ _ (tc_add rfl (show (nI 1).toInt = 1 by decide))
theorem sm_X11_finds : ∀ (x0 : Nat), ∀ (x1 : Int32) (X1 : Int), x1.toInt = X1 → ∀ (x2 : Int32) (X2 : Int), x2.toInt = X2 → ∀ (x3 : JP) (X3 : MP), SM x3 X3 → SM (JX11_finds x0 x1 x2 x3) (MX11_finds x0 X1 X2 X3) := by
  intro this p1 p1' hp1 p2 p2' hp2 Qj Qj' hQj
  subst hp1
  subst hp2
  unfold JX11_finds MX11_finds
  refine sm_ex (fun n2 => ?_)
  refine smFX11_finds_2 this p1 ?_ n2 _ _ (show (nI 0).toInt = 0 by decide)
  · refine sm_ex (fun n30 => ?_)
    refine smFX11_finds_30 this p1 p2 hQj n30 _ _ (show (nI 0).toInt = 0 by decide)
theorem smFX11_manyAt_4 (this : Nat) (p1 : Int32) {Qj : Int32 → JP} {Qj' : Int → MP} (hQj : ∀ (x0 : Int32) (X0 : Int), x0.toInt = X0 → SM (Qj x0) (Qj' X0)) : ∀ n : Nat, ∀ (x0 : Int32) (X0 : Int), x0.toInt = X0 → ∀ (x1 : Int32) (X1 : Int), x1.toInt = X1 → SM (jit (FX11_manyAt_4 this p1 Qj) (fun _ _ => jbot) n x0 x1) (jit (GX11_manyAt_4 this p1.toInt Qj') (fun _ _ => mbot) n X0 X1) := by
  intro n
  induction n with
  | zero =>
    intro x2_4 x2_4' hx2_4 x3_4 x3_4' hx3_4
    exact SM.bot
  | succ n ih =>
    intro x2_4 x2_4' hx2_4 x3_4 x3_4' hx3_4
    subst hx2_4
    subst hx3_4
    show SM (FX11_manyAt_4 this p1 Qj (jit (FX11_manyAt_4 this p1 Qj) (fun _ _ => jbot) n) x2_4 x3_4) (GX11_manyAt_4 this p1.toInt Qj' (jit (GX11_manyAt_4 this p1.toInt Qj') (fun _ _ => mbot) n) x2_4.toInt x3_4.toInt)
    generalize jit (FX11_manyAt_4 this p1 Qj) (fun _ _ => jbot) n = rec4 at ih ⊢
    generalize jit (GX11_manyAt_4 this p1.toInt Qj') (fun _ _ => mbot) n = rec4' at ih ⊢
    have hrec4 := ih
    unfold FX11_manyAt_4 GX11_manyAt_4
    refine sm_if (cI_le (show (nI 1296).toInt = 1296 by decide) rfl) ?_ ?_
    · exact hQj _ _ rfl
    · refine sm_getA rfl (fun v13 => ?_)
      refine sm_aldI (by decide) (tc_add (tc_mul (show (nI 1296).toInt = 1296 by decide) rfl) rfl) (fun v23 => ?_)
      refine sm_join (fun (k32 : Int32 → JP) (k32' : Int → MP) => ∀ (x0 : Int32) (X0 : Int), x0.toInt = X0 → SM (k32 x0) (k32' X0)) ?_ (fun k32 k32' hk32 => ?_)
      · intro s1_32 s1_32' hs1_32
        subst hs1_32
        exact hrec4 _ _ (tc_add rfl rfl) _ _ (tc_add rfl (show (nI 1).toInt = 1 by decide))
      refine sm_if (cI_eq rfl (show (nI 0).toInt = 0 by decide)) ?_ ?_
      · exact hk32 _ _ (show (nI 0).toInt = 0 by decide)
      · exact hk32 _ _ (show (nI 1).toInt = 1 by decide)
theorem sm_X11_manyAt : ∀ (x0 : Nat), ∀ (x1 : Int32) (X1 : Int), x1.toInt = X1 → ∀ (x2 : Int32 → JP) (X2 : Int → MP), (∀ (x0 : Int32) (X0 : Int), x0.toInt = X0 → SM (x2 x0) (X2 X0)) → SM (JX11_manyAt x0 x1 x2) (MX11_manyAt x0 X1 X2) := by
  intro this p1 p1' hp1 Qj Qj' hQj
  subst hp1
  unfold JX11_manyAt MX11_manyAt
  refine sm_ex (fun n4 => ?_)
  refine smFX11_manyAt_4 this p1 hQj n4 _ _ (show (nI 0).toInt = 0 by decide) _ _ (show (nI 0).toInt = 0 by decide)
theorem smFX11_moveAt_5 (this : Nat) (p1 : Int32) {Qj : Int32 → JP} {Qj' : Int → MP} (hQj : ∀ (x0 : Int32) (X0 : Int), x0.toInt = X0 → SM (Qj x0) (Qj' X0)) : ∀ n : Nat, ∀ (x0 : Int32) (X0 : Int), x0.toInt = X0 → ∀ (x1 : Int32) (X1 : Int), x1.toInt = X1 → SM (jit (FX11_moveAt_5 this p1 Qj) (fun _ _ => jbot) n x0 x1) (jit (GX11_moveAt_5 this p1.toInt Qj') (fun _ _ => mbot) n X0 X1) := by
  intro n
  induction n with
  | zero =>
    intro x3_5 x3_5' hx3_5 x4_5 x4_5' hx4_5
    exact SM.bot
  | succ n ih =>
    intro x3_5 x3_5' hx3_5 x4_5 x4_5' hx4_5
    subst hx3_5
    subst hx4_5
    show SM (FX11_moveAt_5 this p1 Qj (jit (FX11_moveAt_5 this p1 Qj) (fun _ _ => jbot) n) x3_5 x4_5) (GX11_moveAt_5 this p1.toInt Qj' (jit (GX11_moveAt_5 this p1.toInt Qj') (fun _ _ => mbot) n) x3_5.toInt x4_5.toInt)
    generalize jit (FX11_moveAt_5 this p1 Qj) (fun _ _ => jbot) n = rec5 at ih ⊢
    generalize jit (GX11_moveAt_5 this p1.toInt Qj') (fun _ _ => mbot) n = rec5' at ih ⊢
    have hrec5 := ih
    unfold FX11_moveAt_5 GX11_moveAt_5
    refine sm_if (cI_le (show (nI 1296).toInt = 1296 by decide) rfl) ?_ ?_
    · exact hQj _ _ (show ((-1) : Int32).toInt = (-1) by decide)
    · refine sm_getA rfl (fun v14 => ?_)
      refine sm_aldI (by decide) (tc_add (tc_mul (show (nI 1296).toInt = 1296 by decide) rfl) rfl) (fun v25 => ?_)
      refine sm_join (fun (k42 : Int32 → JP) (k42' : Int → MP) => ∀ (x0 : Int32) (X0 : Int), x0.toInt = X0 → SM (k42 x0) (k42' X0)) ?_ (fun k42 k42' hk42 => ?_)
      · intro x3_42 x3_42' hx3_42
        subst hx3_42
        exact hrec5 _ _ rfl _ _ (tc_add rfl (show (nI 1).toInt = 1 by decide))
      refine sm_if (cI_eq rfl (show (nI 0).toInt = 0 by decide)) ?_ ?_
      · exact hk42 _ _ rfl
      · refine sm_if (cI_eq rfl (show (nI 0).toInt = 0 by decide)) ?_ ?_
        · exact hQj _ _ rfl
        · exact hk42 _ _ (tc_add rfl (show ((-1) : Int32).toInt = (-1) by decide))
theorem sm_X11_moveAt : ∀ (x0 : Nat), ∀ (x1 : Int32) (X1 : Int), x1.toInt = X1 → ∀ (x2 : Int32) (X2 : Int), x2.toInt = X2 → ∀ (x3 : Int32 → JP) (X3 : Int → MP), (∀ (x0 : Int32) (X0 : Int), x0.toInt = X0 → SM (x3 x0) (X3 X0)) → SM (JX11_moveAt x0 x1 x2 x3) (MX11_moveAt x0 X1 X2 X3) := by
  intro this p1 p1' hp1 p2 p2' hp2 Qj Qj' hQj
  subst hp1
  subst hp2
  unfold JX11_moveAt MX11_moveAt
  refine sm_ex (fun n5 => ?_)
  refine smFX11_moveAt_5 this p1 hQj n5 _ _ rfl _ _ (show (nI 0).toInt = 0 by decide)
theorem sm_X11_moves : ∀ (x0 : Nat), ∀ (x1 : Int32) (X1 : Int), x1.toInt = X1 → ∀ (x2 : Int32) (X2 : Int), x2.toInt = X2 → ∀ (x3 : Int32 → JP) (X3 : Int → MP), (∀ (x0 : Int32) (X0 : Int), x0.toInt = X0 → SM (x3 x0) (X3 X0)) → SM (JX11_moves x0 x1 x2 x3) (MX11_moves x0 X1 X2 X3) := by
  intro this p1 p1' hp1 p2 p2' hp2 Qj Qj' hQj
  subst hp1
  subst hp2
  unfold JX11_moves MX11_moves
  refine sm_putI rfl (show (nI 0).toInt = 0 by decide) ?_
  refine sm_X11_in _ _ rfl _ _ (show (nI 0).toInt = 0 by decide) _ _ (show (nI 1).toInt = 1 by decide) _ _ ?_
  intro v9 v9' hv9
  subst hv9
  refine sm_join (fun (k25 : Int32 → JP) (k25' : Int → MP) => ∀ (x0 : Int32) (X0 : Int), x0.toInt = X0 → SM (k25 x0) (k25' X0)) ?_ (fun k25 k25' hk25 => ?_)
  · intro s1_25 s1_25' hs1_25
    subst hs1_25
    refine sm_obj ?_
    refine sm_X11_throwsIf this _ _ rfl _ _ (show (nI 1).toInt = 1 by decide) _ _ ?_
    intro v26 v26' hv26
    subst hv26
    refine sm_if (cI_eq rfl (show (nI 0).toInt = 0 by decide)) ?_ ?_
    · refine sm_obj ?_
      refine sm_X11_begins this _ _ ?_
      refine sm_obj ?_
      refine sm_X11_finds this _ _ (show (nI 0).toInt = 0 by decide) _ _ rfl _ _ ?_
      refine sm_if (cI_le (show (nI 0).toInt = 0 by decide) rfl) ?_ ?_
      · refine sm_obj ?_
        refine sm_X11_moveAt this _ _ (show (nI 0).toInt = 0 by decide) _ _ rfl _ _ ?_
        intro v59 v59' hv59
        subst hv59
        exact hQj _ _ rfl
      · refine sm_obj ?_
        refine sm_X11_manyAt this _ _ (show (nI 0).toInt = 0 by decide) _ _ ?_
        intro v50 v50' hv50
        subst hv50
        exact hQj _ _ rfl
    · exact hQj _ _ (show (nI 0).toInt = 0 by decide)
  refine sm_join (fun (k20 : JP) (k20' : MP) => SM k20 k20') ?_ (fun k20 k20' hk20 => ?_)
  · exact hk25 _ _ (show (nI 1).toInt = 1 by decide)
  refine sm_if (cI_eq rfl (show (nI 0).toInt = 0 by decide)) ?_ ?_
  · exact hk20
  · refine sm_if (cI_le (show ((-1) : Int32).toInt = (-1) by decide) rfl) ?_ ?_
    · exact hk25 _ _ (show (nI 0).toInt = 0 by decide)
    · exact hk20
theorem sm_X1_newBook : ∀ (x0 : Nat), ∀ (x1 : Int32) (X1 : Int), x1.toInt = X1 → ∀ (x2 : Int32 → JP) (X2 : Int → MP), (∀ (x0 : Int32) (X0 : Int), x0.toInt = X0 → SM (x2 x0) (X2 X0)) → SM (JX1_newBook x0 x1 x2) (MX1_newBook x0 X1 X2) := by
  intro this p1 p1' hp1 Qj Qj' hQj
  subst hp1
  unfold JX1_newBook MX1_newBook
  refine sm_getA rfl (fun v1 => ?_)
  refine sm_getA rfl (fun v4 => ?_)
  refine sm_getA rfl (fun v8 => ?_)
  refine sm_getI rfl (fun v11 => ?_)
  refine sm_aldA (by decide) rfl (fun v14 => ?_)
  refine sm_putI rfl rfl ?_
  refine sm_putI rfl (show (nI 0).toInt = 0 by decide) ?_
  refine sm_getA rfl (fun v27 => ?_)
  refine sm_getI rfl (fun v31 => ?_)
  refine sm_putI rfl (tc_add rfl (show (nI 1).toInt = 1 by decide)) ?_
  refine sm_putZ rfl (show (nI 0).toInt = 0 by decide) ?_
  refine sm_getA rfl (fun v45 => ?_)
  refine sm_getI rfl (fun v48 => ?_)
  exact hQj _ _ (tc_sub rfl (show (nI 1).toInt = 1 by decide))
theorem sm_X1_book : ∀ (x0 : Nat), ∀ (x1 : Nat), ∀ (x2 : Nat), ∀ (x3 : Int32) (X3 : Int), x3.toInt = X3 → ∀ (x4 : Nat → Nat → JP) (X4 : Nat → Nat → MP), (∀ z q, SM (x4 z q) (X4 z q)) → ∀ (x5 : Int32 → JP) (X5 : Int → MP), (∀ (x0 : Int32) (X0 : Int), x0.toInt = X0 → SM (x5 x0) (X5 X0)) → SM (JX1_book x0 x1 x2 x3 x4 x5) (MX1_book x0 x1 x2 X3 X4 X5) := by
  intro bc bs this p1 p1' hp1 Ex Ex' hEx Qj Qj' hQj
  subst hp1
  unfold JX1_book MX1_book
  refine sm_X1_isIn _ _ rfl _ _ (show (nI 0).toInt = 0 by decide) _ _ (show (nI 1).toInt = 1 by decide) _ _ ?_
  intro v3 v3' hv3
  subst hv3
  refine sm_bud (fun mc6 ms6 => ?_)
  refine sm_X1_must mc6 ms6 _ _ rfl _ _ hEx _ _ ?_
  refine sm_getA rfl (fun v10 => ?_)
  refine sm_getI rfl (fun v13 => ?_)
  refine sm_join (fun (k25 : Int32 → JP) (k25' : Int → MP) => ∀ (x0 : Int32) (X0 : Int), x0.toInt = X0 → SM (k25 x0) (k25' X0)) ?_ (fun k25 k25' hk25 => ?_)
  · intro s0_25 s0_25' hs0_25
    subst hs0_25
    refine sm_bud (fun mc25 ms25 => ?_)
    refine sm_X1_mayBe mc25 ms25 _ _ rfl _ _ hEx _ _ ?_
    refine sm_obj ?_
    refine sm_X1_newBook this _ _ rfl _ _ ?_
    intro v30 v30' hv30
    subst hv30
    exact hQj _ _ rfl
  refine sm_if (cI_le (show (nI 3).toInt = 3 by decide) rfl) ?_ ?_
  · exact hk25 _ _ (show (nI 0).toInt = 0 by decide)
  · exact hk25 _ _ (show (nI 1).toInt = 1 by decide)
theorem sm_X0_book : ∀ (x0 : Nat), ∀ (x1 : Nat), ∀ (x2 : Nat), ∀ (x3 : Int32) (X3 : Int), x3.toInt = X3 → ∀ (x4 : Nat), ∀ (x5 : Int32 → JP) (X5 : Int → MP), (∀ (x0 : Int32) (X0 : Int), x0.toInt = X0 → SM (x5 x0) (X5 X0)) → SM (JX0_book x0 x1 x2 x3 x4 x5) (MX0_book x0 x1 x2 X3 x4 X5) := by
  intro bc bs p0 p1 p1' hp1 p2 Qj Qj' hQj
  subst hp1
  unfold JX0_book MX0_book
  refine sm_bud (fun mc4 ms4 => ?_)
  refine sm_obj ?_
  refine sm_X1_book mc4 ms4 p0 _ _ rfl _ _ (fun xx4 xq4 => ?_) _ _ ?_
  · refine sm_if Iff.rfl ?_ ?_
    · exact hQj _ _ (show (nI 1).toInt = 1 by decide)
    · refine sm_if Iff.rfl ?_ ?_
      · exact hQj _ _ (show (nI 2).toInt = 2 by decide)
      · exact SM.bot
  intro v4 v4' hv4
  subst hv4
  refine sm_astL (show (nI 0).toInt = 0 by decide) (tc_i2l rfl) ?_
  exact hQj _ _ (show (nI 0).toInt = 0 by decide)
theorem sm_X11_book : ∀ (x0 : Nat), ∀ (x1 : Int32) (X1 : Int), x1.toInt = X1 → ∀ (x2 : Int32 → JP) (X2 : Int → MP), (∀ (x0 : Int32) (X0 : Int), x0.toInt = X0 → SM (x2 x0) (X2 X0)) → SM (JX11_book x0 x1 x2) (MX11_book x0 X1 X2) := by
  intro this p1 p1' hp1 Qj Qj' hQj
  subst hp1
  unfold JX11_book MX11_book
  refine sm_putI rfl (show (nI 0).toInt = 0 by decide) ?_
  refine sm_X11_in _ _ rfl _ _ (show (nI 0).toInt = 0 by decide) _ _ (show (nI 1).toInt = 1 by decide) _ _ ?_
  intro v9 v9' hv9
  subst hv9
  refine sm_join (fun (k20 : Int32 → JP) (k20' : Int → MP) => ∀ (x0 : Int32) (X0 : Int), x0.toInt = X0 → SM (k20 x0) (k20' X0)) ?_ (fun k20 k20' hk20 => ?_)
  · intro s1_20 s1_20' hs1_20
    subst hs1_20
    refine sm_obj ?_
    refine sm_X11_throwsIf this _ _ rfl _ _ (show (nI 1).toInt = 1 by decide) _ _ ?_
    intro v21 v21' hv21
    subst hv21
    refine sm_if (cI_eq rfl (show (nI 0).toInt = 0 by decide)) ?_ ?_
    · refine sm_getA rfl (fun v29 => ?_)
      refine sm_aldI (by decide) (show (nI 1).toInt = 1 by decide) (fun v33 => ?_)
      refine sm_join (fun (k43 : Int32 → JP) (k43' : Int → MP) => ∀ (x0 : Int32) (X0 : Int), x0.toInt = X0 → SM (k43 x0) (k43' X0)) ?_ (fun k43 k43' hk43 => ?_)
      · intro s1_43 s1_43' hs1_43
        subst hs1_43
        refine sm_obj ?_
        refine sm_X11_throwsIf this _ _ rfl _ _ (show (nI 2).toInt = 2 by decide) _ _ ?_
        intro v44 v44' hv44
        subst hv44
        refine sm_if (cI_eq rfl (show (nI 0).toInt = 0 by decide)) ?_ ?_
        · refine sm_getA rfl (fun v53 => ?_)
          refine sm_aldI (by decide) (show (nI 1).toInt = 1 by decide) (fun v57 => ?_)
          refine sm_getA rfl (fun v60 => ?_)
          refine sm_astI (tc_add (show (nI 119).toInt = 119 by decide) (tc_mul (show (nI 98).toInt = 98 by decide) rfl)) rfl ?_
          refine sm_getA rfl (fun v73 => ?_)
          refine sm_astI (tc_add (tc_add (show (nI 119).toInt = 119 by decide) (tc_mul (show (nI 98).toInt = 98 by decide) rfl)) (show (nI 1).toInt = 1 by decide)) (show (nI 0).toInt = 0 by decide) ?_
          refine sm_getA rfl (fun v88 => ?_)
          refine sm_aldI (by decide) (show (nI 1).toInt = 1 by decide) (fun v93 => ?_)
          refine sm_astI (show (nI 1).toInt = 1 by decide) (tc_add rfl (show (nI 1).toInt = 1 by decide)) ?_
          exact hQj _ _ rfl
        · exact hQj _ _ (show (nI 0).toInt = 0 by decide)
      refine sm_if (cI_eq rfl (show (nI 3).toInt = 3 by decide)) ?_ ?_
      · exact hk43 _ _ (show (nI 1).toInt = 1 by decide)
      · exact hk43 _ _ (show (nI 0).toInt = 0 by decide)
    · exact hQj _ _ (show (nI 0).toInt = 0 by decide)
  refine sm_if (cI_eq rfl (show (nI 0).toInt = 0 by decide)) ?_ ?_
  · exact hk20 _ _ (show (nI 1).toInt = 1 by decide)
  · exact hk20 _ _ (show (nI 0).toInt = 0 by decide)
theorem sm_X1_bookAt : ∀ (x0 : Nat), ∀ (x1 : Nat), ∀ (x2 : Nat), ∀ (x3 : Int32) (X3 : Int), x3.toInt = X3 → ∀ (x4 : Nat → Nat → JP) (X4 : Nat → Nat → MP), (∀ z q, SM (x4 z q) (X4 z q)) → ∀ (x5 : Nat → JP) (X5 : Nat → MP), (∀ (x0 : Nat), SM (x5 x0) (X5 x0)) → SM (JX1_bookAt x0 x1 x2 x3 x4 x5) (MX1_bookAt x0 x1 x2 X3 X4 X5) := by
  intro bc bs this p1 p1' hp1 Ex Ex' hEx Qj Qj' hQj
  subst hp1
  unfold JX1_bookAt MX1_bookAt
  refine sm_getA rfl (fun v3 => ?_)
  refine sm_getI rfl (fun v6 => ?_)
  refine sm_X1_isIn _ _ rfl _ _ (show (nI 0).toInt = 0 by decide) _ _ (tc_sub rfl (show (nI 1).toInt = 1 by decide)) _ _ ?_
  intro v11 v11' hv11
  subst hv11
  refine sm_bud (fun mc14 ms14 => ?_)
  refine sm_X1_mustBe mc14 ms14 _ _ rfl _ _ hEx _ _ ?_
  refine sm_getA rfl (fun v18 => ?_)
  refine sm_getA rfl (fun v21 => ?_)
  refine sm_aldA (by decide) rfl (fun v25 => ?_)
  exact hQj v25
theorem sm_X1_isNoted : ∀ (x0 : Nat), ∀ (x1 : Nat), ∀ (x2 : Int32) (X2 : Int), x2.toInt = X2 → ∀ (x3 : Int32) (X3 : Int), x3.toInt = X3 → ∀ (x4 : Int32) (X4 : Int), x4.toInt = X4 → ∀ (x5 : Nat → Nat → JP) (X5 : Nat → Nat → MP), (∀ z q, SM (x5 z q) (X5 z q)) → ∀ (x6 : JP) (X6 : MP), SM x6 X6 → SM (JX1_isNoted x0 x1 x2 x3 x4 x5 x6) (MX1_isNoted x0 x1 X2 X3 X4 X5 X6) := by
  intro bc bs p0 p0' hp0 p1 p1' hp1 p2 p2' hp2 Ex Ex' hEx Qj Qj' hQj
  subst hp0
  subst hp1
  subst hp2
  unfold JX1_isNoted MX1_isNoted
  refine sm_X1_isIn _ _ rfl _ _ (show ((-1) : Int32).toInt = (-1) by decide) _ _ (show (nI 5).toInt = 5 by decide) _ _ ?_
  intro v3 v3' hv3
  subst hv3
  refine sm_join (fun (k31 : JP) (k31' : MP) => SM k31 k31') ?_ (fun k31 k31' hk31 => ?_)
  · refine sm_bud (fun mc32 ms32 => ?_)
    exact sm_X1_must mc32 ms32 _ _ (show (nI 0).toInt = 0 by decide) _ _ hEx _ _ hQj
  refine sm_if (cI_eq rfl (show (nI 0).toInt = 0 by decide)) ?_ ?_
  · exact hk31
  · refine sm_X1_isIn _ _ rfl _ _ (show (nI 0).toInt = 0 by decide) _ _ (show (nI 5).toInt = 5 by decide) _ _ ?_
    intro v12 v12' hv12
    subst hv12
    refine sm_if (cI_eq rfl (show (nI 0).toInt = 0 by decide)) ?_ ?_
    · exact hk31
    · refine sm_X1_isIn _ _ rfl _ _ (show (nI 0).toInt = 0 by decide) _ _ (show (nI 5).toInt = 5 by decide) _ _ ?_
      intro v21 v21' hv21
      subst hv21
      refine sm_if (cI_eq rfl (show (nI 0).toInt = 0 by decide)) ?_ ?_
      · exact hk31
      · refine sm_bud (fun mc32 ms32 => ?_)
        exact sm_X1_must mc32 ms32 _ _ (show (nI 1).toInt = 1 by decide) _ _ hEx _ _ hQj
theorem sm_X23_init : ∀ (x0 : Nat), ∀ (x1 : Int32) (X1 : Int), x1.toInt = X1 → ∀ (x2 : Int32) (X2 : Int), x2.toInt = X2 → ∀ (x3 : Int32) (X3 : Int), x3.toInt = X3 → ∀ (x4 : Int32) (X4 : Int), x4.toInt = X4 → ∀ (x5 : JP) (X5 : MP), SM x5 X5 → SM (JX23_init x0 x1 x2 x3 x4 x5) (MX23_init x0 X1 X2 X3 X4 X5) := by
  intro this p1 p1' hp1 p2 p2' hp2 p3 p3' hp3 p4 p4' hp4 Qj Qj' hQj
  subst hp1
  subst hp2
  subst hp3
  subst hp4
  unfold JX23_init MX23_init
  refine sm_putI rfl rfl ?_
  refine sm_putI rfl rfl ?_
  refine sm_putI rfl rfl ?_
  refine sm_putI rfl rfl ?_
  exact hQj
theorem sm_X1_note : ∀ (x0 : Nat), ∀ (x1 : Nat), ∀ (x2 : Nat), ∀ (x3 : Int32) (X3 : Int), x3.toInt = X3 → ∀ (x4 : Int32) (X4 : Int), x4.toInt = X4 → ∀ (x5 : Int32) (X5 : Int), x5.toInt = X5 → ∀ (x6 : Int32) (X6 : Int), x6.toInt = X6 → ∀ (x7 : Int32) (X7 : Int), x7.toInt = X7 → ∀ (x8 : Nat → Nat → JP) (X8 : Nat → Nat → MP), (∀ z q, SM (x8 z q) (X8 z q)) → ∀ (x9 : Int32 → JP) (X9 : Int → MP), (∀ (x0 : Int32) (X0 : Int), x0.toInt = X0 → SM (x9 x0) (X9 X0)) → SM (JX1_note x0 x1 x2 x3 x4 x5 x6 x7 x8 x9) (MX1_note x0 x1 x2 X3 X4 X5 X6 X7 X8 X9) := by
  intro bc bs this p1 p1' hp1 p2 p2' hp2 p3 p3' hp3 p4 p4' hp4 p5 p5' hp5 Ex Ex' hEx Qj Qj' hQj
  subst hp1
  subst hp2
  subst hp3
  subst hp4
  subst hp5
  unfold JX1_note MX1_note
  refine sm_bud (fun mc2 ms2 => ?_)
  refine sm_obj ?_
  refine sm_X1_bookAt mc2 ms2 this _ _ rfl _ _ hEx _ _ ?_
  intro v2
  refine sm_bud (fun mc10 ms10 => ?_)
  refine sm_obj ?_
  refine sm_X1_isKind mc10 ms10 this _ _ rfl _ _ (show (nI 0).toInt = 0 by decide) _ _ hEx _ _ ?_
  refine sm_bud (fun mc18 ms18 => ?_)
  refine sm_X1_isNoted mc18 ms18 _ _ rfl _ _ rfl _ _ rfl _ _ hEx _ _ ?_
  refine sm_getI rfl (fun v23 => ?_)
  refine sm_join (fun (k36 : Int32 → JP) (k36' : Int → MP) => ∀ (x0 : Int32) (X0 : Int), x0.toInt = X0 → SM (k36 x0) (k36' X0)) ?_ (fun k36 k36' hk36 => ?_)
  · intro s0_36 s0_36' hs0_36
    subst hs0_36
    refine sm_bud (fun mc36 ms36 => ?_)
    refine sm_X1_mayBe mc36 ms36 _ _ rfl _ _ hEx _ _ ?_
    refine sm_getA rfl (fun v41 => ?_)
    refine sm_getI rfl (fun v46 => ?_)
    refine sm_new rfl rfl (fun v49 => ?_)
    refine sm_X23_init v49 _ _ rfl _ _ rfl _ _ rfl _ _ rfl _ _ ?_
    refine sm_astA (by decide) rfl ?_
    refine sm_getI rfl (fun v66 => ?_)
    refine sm_putI rfl (tc_add rfl (show (nI 1).toInt = 1 by decide)) ?_
    refine sm_putZ rfl (show (nI 0).toInt = 0 by decide) ?_
    refine sm_getI rfl (fun v81 => ?_)
    exact hQj _ _ (tc_sub rfl (show (nI 1).toInt = 1 by decide))
  refine sm_if (cI_le (show (nI 24).toInt = 24 by decide) rfl) ?_ ?_
  · exact hk36 _ _ (show (nI 0).toInt = 0 by decide)
  · exact hk36 _ _ (show (nI 1).toInt = 1 by decide)
theorem sm_X0_note : ∀ (x0 : Nat), ∀ (x1 : Nat), ∀ (x2 : Nat), ∀ (x3 : Int32) (X3 : Int), x3.toInt = X3 → ∀ (x4 : Int32) (X4 : Int), x4.toInt = X4 → ∀ (x5 : Int32) (X5 : Int), x5.toInt = X5 → ∀ (x6 : Int32) (X6 : Int), x6.toInt = X6 → ∀ (x7 : Int32) (X7 : Int), x7.toInt = X7 → ∀ (x8 : Nat), ∀ (x9 : Int32 → JP) (X9 : Int → MP), (∀ (x0 : Int32) (X0 : Int), x0.toInt = X0 → SM (x9 x0) (X9 X0)) → SM (JX0_note x0 x1 x2 x3 x4 x5 x6 x7 x8 x9) (MX0_note x0 x1 x2 X3 X4 X5 X6 X7 x8 X9) := by
  intro bc bs p0 p1 p1' hp1 p2 p2' hp2 p3 p3' hp3 p4 p4' hp4 p5 p5' hp5 p6 Qj Qj' hQj
  subst hp1
  subst hp2
  subst hp3
  subst hp4
  subst hp5
  unfold JX0_note MX0_note
  refine sm_bud (fun mc11 ms11 => ?_)
  refine sm_obj ?_
  refine sm_X1_note mc11 ms11 p0 _ _ rfl _ _ rfl _ _ rfl _ _ rfl _ _ rfl _ _ (fun xx11 xq11 => ?_) _ _ ?_
  · refine sm_if Iff.rfl ?_ ?_
    · exact hQj _ _ (show (nI 1).toInt = 1 by decide)
    · refine sm_if Iff.rfl ?_ ?_
      · exact hQj _ _ (show (nI 2).toInt = 2 by decide)
      · refine sm_if Iff.rfl ?_ ?_
        · exact hQj _ _ (show (nI 3).toInt = 3 by decide)
        · exact SM.bot
  intro v11 v11' hv11
  subst hv11
  refine sm_astL (show (nI 0).toInt = 0 by decide) (tc_i2l rfl) ?_
  exact hQj _ _ (show (nI 0).toInt = 0 by decide)
theorem sm_X11_noBook : ∀ (x0 : Nat), ∀ (x1 : Int32) (X1 : Int), x1.toInt = X1 → ∀ (x2 : Int32 → JP) (X2 : Int → MP), (∀ (x0 : Int32) (X0 : Int), x0.toInt = X0 → SM (x2 x0) (X2 X0)) → SM (JX11_noBook x0 x1 x2) (MX11_noBook x0 X1 X2) := by
  intro this p1 p1' hp1 Qj Qj' hQj
  subst hp1
  unfold JX11_noBook MX11_noBook
  refine sm_obj ?_
  refine sm_X11_none this _ _ rfl _ _ (show (nI 1).toInt = 1 by decide) _ _ ?_
  intro v3 v3' hv3
  subst hv3
  refine sm_and (fun h => h.imp (cI_eq rfl (show (nI 0).toInt = 0 by decide)).mpr (cI_eq rfl (show (nI 1).toInt = 1 by decide)).mpr) ?_
  exact hQj _ _ rfl
theorem sm_X11_badNote : ∀ (x0 : Int32) (X0 : Int), x0.toInt = X0 → ∀ (x1 : Int32) (X1 : Int), x1.toInt = X1 → ∀ (x2 : Int32) (X2 : Int), x2.toInt = X2 → ∀ (x3 : Int32 → JP) (X3 : Int → MP), (∀ (x0 : Int32) (X0 : Int), x0.toInt = X0 → SM (x3 x0) (X3 X0)) → SM (JX11_badNote x0 x1 x2 x3) (MX11_badNote X0 X1 X2 X3) := by
  intro p0 p0' hp0 p1 p1' hp1 p2 p2' hp2 Qj Qj' hQj
  subst hp0
  subst hp1
  subst hp2
  unfold JX11_badNote MX11_badNote
  refine sm_X11_in _ _ rfl _ _ (show ((-1) : Int32).toInt = (-1) by decide) _ _ (show (nI 5).toInt = 5 by decide) _ _ ?_
  intro v3 v3' hv3
  subst hv3
  refine sm_join (fun (k27 : JP) (k27' : MP) => SM k27 k27') ?_ (fun k27 k27' hk27 => ?_)
  · exact hQj _ _ (show (nI 1).toInt = 1 by decide)
  refine sm_if (cI_eq rfl (show (nI 0).toInt = 0 by decide)) ?_ ?_
  · exact hk27
  · refine sm_X11_in _ _ rfl _ _ (show (nI 0).toInt = 0 by decide) _ _ (show (nI 5).toInt = 5 by decide) _ _ ?_
    intro v12 v12' hv12
    subst hv12
    refine sm_if (cI_eq rfl (show (nI 0).toInt = 0 by decide)) ?_ ?_
    · exact hk27
    · refine sm_X11_in _ _ rfl _ _ (show (nI 0).toInt = 0 by decide) _ _ (show (nI 5).toInt = 5 by decide) _ _ ?_
      intro v21 v21' hv21
      subst hv21
      refine sm_if (cI_eq rfl (show (nI 0).toInt = 0 by decide)) ?_ ?_
      · exact hk27
      · exact hQj _ _ (show (nI 0).toInt = 0 by decide)
theorem sm_X11_ofBook : ∀ (x0 : Nat), ∀ (x1 : Int32) (X1 : Int), x1.toInt = X1 → ∀ (x2 : Int32) (X2 : Int), x2.toInt = X2 → ∀ (x3 : Int32 → JP) (X3 : Int → MP), (∀ (x0 : Int32) (X0 : Int), x0.toInt = X0 → SM (x3 x0) (X3 X0)) → SM (JX11_ofBook x0 x1 x2 x3) (MX11_ofBook x0 X1 X2 X3) := by
  intro this p1 p1' hp1 p2 p2' hp2 Qj Qj' hQj
  subst hp1
  subst hp2
  unfold JX11_ofBook MX11_ofBook
  refine sm_getA rfl (fun v1 => ?_)
  refine sm_aldI (by decide) (tc_add (tc_add (show (nI 119).toInt = 119 by decide) (tc_mul (show (nI 98).toInt = 98 by decide) rfl)) rfl) (fun v13 => ?_)
  exact hQj _ _ rfl
theorem sm_X11_notes : ∀ (x0 : Nat), ∀ (x1 : Int32) (X1 : Int), x1.toInt = X1 → ∀ (x2 : Int32 → JP) (X2 : Int → MP), (∀ (x0 : Int32) (X0 : Int), x0.toInt = X0 → SM (x2 x0) (X2 X0)) → SM (JX11_notes x0 x1 x2) (MX11_notes x0 X1 X2) := by
  intro this p1 p1' hp1 Qj Qj' hQj
  subst hp1
  unfold JX11_notes MX11_notes
  refine sm_obj ?_
  refine sm_X11_ofBook this _ _ rfl _ _ (show (nI 1).toInt = 1 by decide) _ _ ?_
  intro v3 v3' hv3
  subst hv3
  exact hQj _ _ rfl
theorem sm_X11_setsNote : ∀ (x0 : Nat), ∀ (x1 : Int32) (X1 : Int), x1.toInt = X1 → ∀ (x2 : Int32) (X2 : Int), x2.toInt = X2 → ∀ (x3 : Int32) (X3 : Int), x3.toInt = X3 → ∀ (x4 : Int32) (X4 : Int), x4.toInt = X4 → ∀ (x5 : Int32) (X5 : Int), x5.toInt = X5 → ∀ (x6 : Int32) (X6 : Int), x6.toInt = X6 → ∀ (x7 : JP) (X7 : MP), SM x7 X7 → SM (JX11_setsNote x0 x1 x2 x3 x4 x5 x6 x7) (MX11_setsNote x0 X1 X2 X3 X4 X5 X6 X7) := by
  intro this p1 p1' hp1 p2 p2' hp2 p3 p3' hp3 p4 p4' hp4 p5 p5' hp5 p6 p6' hp6 Qj Qj' hQj
  subst hp1
  subst hp2
  subst hp3
  subst hp4
  subst hp5
  subst hp6
  unfold JX11_setsNote MX11_setsNote
  refine sm_getA rfl (fun v16 => ?_)
  refine sm_astI (tc_add (tc_add (tc_add (show (nI 119).toInt = 119 by decide) (tc_mul (show (nI 98).toInt = 98 by decide) rfl)) (show (nI 2).toInt = 2 by decide)) (tc_mul (show (nI 4).toInt = 4 by decide) rfl)) rfl ?_
  refine sm_getA rfl (fun v24 => ?_)
  refine sm_astI (tc_add (tc_add (tc_add (tc_add (show (nI 119).toInt = 119 by decide) (tc_mul (show (nI 98).toInt = 98 by decide) rfl)) (show (nI 2).toInt = 2 by decide)) (tc_mul (show (nI 4).toInt = 4 by decide) rfl)) (show (nI 1).toInt = 1 by decide)) rfl ?_
  refine sm_getA rfl (fun v35 => ?_)
  refine sm_astI (tc_add (tc_add (tc_add (tc_add (show (nI 119).toInt = 119 by decide) (tc_mul (show (nI 98).toInt = 98 by decide) rfl)) (show (nI 2).toInt = 2 by decide)) (tc_mul (show (nI 4).toInt = 4 by decide) rfl)) (show (nI 2).toInt = 2 by decide)) rfl ?_
  refine sm_getA rfl (fun v46 => ?_)
  refine sm_astI (tc_add (tc_add (tc_add (tc_add (show (nI 119).toInt = 119 by decide) (tc_mul (show (nI 98).toInt = 98 by decide) rfl)) (show (nI 2).toInt = 2 by decide)) (tc_mul (show (nI 4).toInt = 4 by decide) rfl)) (show (nI 3).toInt = 3 by decide)) rfl ?_
  exact hQj
theorem sm_X11_addsNote : ∀ (x0 : Nat), ∀ (x1 : Int32) (X1 : Int), x1.toInt = X1 → ∀ (x2 : Int32) (X2 : Int), x2.toInt = X2 → ∀ (x3 : Int32) (X3 : Int), x3.toInt = X3 → ∀ (x4 : Int32) (X4 : Int), x4.toInt = X4 → ∀ (x5 : Int32) (X5 : Int), x5.toInt = X5 → ∀ (x6 : Int32 → JP) (X6 : Int → MP), (∀ (x0 : Int32) (X0 : Int), x0.toInt = X0 → SM (x6 x0) (X6 X0)) → SM (JX11_addsNote x0 x1 x2 x3 x4 x5 x6) (MX11_addsNote x0 X1 X2 X3 X4 X5 X6) := by
  intro this p1 p1' hp1 p2 p2' hp2 p3 p3' hp3 p4 p4' hp4 p5 p5' hp5 Qj Qj' hQj
  subst hp1
  subst hp2
  subst hp3
  subst hp4
  subst hp5
  unfold JX11_addsNote MX11_addsNote
  refine sm_obj ?_
  refine sm_X11_notes this _ _ rfl _ _ ?_
  intro v4 v4' hv4
  subst hv4
  refine sm_obj ?_
  refine sm_X11_setsNote this _ _ rfl _ _ rfl _ _ rfl _ _ rfl _ _ rfl _ _ rfl _ _ ?_
  refine sm_getA rfl (fun v17 => ?_)
  refine sm_aldI (by decide) (tc_add (tc_add (show (nI 119).toInt = 119 by decide) (tc_mul (show (nI 98).toInt = 98 by decide) rfl)) (show (nI 1).toInt = 1 by decide)) (fun v30 => ?_)
  refine sm_astI (tc_add (tc_add (show (nI 119).toInt = 119 by decide) (tc_mul (show (nI 98).toInt = 98 by decide) rfl)) (show (nI 1).toInt = 1 by decide)) (tc_add rfl (show (nI 1).toInt = 1 by decide)) ?_
  refine sm_obj ?_
  refine sm_X11_notes this _ _ rfl _ _ ?_
  intro v36 v36' hv36
  subst hv36
  exact hQj _ _ (tc_sub rfl (show (nI 1).toInt = 1 by decide))
theorem sm_X11_note : ∀ (x0 : Nat), ∀ (x1 : Int32) (X1 : Int), x1.toInt = X1 → ∀ (x2 : Int32) (X2 : Int), x2.toInt = X2 → ∀ (x3 : Int32) (X3 : Int), x3.toInt = X3 → ∀ (x4 : Int32) (X4 : Int), x4.toInt = X4 → ∀ (x5 : Int32) (X5 : Int), x5.toInt = X5 → ∀ (x6 : Int32 → JP) (X6 : Int → MP), (∀ (x0 : Int32) (X0 : Int), x0.toInt = X0 → SM (x6 x0) (X6 X0)) → SM (JX11_note x0 x1 x2 x3 x4 x5 x6) (MX11_note x0 X1 X2 X3 X4 X5 X6) := by
  intro this p1 p1' hp1 p2 p2' hp2 p3 p3' hp3 p4 p4' hp4 p5 p5' hp5 Qj Qj' hQj
  subst hp1
  subst hp2
  subst hp3
  subst hp4
  subst hp5
  unfold JX11_note MX11_note
  refine sm_putI rfl (show (nI 0).toInt = 0 by decide) ?_
  refine sm_obj ?_
  refine sm_X11_noBook this _ _ rfl _ _ ?_
  intro v8 v8' hv8
  subst hv8
  refine sm_join (fun (k27 : Int32 → JP) (k27' : Int → MP) => ∀ (x0 : Int32) (X0 : Int), x0.toInt = X0 → SM (k27 x0) (k27' X0)) ?_ (fun k27 k27' hk27 => ?_)
  · intro s1_27 s1_27' hs1_27
    subst hs1_27
    refine sm_obj ?_
    refine sm_X11_throwsIf this _ _ rfl _ _ (show (nI 1).toInt = 1 by decide) _ _ ?_
    intro v28 v28' hv28
    subst hv28
    refine sm_if (cI_eq rfl (show (nI 0).toInt = 0 by decide)) ?_ ?_
    · refine sm_X11_badNote _ _ rfl _ _ rfl _ _ rfl _ _ ?_
      intro v40 v40' hv40
      subst hv40
      refine sm_obj ?_
      refine sm_X11_throwsIf this _ _ rfl _ _ (show (nI 2).toInt = 2 by decide) _ _ ?_
      intro v44 v44' hv44
      subst hv44
      refine sm_if (cI_eq rfl (show (nI 0).toInt = 0 by decide)) ?_ ?_
      · refine sm_obj ?_
        refine sm_X11_notes this _ _ rfl _ _ ?_
        intro v53 v53' hv53
        subst hv53
        refine sm_join (fun (k66 : Int32 → JP) (k66' : Int → MP) => ∀ (x0 : Int32) (X0 : Int), x0.toInt = X0 → SM (k66 x0) (k66' X0)) ?_ (fun k66 k66' hk66 => ?_)
        · intro s1_66 s1_66' hs1_66
          subst hs1_66
          refine sm_obj ?_
          refine sm_X11_throwsIf this _ _ rfl _ _ (show (nI 3).toInt = 3 by decide) _ _ ?_
          intro v67 v67' hv67
          subst hv67
          refine sm_if (cI_eq rfl (show (nI 0).toInt = 0 by decide)) ?_ ?_
          · refine sm_obj ?_
            refine sm_X11_addsNote this _ _ rfl _ _ rfl _ _ rfl _ _ rfl _ _ rfl _ _ ?_
            intro v83 v83' hv83
            subst hv83
            exact hQj _ _ rfl
          · exact hQj _ _ (show (nI 0).toInt = 0 by decide)
        refine sm_if (cI_eq rfl (show (nI 24).toInt = 24 by decide)) ?_ ?_
        · exact hk66 _ _ (show (nI 1).toInt = 1 by decide)
        · exact hk66 _ _ (show (nI 0).toInt = 0 by decide)
      · exact hQj _ _ (show (nI 0).toInt = 0 by decide)
    · exact hQj _ _ (show (nI 0).toInt = 0 by decide)
  refine sm_join (fun (k22 : JP) (k22' : MP) => SM k22 k22') ?_ (fun k22 k22' hk22 => ?_)
  · exact hk27 _ _ (show (nI 1).toInt = 1 by decide)
  refine sm_if (cI_eq rfl (show (nI 0).toInt = 0 by decide)) ?_ ?_
  · refine sm_obj ?_
    refine sm_X11_noKind this _ _ rfl _ _ ?_
    intro v16 v16' hv16
    subst hv16
    refine sm_if (cI_eq rfl (show (nI 0).toInt = 0 by decide)) ?_ ?_
    · exact hk27 _ _ (show (nI 0).toInt = 0 by decide)
    · exact hk22
  · exact hk22
theorem sm_X1_isNote : ∀ (x0 : Nat), ∀ (x1 : Nat), ∀ (x2 : Nat), ∀ (x3 : Int32) (X3 : Int), x3.toInt = X3 → ∀ (x4 : Int32) (X4 : Int), x4.toInt = X4 → ∀ (x5 : Nat → Nat → JP) (X5 : Nat → Nat → MP), (∀ z q, SM (x5 z q) (X5 z q)) → ∀ (x6 : JP) (X6 : MP), SM x6 X6 → SM (JX1_isNote x0 x1 x2 x3 x4 x5 x6) (MX1_isNote x0 x1 x2 X3 X4 X5 X6) := by
  intro bc bs this p1 p1' hp1 p2 p2' hp2 Ex Ex' hEx Qj Qj' hQj
  subst hp1
  subst hp2
  unfold JX1_isNote MX1_isNote
  refine sm_bud (fun mc4 ms4 => ?_)
  refine sm_obj ?_
  refine sm_X1_bookAt mc4 ms4 this _ _ rfl _ _ hEx _ _ ?_
  intro v4
  refine sm_getI rfl (fun v7 => ?_)
  refine sm_X1_isIn _ _ rfl _ _ (show (nI 0).toInt = 0 by decide) _ _ (tc_sub rfl (show (nI 1).toInt = 1 by decide)) _ _ ?_
  intro v12 v12' hv12
  subst hv12
  refine sm_bud (fun mc15 ms15 => ?_)
  exact sm_X1_mustBe mc15 ms15 _ _ rfl _ _ hEx _ _ hQj
theorem sm_X23_isNearly : ∀ (x0 : Nat), ∀ (x1 : Nat), ∀ (x2 : Int32 → JP) (X2 : Int → MP), (∀ (x0 : Int32) (X0 : Int), x0.toInt = X0 → SM (x2 x0) (X2 X0)) → SM (JX23_isNearly x0 x1 x2) (MX23_isNearly x0 x1 X2) := by
  intro this p1 Qj Qj' hQj
  unfold JX23_isNearly MX23_isNearly
  refine sm_getI rfl (fun v1 => ?_)
  refine sm_getI rfl (fun v5 => ?_)
  refine sm_join (fun (k37 : JP) (k37' : MP) => SM k37 k37') ?_ (fun k37 k37' hk37 => ?_)
  · exact hQj _ _ (show (nI 0).toInt = 0 by decide)
  refine sm_if (cI_eq rfl rfl) ?_ ?_
  · refine sm_getI rfl (fun v12 => ?_)
    refine sm_getI rfl (fun v16 => ?_)
    refine sm_if (cI_eq rfl rfl) ?_ ?_
    · refine sm_getI rfl (fun v23 => ?_)
      refine sm_getI rfl (fun v27 => ?_)
      refine sm_if (cI_eq rfl rfl) ?_ ?_
      · exact hQj _ _ (show (nI 1).toInt = 1 by decide)
      · exact hk37
    · exact hk37
  · exact hk37
theorem sm_X23_isLike : ∀ (x0 : Nat), ∀ (x1 : Nat), ∀ (x2 : Int32 → JP) (X2 : Int → MP), (∀ (x0 : Int32) (X0 : Int), x0.toInt = X0 → SM (x2 x0) (X2 X0)) → SM (JX23_isLike x0 x1 x2) (MX23_isLike x0 x1 X2) := by
  intro this p1 Qj Qj' hQj
  unfold JX23_isLike MX23_isLike
  refine sm_getI rfl (fun v1 => ?_)
  refine sm_getI rfl (fun v5 => ?_)
  refine sm_join (fun (k23 : JP) (k23' : MP) => SM k23 k23') ?_ (fun k23 k23' hk23 => ?_)
  · exact hQj _ _ (show (nI 0).toInt = 0 by decide)
  refine sm_if (cI_eq rfl rfl) ?_ ?_
  · refine sm_obj ?_
    refine sm_X23_isNearly this p1 _ _ ?_
    intro v13 v13' hv13
    subst hv13
    refine sm_if (cI_eq rfl (show (nI 0).toInt = 0 by decide)) ?_ ?_
    · exact hk23
    · exact hQj _ _ (show (nI 1).toInt = 1 by decide)
  · exact hk23
theorem sm_X1_change : ∀ (x0 : Nat), ∀ (x1 : Nat), ∀ (x2 : Nat), ∀ (x3 : Int32) (X3 : Int), x3.toInt = X3 → ∀ (x4 : Int32) (X4 : Int), x4.toInt = X4 → ∀ (x5 : Int32) (X5 : Int), x5.toInt = X5 → ∀ (x6 : Int32) (X6 : Int), x6.toInt = X6 → ∀ (x7 : Int32) (X7 : Int), x7.toInt = X7 → ∀ (x8 : Int32) (X8 : Int), x8.toInt = X8 → ∀ (x9 : Nat → Nat → JP) (X9 : Nat → Nat → MP), (∀ z q, SM (x9 z q) (X9 z q)) → ∀ (x10 : Int32 → JP) (X10 : Int → MP), (∀ (x0 : Int32) (X0 : Int), x0.toInt = X0 → SM (x10 x0) (X10 X0)) → SM (JX1_change x0 x1 x2 x3 x4 x5 x6 x7 x8 x9 x10) (MX1_change x0 x1 x2 X3 X4 X5 X6 X7 X8 X9 X10) := by
  intro bc bs this p1 p1' hp1 p2 p2' hp2 p3 p3' hp3 p4 p4' hp4 p5 p5' hp5 p6 p6' hp6 Ex Ex' hEx Qj Qj' hQj
  subst hp1
  subst hp2
  subst hp3
  subst hp4
  subst hp5
  subst hp6
  unfold JX1_change MX1_change
  refine sm_bud (fun mc3 ms3 => ?_)
  refine sm_obj ?_
  refine sm_X1_isNote mc3 ms3 this _ _ rfl _ _ rfl _ _ hEx _ _ ?_
  refine sm_bud (fun mc9 ms9 => ?_)
  refine sm_obj ?_
  refine sm_X1_isKind mc9 ms9 this _ _ rfl _ _ (show (nI 0).toInt = 0 by decide) _ _ hEx _ _ ?_
  refine sm_bud (fun mc18 ms18 => ?_)
  refine sm_X1_isNoted mc18 ms18 _ _ rfl _ _ rfl _ _ rfl _ _ hEx _ _ ?_
  refine sm_new rfl rfl (fun v21 => ?_)
  refine sm_X23_init v21 _ _ rfl _ _ rfl _ _ rfl _ _ rfl _ _ ?_
  refine sm_getA rfl (fun v40 => ?_)
  refine sm_getA rfl (fun v43 => ?_)
  refine sm_aldA (by decide) rfl (fun v47 => ?_)
  refine sm_getA rfl (fun v48 => ?_)
  refine sm_aldA (by decide) rfl (fun v52 => ?_)
  refine sm_obj ?_
  refine sm_X23_isLike v21 v52 _ _ ?_
  intro v53 v53' hv53
  subst hv53
  refine sm_join (fun (k64 : Int32 → JP) (k64' : Int → MP) => ∀ (x0 : Int32) (X0 : Int), x0.toInt = X0 → SM (k64 x0) (k64' X0)) ?_ (fun k64 k64' hk64 => ?_)
  · intro s0_64 s0_64' hs0_64
    subst hs0_64
    refine sm_getA rfl (fun v67 => ?_)
    refine sm_getA rfl (fun v70 => ?_)
    refine sm_aldA (by decide) rfl (fun v74 => ?_)
    refine sm_getA rfl (fun v75 => ?_)
    refine sm_astA (by decide) rfl ?_
    refine sm_putZ rfl (show (nI 0).toInt = 0 by decide) ?_
    refine sm_and (fun h => h.imp (cI_eq rfl (show (nI 0).toInt = 0 by decide)).mpr (cI_eq rfl (show (nI 1).toInt = 1 by decide)).mpr) ?_
    exact hQj _ _ rfl
  refine sm_if (cI_eq rfl (show (nI 0).toInt = 0 by decide)) ?_ ?_
  · exact hk64 _ _ (show (nI 1).toInt = 1 by decide)
  · exact hk64 _ _ (show (nI 0).toInt = 0 by decide)
theorem sm_X0_change : ∀ (x0 : Nat), ∀ (x1 : Nat), ∀ (x2 : Nat), ∀ (x3 : Int32) (X3 : Int), x3.toInt = X3 → ∀ (x4 : Int32) (X4 : Int), x4.toInt = X4 → ∀ (x5 : Int32) (X5 : Int), x5.toInt = X5 → ∀ (x6 : Int32) (X6 : Int), x6.toInt = X6 → ∀ (x7 : Int32) (X7 : Int), x7.toInt = X7 → ∀ (x8 : Int32) (X8 : Int), x8.toInt = X8 → ∀ (x9 : Nat), ∀ (x10 : Int32 → JP) (X10 : Int → MP), (∀ (x0 : Int32) (X0 : Int), x0.toInt = X0 → SM (x10 x0) (X10 X0)) → SM (JX0_change x0 x1 x2 x3 x4 x5 x6 x7 x8 x9 x10) (MX0_change x0 x1 x2 X3 X4 X5 X6 X7 X8 x9 X10) := by
  intro bc bs p0 p1 p1' hp1 p2 p2' hp2 p3 p3' hp3 p4 p4' hp4 p5 p5' hp5 p6 p6' hp6 p7 Qj Qj' hQj
  subst hp1
  subst hp2
  subst hp3
  subst hp4
  subst hp5
  subst hp6
  unfold JX0_change MX0_change
  refine sm_bud (fun mc13 ms13 => ?_)
  refine sm_obj ?_
  refine sm_X1_change mc13 ms13 p0 _ _ rfl _ _ rfl _ _ rfl _ _ rfl _ _ rfl _ _ rfl _ _ (fun xx13 xq13 => ?_) _ _ ?_
  · refine sm_if Iff.rfl ?_ ?_
    · exact hQj _ _ (show (nI 1).toInt = 1 by decide)
    · refine sm_if Iff.rfl ?_ ?_
      · exact hQj _ _ (show (nI 2).toInt = 2 by decide)
      · exact SM.bot
  intro v13 v13' hv13
  subst hv13
  refine sm_join (fun (k24 : Int64 → JP) (k24' : Int → MP) => ∀ (x0 : Int64) (X0 : Int), x0.toInt = X0 → SM (k24 x0) (k24' X0)) ?_ (fun k24 k24' hk24 => ?_)
  · intro s2_24 s2_24' hs2_24
    subst hs2_24
    refine sm_astL (show (nI 0).toInt = 0 by decide) rfl ?_
    exact hQj _ _ (show (nI 0).toInt = 0 by decide)
  refine sm_if (cI_eq rfl (show (nI 0).toInt = 0 by decide)) ?_ ?_
  · exact hk24 _ _ (show (lN 0).toInt = 0 by decide)
  · exact hk24 _ _ (show (lN 1).toInt = 1 by decide)
theorem sm_X11_noNote : ∀ (x0 : Nat), ∀ (x1 : Int32) (X1 : Int), x1.toInt = X1 → ∀ (x2 : Int32) (X2 : Int), x2.toInt = X2 → ∀ (x3 : Int32 → JP) (X3 : Int → MP), (∀ (x0 : Int32) (X0 : Int), x0.toInt = X0 → SM (x3 x0) (X3 X0)) → SM (JX11_noNote x0 x1 x2 x3) (MX11_noNote x0 X1 X2 X3) := by
  intro this p1 p1' hp1 p2 p2' hp2 Qj Qj' hQj
  subst hp1
  subst hp2
  unfold JX11_noNote MX11_noNote
  refine sm_obj ?_
  refine sm_X11_noBook this _ _ rfl _ _ ?_
  intro v2 v2' hv2
  subst hv2
  refine sm_join (fun (k23 : JP) (k23' : MP) => SM k23 k23') ?_ (fun k23 k23' hk23 => ?_)
  · exact hQj _ _ (show (nI 1).toInt = 1 by decide)
  refine sm_if (cI_eq rfl (show (nI 0).toInt = 0 by decide)) ?_ ?_
  · refine sm_obj ?_
    refine sm_X11_notes this _ _ rfl _ _ ?_
    intro v12 v12' hv12
    subst hv12
    refine sm_X11_in _ _ rfl _ _ (show (nI 0).toInt = 0 by decide) _ _ (tc_sub rfl (show (nI 1).toInt = 1 by decide)) _ _ ?_
    intro v17 v17' hv17
    subst hv17
    refine sm_if (cI_eq rfl (show (nI 0).toInt = 0 by decide)) ?_ ?_
    · exact hk23
    · exact hQj _ _ (show (nI 0).toInt = 0 by decide)
  · exact hk23
theorem sm_X11_ofNote : ∀ (x0 : Nat), ∀ (x1 : Int32) (X1 : Int), x1.toInt = X1 → ∀ (x2 : Int32) (X2 : Int), x2.toInt = X2 → ∀ (x3 : Int32) (X3 : Int), x3.toInt = X3 → ∀ (x4 : Int32 → JP) (X4 : Int → MP), (∀ (x0 : Int32) (X0 : Int), x0.toInt = X0 → SM (x4 x0) (X4 X0)) → SM (JX11_ofNote x0 x1 x2 x3 x4) (MX11_ofNote x0 X1 X2 X3 X4) := by
  intro this p1 p1' hp1 p2 p2' hp2 p3 p3' hp3 Qj Qj' hQj
  subst hp1
  subst hp2
  subst hp3
  unfold JX11_ofNote MX11_ofNote
  refine sm_obj ?_
  refine sm_X11_ofBook this _ _ rfl _ _ (tc_add (tc_add (show (nI 2).toInt = 2 by decide) (tc_mul (show (nI 4).toInt = 4 by decide) rfl)) rfl) _ _ ?_
  intro v9 v9' hv9
  subst hv9
  exact hQj _ _ rfl
theorem sm_X11_change : ∀ (x0 : Nat), ∀ (x1 : Int32) (X1 : Int), x1.toInt = X1 → ∀ (x2 : Int32) (X2 : Int), x2.toInt = X2 → ∀ (x3 : Int32) (X3 : Int), x3.toInt = X3 → ∀ (x4 : Int32) (X4 : Int), x4.toInt = X4 → ∀ (x5 : Int32) (X5 : Int), x5.toInt = X5 → ∀ (x6 : Int32) (X6 : Int), x6.toInt = X6 → ∀ (x7 : Int32 → JP) (X7 : Int → MP), (∀ (x0 : Int32) (X0 : Int), x0.toInt = X0 → SM (x7 x0) (X7 X0)) → SM (JX11_change x0 x1 x2 x3 x4 x5 x6 x7) (MX11_change x0 X1 X2 X3 X4 X5 X6 X7) := by
  intro this p1 p1' hp1 p2 p2' hp2 p3 p3' hp3 p4 p4' hp4 p5 p5' hp5 p6 p6' hp6 Qj Qj' hQj
  subst hp1
  subst hp2
  subst hp3
  subst hp4
  subst hp5
  subst hp6
  unfold JX11_change MX11_change
  refine sm_putI rfl (show (nI 0).toInt = 0 by decide) ?_
  refine sm_obj ?_
  refine sm_X11_noNote this _ _ rfl _ _ rfl _ _ ?_
  intro v9 v9' hv9
  subst hv9
  refine sm_join (fun (k28 : Int32 → JP) (k28' : Int → MP) => ∀ (x0 : Int32) (X0 : Int), x0.toInt = X0 → SM (k28 x0) (k28' X0)) ?_ (fun k28 k28' hk28 => ?_)
  · intro s1_28 s1_28' hs1_28
    subst hs1_28
    refine sm_obj ?_
    refine sm_X11_throwsIf this _ _ rfl _ _ (show (nI 1).toInt = 1 by decide) _ _ ?_
    intro v29 v29' hv29
    subst hv29
    refine sm_if (cI_eq rfl (show (nI 0).toInt = 0 by decide)) ?_ ?_
    · refine sm_X11_badNote _ _ rfl _ _ rfl _ _ rfl _ _ ?_
      intro v42 v42' hv42
      subst hv42
      refine sm_obj ?_
      refine sm_X11_throwsIf this _ _ rfl _ _ (show (nI 2).toInt = 2 by decide) _ _ ?_
      intro v46 v46' hv46
      subst hv46
      refine sm_if (cI_eq rfl (show (nI 0).toInt = 0 by decide)) ?_ ?_
      · refine sm_obj ?_
        refine sm_X11_ofNote this _ _ rfl _ _ rfl _ _ (show (nI 0).toInt = 0 by decide) _ _ ?_
        intro v58 v58' hv58
        subst hv58
        refine sm_join (fun (k106 : Int32 → JP) (k106' : Int → MP) => ∀ (x0 : Int32) (X0 : Int), x0.toInt = X0 → SM (k106 x0) (k106' X0)) ?_ (fun k106 k106' hk106 => ?_)
        · intro s0_106 s0_106' hs0_106
          subst hs0_106
          refine sm_obj ?_
          refine sm_X11_setsNote this _ _ rfl _ _ rfl _ _ rfl _ _ rfl _ _ rfl _ _ rfl _ _ ?_
          refine sm_and (fun h => h.imp (cI_eq rfl (show (nI 0).toInt = 0 by decide)).mpr (cI_eq rfl (show (nI 1).toInt = 1 by decide)).mpr) ?_
          exact hQj _ _ rfl
        refine sm_join (fun (k101 : JP) (k101' : MP) => SM k101 k101') ?_ (fun k101 k101' hk101 => ?_)
        · exact hk106 _ _ (show (nI 1).toInt = 1 by decide)
        refine sm_if (cI_eq rfl rfl) ?_ ?_
        · refine sm_obj ?_
          refine sm_X11_ofNote this _ _ rfl _ _ rfl _ _ (show (nI 1).toInt = 1 by decide) _ _ ?_
          intro v69 v69' hv69
          subst hv69
          refine sm_if (cI_eq rfl rfl) ?_ ?_
          · refine sm_obj ?_
            refine sm_X11_ofNote this _ _ rfl _ _ rfl _ _ (show (nI 2).toInt = 2 by decide) _ _ ?_
            intro v81 v81' hv81
            subst hv81
            refine sm_if (cI_eq rfl rfl) ?_ ?_
            · refine sm_obj ?_
              refine sm_X11_ofNote this _ _ rfl _ _ rfl _ _ (show (nI 3).toInt = 3 by decide) _ _ ?_
              intro v93 v93' hv93
              subst hv93
              refine sm_if (cI_eq rfl rfl) ?_ ?_
              · exact hk106 _ _ (show (nI 0).toInt = 0 by decide)
              · exact hk101
            · exact hk101
          · exact hk101
        · exact hk101
      · exact hQj _ _ (show (nI 0).toInt = 0 by decide)
    · exact hQj _ _ (show (nI 0).toInt = 0 by decide)
  refine sm_join (fun (k23 : JP) (k23' : MP) => SM k23 k23') ?_ (fun k23 k23' hk23 => ?_)
  · exact hk28 _ _ (show (nI 1).toInt = 1 by decide)
  refine sm_if (cI_eq rfl (show (nI 0).toInt = 0 by decide)) ?_ ?_
  · refine sm_obj ?_
    refine sm_X11_noKind this _ _ rfl _ _ ?_
    intro v17 v17' hv17
    subst hv17
    refine sm_if (cI_eq rfl (show (nI 0).toInt = 0 by decide)) ?_ ?_
    · exact hk28 _ _ (show (nI 0).toInt = 0 by decide)
    · exact hk23
  · exact hk23
theorem sm_X1_look : ∀ (x0 : Nat), ∀ (x1 : Nat), ∀ (x2 : Nat), ∀ (x3 : Int32) (X3 : Int), x3.toInt = X3 → ∀ (x4 : Int32) (X4 : Int), x4.toInt = X4 → ∀ (x5 : Int32) (X5 : Int), x5.toInt = X5 → ∀ (x6 : Nat → Nat → JP) (X6 : Nat → Nat → MP), (∀ z q, SM (x6 z q) (X6 z q)) → ∀ (x7 : Int32 → JP) (X7 : Int → MP), (∀ (x0 : Int32) (X0 : Int), x0.toInt = X0 → SM (x7 x0) (X7 X0)) → SM (JX1_look x0 x1 x2 x3 x4 x5 x6 x7) (MX1_look x0 x1 x2 X3 X4 X5 X6 X7) := by
  intro bc bs this p1 p1' hp1 p2 p2' hp2 p3 p3' hp3 Ex Ex' hEx Qj Qj' hQj
  subst hp1
  subst hp2
  subst hp3
  unfold JX1_look MX1_look
  refine sm_bud (fun mc3 ms3 => ?_)
  refine sm_obj ?_
  refine sm_X1_isNote mc3 ms3 this _ _ rfl _ _ rfl _ _ hEx _ _ ?_
  refine sm_getA rfl (fun v7 => ?_)
  refine sm_getA rfl (fun v10 => ?_)
  refine sm_aldA (by decide) rfl (fun v14 => ?_)
  refine sm_getA rfl (fun v15 => ?_)
  refine sm_aldA (by decide) rfl (fun v19 => ?_)
  refine sm_if (cI_eq rfl (show (nI 0).toInt = 0 by decide)) ?_ ?_
  · refine sm_getI rfl (fun v54 => ?_)
    exact hQj _ _ rfl
  · refine sm_if (cI_eq rfl (show (nI 1).toInt = 1 by decide)) ?_ ?_
    · refine sm_getI rfl (fun v60 => ?_)
      exact hQj _ _ rfl
    · refine sm_if (cI_eq rfl (show (nI 2).toInt = 2 by decide)) ?_ ?_
      · refine sm_getI rfl (fun v66 => ?_)
        exact hQj _ _ rfl
      · refine sm_if (cI_eq rfl (show (nI 3).toInt = 3 by decide)) ?_ ?_
        · refine sm_getI rfl (fun v72 => ?_)
          exact hQj _ _ rfl
        · exact sm_throw hEx
theorem sm_X0_look : ∀ (x0 : Nat), ∀ (x1 : Nat), ∀ (x2 : Nat), ∀ (x3 : Int32) (X3 : Int), x3.toInt = X3 → ∀ (x4 : Int32) (X4 : Int), x4.toInt = X4 → ∀ (x5 : Int32) (X5 : Int), x5.toInt = X5 → ∀ (x6 : Nat), ∀ (x7 : Int32 → JP) (X7 : Int → MP), (∀ (x0 : Int32) (X0 : Int), x0.toInt = X0 → SM (x7 x0) (X7 X0)) → SM (JX0_look x0 x1 x2 x3 x4 x5 x6 x7) (MX0_look x0 x1 x2 X3 X4 X5 x6 X7) := by
  intro bc bs p0 p1 p1' hp1 p2 p2' hp2 p3 p3' hp3 p4 Qj Qj' hQj
  subst hp1
  subst hp2
  subst hp3
  unfold JX0_look MX0_look
  refine sm_bud (fun mc7 ms7 => ?_)
  refine sm_obj ?_
  refine sm_X1_look mc7 ms7 p0 _ _ rfl _ _ rfl _ _ rfl _ _ (fun xx7 xq7 => ?_) _ _ ?_
  · refine sm_if Iff.rfl ?_ ?_
    · exact hQj _ _ (show (nI 1).toInt = 1 by decide)
    · refine sm_if Iff.rfl ?_ ?_
      · exact hQj _ _ (show (nI 2).toInt = 2 by decide)
      · exact SM.bot
  intro v7 v7' hv7
  subst hv7
  refine sm_astL (show (nI 0).toInt = 0 by decide) (tc_i2l rfl) ?_
  exact hQj _ _ (show (nI 0).toInt = 0 by decide)
theorem sm_X11_look : ∀ (x0 : Nat), ∀ (x1 : Int32) (X1 : Int), x1.toInt = X1 → ∀ (x2 : Int32) (X2 : Int), x2.toInt = X2 → ∀ (x3 : Int32) (X3 : Int), x3.toInt = X3 → ∀ (x4 : Int32 → JP) (X4 : Int → MP), (∀ (x0 : Int32) (X0 : Int), x0.toInt = X0 → SM (x4 x0) (X4 X0)) → SM (JX11_look x0 x1 x2 x3 x4) (MX11_look x0 X1 X2 X3 X4) := by
  intro this p1 p1' hp1 p2 p2' hp2 p3 p3' hp3 Qj Qj' hQj
  subst hp1
  subst hp2
  subst hp3
  unfold JX11_look MX11_look
  refine sm_putI rfl (show (nI 0).toInt = 0 by decide) ?_
  refine sm_obj ?_
  refine sm_X11_noNote this _ _ rfl _ _ rfl _ _ ?_
  intro v9 v9' hv9
  subst hv9
  refine sm_obj ?_
  refine sm_X11_throwsIf this _ _ rfl _ _ (show (nI 1).toInt = 1 by decide) _ _ ?_
  intro v13 v13' hv13
  subst hv13
  refine sm_join (fun (k41 : JP) (k41' : MP) => SM k41 k41') ?_ (fun k41 k41' hk41 => ?_)
  · exact hQj _ _ (show (nI 0).toInt = 0 by decide)
  refine sm_if (cI_eq rfl (show (nI 0).toInt = 0 by decide)) ?_ ?_
  · refine sm_X11_in _ _ rfl _ _ (show (nI 0).toInt = 0 by decide) _ _ (show (nI 3).toInt = 3 by decide) _ _ ?_
    intro v23 v23' hv23
    subst hv23
    refine sm_join (fun (k34 : Int32 → JP) (k34' : Int → MP) => ∀ (x0 : Int32) (X0 : Int), x0.toInt = X0 → SM (k34 x0) (k34' X0)) ?_ (fun k34 k34' hk34 => ?_)
    · intro s1_34 s1_34' hs1_34
      subst hs1_34
      refine sm_obj ?_
      refine sm_X11_throwsIf this _ _ rfl _ _ (show (nI 2).toInt = 2 by decide) _ _ ?_
      intro v35 v35' hv35
      subst hv35
      refine sm_if (cI_eq rfl (show (nI 0).toInt = 0 by decide)) ?_ ?_
      · refine sm_obj ?_
        refine sm_X11_ofNote this _ _ rfl _ _ rfl _ _ rfl _ _ ?_
        intro v49 v49' hv49
        subst hv49
        exact hQj _ _ rfl
      · exact hk41
    refine sm_if (cI_eq rfl (show (nI 0).toInt = 0 by decide)) ?_ ?_
    · exact hk34 _ _ (show (nI 1).toInt = 1 by decide)
    · exact hk34 _ _ (show (nI 0).toInt = 0 by decide)
  · exact hk41
theorem sm_X8_be : ∀ (x0 : Nat), ∀ (x1 : Nat), ∀ (x2 : JP) (X2 : MP), SM x2 X2 → SM (JX8_be x0 x1 x2) (MX8_be x0 x1 X2) := by
  intro this p1 Qj Qj' hQj
  unfold JX8_be MX8_be
  refine sm_getA rfl (fun v1 => ?_)
  refine sm_getA rfl (fun v6 => ?_)
  refine sm_cpyI (show (nI 0).toInt = 0 by decide) (show (nI 0).toInt = 0 by decide) (show (nI 36).toInt = 36 by decide) ?_
  refine sm_getA rfl (fun v16 => ?_)
  refine sm_getA rfl (fun v21 => ?_)
  refine sm_cpyI (show (nI 0).toInt = 0 by decide) (show (nI 0).toInt = 0 by decide) (show (nI 36).toInt = 36 by decide) ?_
  exact hQj
theorem sm_X1_draw : ∀ (x0 : Nat), ∀ (x1 : Int32 → JP) (X1 : Int → MP), (∀ (x0 : Int32) (X0 : Int), x0.toInt = X0 → SM (x1 x0) (X1 X0)) → SM (JX1_draw x0 x1) (MX1_draw x0 X1) := by
  intro this Qj Qj' hQj
  unfold JX1_draw MX1_draw
  refine sm_getI rfl (fun v4 => ?_)
  refine sm_putI rfl (tc_add (tc_mul (show (nI 1103515245).toInt = 1103515245 by decide) rfl) (show (nI 12345).toInt = 12345 by decide)) ?_
  refine sm_getI rfl (fun v16 => ?_)
  exact hQj _ _ (tc_and (tc_ushr rfl (show (nI 16).toInt = 16 by decide)) (show (nI 32767).toInt = 32767 by decide))
theorem sm_X8_goes : ∀ (x0 : Nat), ∀ (x1 : Int32) (X1 : Int), x1.toInt = X1 → ∀ (x2 : Int32 → JP) (X2 : Int → MP), (∀ (x0 : Int32) (X0 : Int), x0.toInt = X0 → SM (x2 x0) (X2 X0)) → SM (JX8_goes x0 x1 x2) (MX8_goes x0 X1 X2) := by
  intro this p1 p1' hp1 Qj Qj' hQj
  subst hp1
  unfold JX8_goes MX8_goes
  refine sm_getA rfl (fun v11 => ?_)
  refine sm_aldI (by decide) (tc_rem rfl (show (nI 36).toInt = 36 by decide)) (fun v15 => ?_)
  refine sm_getA rfl (fun v19 => ?_)
  refine sm_getA rfl (fun v24 => ?_)
  refine sm_aldI (by decide) (tc_div rfl (show (nI 36).toInt = 36 by decide)) (fun v28 => ?_)
  refine sm_astI (tc_rem rfl (show (nI 36).toInt = 36 by decide)) rfl ?_
  refine sm_getA rfl (fun v31 => ?_)
  refine sm_getA rfl (fun v36 => ?_)
  refine sm_aldI (by decide) (tc_div rfl (show (nI 36).toInt = 36 by decide)) (fun v40 => ?_)
  refine sm_astI (tc_rem rfl (show (nI 36).toInt = 36 by decide)) rfl ?_
  refine sm_getA rfl (fun v43 => ?_)
  refine sm_astI (tc_div rfl (show (nI 36).toInt = 36 by decide)) (show ((-1) : Int32).toInt = (-1) by decide) ?_
  exact hQj _ _ rfl
theorem smFX1_write_98 (this : Nat) (p1 : Int32) (p2 : Int32) (p3 : Int32) {Qj : Int32 → JP} {Qj' : Int → MP} (hQj : ∀ (x0 : Int32) (X0 : Int), x0.toInt = X0 → SM (Qj x0) (Qj' X0)) (v58 : Int32) (v72 : Nat) : ∀ n : Nat, ∀ (x0 : Int32) (X0 : Int), x0.toInt = X0 → ∀ (x1 : Nat), ∀ (x2 : Nat), SM (jit (FX1_write_98 this p1 p2 p3 Qj v58 v72) (fun _ _ _ => jbot) n x0 x1 x2) (jit (GX1_write_98 this p1.toInt p2.toInt p3.toInt Qj' v58.toInt v72) (fun _ _ _ => mbot) n X0 x1 x2) := by
  intro n
  induction n with
  | zero =>
    intro x7_98 x7_98' hx7_98 bc_98 bs_98
    exact SM.bot
  | succ n ih =>
    intro x7_98 x7_98' hx7_98 bc_98 bs_98
    subst hx7_98
    show SM (FX1_write_98 this p1 p2 p3 Qj v58 v72 (jit (FX1_write_98 this p1 p2 p3 Qj v58 v72) (fun _ _ _ => jbot) n) x7_98 bc_98 bs_98) (GX1_write_98 this p1.toInt p2.toInt p3.toInt Qj' v58.toInt v72 (jit (GX1_write_98 this p1.toInt p2.toInt p3.toInt Qj' v58.toInt v72) (fun _ _ _ => mbot) n) x7_98.toInt bc_98 bs_98)
    generalize jit (FX1_write_98 this p1 p2 p3 Qj v58 v72) (fun _ _ _ => jbot) n = rec98 at ih ⊢
    generalize jit (GX1_write_98 this p1.toInt p2.toInt p3.toInt Qj' v58.toInt v72) (fun _ _ _ => mbot) n = rec98' at ih ⊢
    have hrec98 := ih
    unfold FX1_write_98 GX1_write_98
    refine sm_if (cI_le rfl rfl) ?_ ?_
    · exact hQj _ _ rfl
    · refine sm_getA rfl (fun v111 => ?_)
      refine sm_getA rfl (fun v115 => ?_)
      refine sm_getA rfl (fun v121 => ?_)
      refine sm_obj ?_
      refine sm_X10_gathers v111 v115 _ _ (tc_rem rfl (show (nI 2).toInt = 2 by decide)) v121 _ _ ?_
      intro v124 v124' hv124
      subst hv124
      refine sm_if (cI_eq rfl (show (nI 0).toInt = 0 by decide)) ?_ ?_
      · exact hQj _ _ rfl
      · refine sm_getA rfl (fun v138 => ?_)
        refine sm_obj ?_
        refine sm_X1_draw this _ _ ?_
        intro v142 v142' hv142
        subst hv142
        refine sm_and (mt (cI_eq rfl (show (nI 0).toInt = 0 by decide)).mp) ?_
        refine sm_aldI (by decide) (tc_rem rfl rfl) (fun v148 => ?_)
        refine sm_getA rfl (fun v152 => ?_)
        refine sm_getA rfl (fun v155 => ?_)
        refine sm_aldI (by decide) (tc_div rfl (show (nI 36).toInt = 36 by decide)) (fun v163 => ?_)
        refine sm_join (fun (k206 : Int32 → JP) (k206' : Int → MP) => ∀ (x0 : Int32) (X0 : Int), x0.toInt = X0 → SM (k206 x0) (k206' X0)) ?_ (fun k206 k206' hk206 => ?_)
        · intro s0_206 s0_206' hs0_206
          subst hs0_206
          refine sm_getA rfl (fun v209 => ?_)
          refine sm_obj ?_
          refine sm_X8_goes v209 _ _ rfl _ _ ?_
          intro v214 v214' hv214
          subst hv214
          refine sm_obj ?_
          refine sm_X1_draw this _ _ ?_
          intro v219 v219' hv219
          subst hv219
          refine sm_join (fun (k300 : Int32 → Int32 → Int32 → JP) (k300' : Int → Int → Int → MP) => ∀ (x0 : Int32) (X0 : Int), x0.toInt = X0 → ∀ (x1 : Int32) (X1 : Int), x1.toInt = X1 → ∀ (x2 : Int32) (X2 : Int), x2.toInt = X2 → SM (k300 x0 x1 x2) (k300' X0 X1 X2)) ?_ (fun k300 k300' hk300 => ?_)
          · intro x11_300 x11_300' hx11_300 x12_300 x12_300' hx12_300 x13_300 x13_300' hx13_300
            subst hx11_300
            subst hx12_300
            subst hx13_300
            refine sm_getA rfl (fun v302 => ?_)
            refine sm_new rfl rfl (fun v307 => ?_)
            refine sm_X23_init v307 _ _ rfl _ _ (show ((-1) : Int32).toInt = (-1) by decide) _ _ rfl _ _ rfl _ _ ?_
            refine sm_astA (by decide) rfl ?_
            refine sm_getI rfl (fun v325 => ?_)
            refine sm_putI rfl (tc_add rfl (show (nI 1).toInt = 1 by decide)) ?_
            exact hrec98 _ _ (tc_add rfl (show (nI 1).toInt = 1 by decide)) (bc_98 - 1) (bs_98 - 4)
          refine sm_if (cI_le rfl (tc_rem rfl (show (nI 10).toInt = 10 by decide))) ?_ ?_
          · exact hk300 _ _ rfl _ _ (tc_rem (tc_rem rfl (show (nI 36).toInt = 36 by decide)) (show (nI 6).toInt = 6 by decide)) _ _ rfl
          · refine sm_obj ?_
            refine sm_X1_draw this _ _ ?_
            intro v230 v230' hv230
            subst hv230
            refine sm_if (cI_eq (tc_rem rfl (show (nI 3).toInt = 3 by decide)) (show (nI 0).toInt = 0 by decide)) ?_ ?_
            · refine sm_getA rfl (fun v247 => ?_)
              refine sm_getI rfl (fun v250 => ?_)
              refine sm_and (mt (cI_eq rfl (show (nI 0).toInt = 0 by decide)).mp) ?_
              exact hk300 _ _ (tc_rem (tc_add rfl (show (nI 1).toInt = 1 by decide)) rfl) _ _ (tc_rem (tc_rem rfl (show (nI 36).toInt = 36 by decide)) (show (nI 6).toInt = 6 by decide)) _ _ rfl
            · refine sm_if (cI_eq (tc_rem rfl (show (nI 3).toInt = 3 by decide)) (show (nI 1).toInt = 1 by decide)) ?_ ?_
              · refine sm_join (fun (k278 : Int32 → JP) (k278' : Int → MP) => ∀ (x0 : Int32) (X0 : Int), x0.toInt = X0 → SM (k278 x0) (k278' X0)) ?_ (fun k278 k278' hk278 => ?_)
                · intro s1_278 s1_278' hs1_278
                  subst hs1_278
                  exact hk300 _ _ rfl _ _ (tc_add (tc_rem (tc_rem rfl (show (nI 36).toInt = 36 by decide)) (show (nI 6).toInt = 6 by decide)) rfl) _ _ rfl
                refine sm_if (cI_eq (tc_rem (tc_rem rfl (show (nI 36).toInt = 36 by decide)) (show (nI 6).toInt = 6 by decide)) (show (nI 5).toInt = 5 by decide)) ?_ ?_
                · exact hk278 _ _ (show ((-1) : Int32).toInt = (-1) by decide)
                · exact hk278 _ _ (show (nI 1).toInt = 1 by decide)
              · refine sm_join (fun (k297 : Int32 → JP) (k297' : Int → MP) => ∀ (x0 : Int32) (X0 : Int), x0.toInt = X0 → SM (k297 x0) (k297' X0)) ?_ (fun k297 k297' hk297 => ?_)
                · intro s1_297 s1_297' hs1_297
                  subst hs1_297
                  exact hk300 _ _ rfl _ _ (tc_rem (tc_rem rfl (show (nI 36).toInt = 36 by decide)) (show (nI 6).toInt = 6 by decide)) _ _ (tc_add rfl rfl)
                refine sm_if (cI_eq rfl (show (nI 5).toInt = 5 by decide)) ?_ ?_
                · exact hk297 _ _ (show ((-1) : Int32).toInt = (-1) by decide)
                · exact hk297 _ _ (show (nI 1).toInt = 1 by decide)
        refine sm_join (fun (k204 : JP) (k204' : MP) => SM k204 k204') ?_ (fun k204 k204' hk204 => ?_)
        · exact hk206 _ _ (tc_div (tc_rem rfl (show (nI 36).toInt = 36 by decide)) (show (nI 6).toInt = 6 by decide))
        refine sm_if (cI_eq rfl (show (nI 1).toInt = 1 by decide)) ?_ ?_
        · refine sm_if (cI_eq (tc_rem rfl (show (nI 2).toInt = 2 by decide)) (show (nI 1).toInt = 1 by decide)) ?_ ?_
          · exact hk206 _ _ (tc_sub (show (nI 5).toInt = 5 by decide) (tc_div (tc_rem rfl (show (nI 36).toInt = 36 by decide)) (show (nI 6).toInt = 6 by decide)))
          · exact hk204
        · exact hk204
theorem sm_X1_write : ∀ (x0 : Nat), ∀ (x1 : Nat), ∀ (x2 : Nat), ∀ (x3 : Int32) (X3 : Int), x3.toInt = X3 → ∀ (x4 : Int32) (X4 : Int), x4.toInt = X4 → ∀ (x5 : Int32) (X5 : Int), x5.toInt = X5 → ∀ (x6 : Int32) (X6 : Int), x6.toInt = X6 → ∀ (x7 : Nat → Nat → JP) (X7 : Nat → Nat → MP), (∀ z q, SM (x7 z q) (X7 z q)) → ∀ (x8 : Int32 → JP) (X8 : Int → MP), (∀ (x0 : Int32) (X0 : Int), x0.toInt = X0 → SM (x8 x0) (X8 X0)) → SM (JX1_write x0 x1 x2 x3 x4 x5 x6 x7 x8) (MX1_write x0 x1 x2 X3 X4 X5 X6 X7 X8) := by
  intro bc bs this p1 p1' hp1 p2 p2' hp2 p3 p3' hp3 p4 p4' hp4 Ex Ex' hEx Qj Qj' hQj
  subst hp1
  subst hp2
  subst hp3
  subst hp4
  unfold JX1_write MX1_write
  refine sm_X1_isIn _ _ rfl _ _ (show (nI 0).toInt = 0 by decide) _ _ (show (nI 1).toInt = 1 by decide) _ _ ?_
  intro v3 v3' hv3
  subst hv3
  refine sm_join (fun (k34 : Int32 → JP) (k34' : Int → MP) => ∀ (x0 : Int32) (X0 : Int), x0.toInt = X0 → SM (k34 x0) (k34' X0)) ?_ (fun k34 k34' hk34 => ?_)
  · intro s0_34 s0_34' hs0_34
    subst hs0_34
    refine sm_bud (fun mc34 ms34 => ?_)
    refine sm_X1_must mc34 ms34 _ _ rfl _ _ hEx _ _ ?_
    refine sm_getA rfl (fun v38 => ?_)
    refine sm_getI rfl (fun v41 => ?_)
    refine sm_join (fun (k53 : Int32 → JP) (k53' : Int → MP) => ∀ (x0 : Int32) (X0 : Int), x0.toInt = X0 → SM (k53 x0) (k53' X0)) ?_ (fun k53 k53' hk53 => ?_)
    · intro s0_53 s0_53' hs0_53
      subst hs0_53
      refine sm_bud (fun mc53 ms53 => ?_)
      refine sm_X1_mayBe mc53 ms53 _ _ rfl _ _ hEx _ _ ?_
      refine sm_obj ?_
      refine sm_X1_newBook this _ _ rfl _ _ ?_
      intro v58 v58' hv58
      subst hv58
      refine sm_getA rfl (fun v64 => ?_)
      refine sm_getA rfl (fun v67 => ?_)
      refine sm_aldA (by decide) rfl (fun v72 => ?_)
      refine sm_putI rfl rfl ?_
      refine sm_getA rfl (fun v82 => ?_)
      refine sm_getA rfl (fun v86 => ?_)
      refine sm_getA rfl (fun v89 => ?_)
      refine sm_obj ?_
      refine sm_X8_be v82 v89 _ _ ?_
      refine sm_ex (fun n98 => ?_)
      refine smFX1_write_98 this p1 p2 p3 hQj v58 v72 n98 _ _ (show (nI 0).toInt = 0 by decide) ((bc - mc34) - mc53) ((bs - ms34) - ms53)
    refine sm_if (cI_le (show (nI 3).toInt = 3 by decide) rfl) ?_ ?_
    · exact hk53 _ _ (show (nI 0).toInt = 0 by decide)
    · exact hk53 _ _ (show (nI 1).toInt = 1 by decide)
  refine sm_join (fun (k33 : JP) (k33' : MP) => SM k33 k33') ?_ (fun k33 k33' hk33 => ?_)
  · exact hk34 _ _ (show (nI 0).toInt = 0 by decide)
  refine sm_if (cI_eq rfl (show (nI 0).toInt = 0 by decide)) ?_ ?_
  · exact hk33
  · refine sm_X1_isIn _ _ rfl _ _ (show (nI 1).toInt = 1 by decide) _ _ (show (nI 24).toInt = 24 by decide) _ _ ?_
    intro v13 v13' hv13
    subst hv13
    refine sm_if (cI_eq rfl (show (nI 0).toInt = 0 by decide)) ?_ ?_
    · exact hk33
    · refine sm_X1_isIn _ _ rfl _ _ (show (nI 0).toInt = 0 by decide) _ _ (show (nI 9).toInt = 9 by decide) _ _ ?_
      intro v23 v23' hv23
      subst hv23
      refine sm_if (cI_eq rfl (show (nI 0).toInt = 0 by decide)) ?_ ?_
      · exact hk33
      · exact hk34 _ _ (show (nI 1).toInt = 1 by decide)
theorem sm_X0_write : ∀ (x0 : Nat), ∀ (x1 : Nat), ∀ (x2 : Nat), ∀ (x3 : Int32) (X3 : Int), x3.toInt = X3 → ∀ (x4 : Int32) (X4 : Int), x4.toInt = X4 → ∀ (x5 : Int32) (X5 : Int), x5.toInt = X5 → ∀ (x6 : Int32) (X6 : Int), x6.toInt = X6 → ∀ (x7 : Nat), ∀ (x8 : Int32 → JP) (X8 : Int → MP), (∀ (x0 : Int32) (X0 : Int), x0.toInt = X0 → SM (x8 x0) (X8 X0)) → SM (JX0_write x0 x1 x2 x3 x4 x5 x6 x7 x8) (MX0_write x0 x1 x2 X3 X4 X5 X6 x7 X8) := by
  intro bc bs p0 p1 p1' hp1 p2 p2' hp2 p3 p3' hp3 p4 p4' hp4 p5 Qj Qj' hQj
  subst hp1
  subst hp2
  subst hp3
  subst hp4
  unfold JX0_write MX0_write
  refine sm_bud (fun mc9 ms9 => ?_)
  refine sm_obj ?_
  refine sm_X1_write mc9 ms9 p0 _ _ rfl _ _ rfl _ _ rfl _ _ rfl _ _ (fun xx9 xq9 => ?_) _ _ ?_
  · refine sm_if Iff.rfl ?_ ?_
    · exact hQj _ _ (show (nI 1).toInt = 1 by decide)
    · refine sm_if Iff.rfl ?_ ?_
      · exact hQj _ _ (show (nI 2).toInt = 2 by decide)
      · exact SM.bot
  intro v9 v9' hv9
  subst hv9
  refine sm_astL (show (nI 0).toInt = 0 by decide) (tc_i2l rfl) ?_
  exact hQj _ _ (show (nI 0).toInt = 0 by decide)
theorem sm_X11_draw : ∀ (x0 : Nat), ∀ (x1 : Int32 → JP) (X1 : Int → MP), (∀ (x0 : Int32) (X0 : Int), x0.toInt = X0 → SM (x1 x0) (X1 X0)) → SM (JX11_draw x0 x1) (MX11_draw x0 X1) := by
  intro this Qj Qj' hQj
  unfold JX11_draw MX11_draw
  refine sm_getI rfl (fun v5 => ?_)
  refine sm_putI rfl (tc_add (tc_mul (show (nI 1103515245).toInt = 1103515245 by decide) rfl) (show (nI 12345).toInt = 12345 by decide)) ?_
  refine sm_getI rfl (fun v17 => ?_)
  exact hQj _ _ (tc_and (tc_shr rfl (show (nI 16).toInt = 16 by decide)) (show (nI 32767).toInt = 32767 by decide))
theorem smFX11_makes_2 (this : Nat) (p1 : Int32) {k33 : JP} {k33' : MP} (hk33 : SM k33 k33') : ∀ n : Nat, ∀ (x0 : Int32) (X0 : Int), x0.toInt = X0 → SM (jit (FX11_makes_2 this p1 k33) (fun _ => jbot) n x0) (jit (GX11_makes_2 this p1.toInt k33') (fun _ => mbot) n X0) := by
  intro n
  induction n with
  | zero =>
    intro x3_2 x3_2' hx3_2
    exact SM.bot
  | succ n ih =>
    intro x3_2 x3_2' hx3_2
    subst hx3_2
    show SM (FX11_makes_2 this p1 k33 (jit (FX11_makes_2 this p1 k33) (fun _ => jbot) n) x3_2) (GX11_makes_2 this p1.toInt k33' (jit (GX11_makes_2 this p1.toInt k33') (fun _ => mbot) n) x3_2.toInt)
    generalize jit (FX11_makes_2 this p1 k33) (fun _ => jbot) n = rec2 at ih ⊢
    generalize jit (GX11_makes_2 this p1.toInt k33') (fun _ => mbot) n = rec2' at ih ⊢
    have hrec2 := ih
    unfold FX11_makes_2 GX11_makes_2
    refine sm_if (cI_le (show (nI 36).toInt = 36 by decide) rfl) ?_ ?_
    · exact hk33
    · refine sm_getA rfl (fun v9 => ?_)
      refine sm_obj ?_
      refine sm_X11_at this _ _ rfl _ _ rfl _ _ ?_
      intro v23 v23' hv23
      subst hv23
      refine sm_astI (tc_add (tc_mul (show (nI 36).toInt = 36 by decide) (tc_add rfl (show (nI 1).toInt = 1 by decide))) rfl) rfl ?_
      exact hrec2 _ _ (tc_add rfl (show (nI 1).toInt = 1 by decide))
theorem sm_X11_makes : ∀ (x0 : Nat), ∀ (x1 : Int32) (X1 : Int), x1.toInt = X1 → ∀ (x2 : Int32) (X2 : Int), x2.toInt = X2 → ∀ (x3 : JP) (X3 : MP), SM x3 X3 → SM (JX11_makes x0 x1 x2 x3) (MX11_makes x0 X1 X2 X3) := by
  intro this p1 p1' hp1 p2 p2' hp2 Qj Qj' hQj
  subst hp1
  subst hp2
  unfold JX11_makes MX11_makes
  refine sm_ex (fun n2 => ?_)
  refine smFX11_makes_2 this p1 ?_ n2 _ _ (show (nI 0).toInt = 0 by decide)
  · refine sm_getA rfl (fun v34 => ?_)
    refine sm_obj ?_
    refine sm_X11_at this _ _ rfl _ _ (tc_div rfl (show (nI 36).toInt = 36 by decide)) _ _ ?_
    intro v54 v54' hv54
    subst hv54
    refine sm_astI (tc_add (tc_mul (show (nI 36).toInt = 36 by decide) (tc_add rfl (show (nI 1).toInt = 1 by decide))) (tc_rem rfl (show (nI 36).toInt = 36 by decide))) rfl ?_
    refine sm_getA rfl (fun v59 => ?_)
    refine sm_astI (tc_add (tc_mul (show (nI 36).toInt = 36 by decide) (tc_add rfl (show (nI 1).toInt = 1 by decide))) (tc_div rfl (show (nI 36).toInt = 36 by decide))) (show ((-1) : Int32).toInt = (-1) by decide) ?_
    exact hQj
theorem smFX11_write_133 (this : Nat) (p1 : Int32) (p2 : Int32) (p3 : Int32) {Qj : Int32 → JP} {Qj' : Int → MP} (hQj : ∀ (x0 : Int32) (X0 : Int), x0.toInt = X0 → SM (Qj x0) (Qj' X0)) (v77 : Int32) : ∀ n : Nat, ∀ (x0 : Int32) (X0 : Int), x0.toInt = X0 → SM (jit (FX11_write_133 this p1 p2 p3 Qj v77) (fun _ => jbot) n x0) (jit (GX11_write_133 this p1.toInt p2.toInt p3.toInt Qj' v77.toInt) (fun _ => mbot) n X0) := by
  intro n
  induction n with
  | zero =>
    intro x6_133 x6_133' hx6_133
    exact SM.bot
  | succ n ih =>
    intro x6_133 x6_133' hx6_133
    subst hx6_133
    show SM (FX11_write_133 this p1 p2 p3 Qj v77 (jit (FX11_write_133 this p1 p2 p3 Qj v77) (fun _ => jbot) n) x6_133) (GX11_write_133 this p1.toInt p2.toInt p3.toInt Qj' v77.toInt (jit (GX11_write_133 this p1.toInt p2.toInt p3.toInt Qj' v77.toInt) (fun _ => mbot) n) x6_133.toInt)
    generalize jit (FX11_write_133 this p1 p2 p3 Qj v77) (fun _ => jbot) n = rec133 at ih ⊢
    generalize jit (GX11_write_133 this p1.toInt p2.toInt p3.toInt Qj' v77.toInt) (fun _ => mbot) n = rec133' at ih ⊢
    have hrec133 := ih
    unfold FX11_write_133 GX11_write_133
    refine sm_if (cI_le rfl rfl) ?_ ?_
    · exact hQj _ _ rfl
    · refine sm_obj ?_
      refine sm_X11_finds this _ _ rfl _ _ (tc_rem rfl (show (nI 2).toInt = 2 by decide)) _ _ ?_
      refine sm_obj ?_
      refine sm_X11_manyAt this _ _ rfl _ _ ?_
      intro v152 v152' hv152
      subst hv152
      refine sm_if (cI_eq rfl (show (nI 0).toInt = 0 by decide)) ?_ ?_
      · exact hQj _ _ rfl
      · refine sm_obj ?_
        refine sm_X11_draw this _ _ ?_
        intro v169 v169' hv169
        subst hv169
        refine sm_and (mt (cI_eq rfl (show (nI 0).toInt = 0 by decide)).mp) ?_
        refine sm_obj ?_
        refine sm_X11_moveAt this _ _ rfl _ _ (tc_rem rfl rfl) _ _ ?_
        intro v175 v175' hv175
        subst hv175
        refine sm_obj ?_
        refine sm_X11_at this _ _ rfl _ _ (tc_div rfl (show (nI 36).toInt = 36 by decide)) _ _ ?_
        intro v195 v195' hv195
        subst hv195
        refine sm_join (fun (k237 : Int32 → JP) (k237' : Int → MP) => ∀ (x0 : Int32) (X0 : Int), x0.toInt = X0 → SM (k237 x0) (k237' X0)) ?_ (fun k237 k237' hk237 => ?_)
        · intro s0_237 s0_237' hs0_237
          subst hs0_237
          refine sm_obj ?_
          refine sm_X11_draw this _ _ ?_
          intro v240 v240' hv240
          subst hv240
          refine sm_join (fun (k326 : Int32 → Int32 → Int32 → JP) (k326' : Int → Int → Int → MP) => ∀ (x0 : Int32) (X0 : Int), x0.toInt = X0 → ∀ (x1 : Int32) (X1 : Int), x1.toInt = X1 → ∀ (x2 : Int32) (X2 : Int), x2.toInt = X2 → SM (k326 x0 x1 x2) (k326' X0 X1 X2)) ?_ (fun k326 k326' hk326 => ?_)
          · intro x10_326 x10_326' hx10_326 x11_326 x11_326' hx11_326 x12_326 x12_326' hx12_326
            subst hx10_326
            subst hx11_326
            subst hx12_326
            refine sm_obj ?_
            refine sm_X11_addsNote this _ _ rfl _ _ rfl _ _ (show ((-1) : Int32).toInt = (-1) by decide) _ _ rfl _ _ rfl _ _ ?_
            intro v336 v336' hv336
            subst hv336
            refine sm_obj ?_
            refine sm_X11_makes this _ _ rfl _ _ rfl _ _ ?_
            exact hrec133 _ _ (tc_add rfl (show (nI 1).toInt = 1 by decide))
          refine sm_if (cI_le rfl (tc_rem rfl (show (nI 10).toInt = 10 by decide))) ?_ ?_
          · exact hk326 _ _ (tc_div rfl (show (nI 2).toInt = 2 by decide)) _ _ (tc_rem (tc_rem rfl (show (nI 36).toInt = 36 by decide)) (show (nI 6).toInt = 6 by decide)) _ _ rfl
          · refine sm_obj ?_
            refine sm_X11_draw this _ _ ?_
            intro v251 v251' hv251
            subst hv251
            refine sm_if (cI_eq (tc_rem rfl (show (nI 3).toInt = 3 by decide)) (show (nI 0).toInt = 0 by decide)) ?_ ?_
            · refine sm_getA rfl (fun v268 => ?_)
              refine sm_aldI (by decide) (show (nI 0).toInt = 0 by decide) (fun v272 => ?_)
              refine sm_and (mt (cI_eq rfl (show (nI 0).toInt = 0 by decide)).mp) ?_
              exact hk326 _ _ (tc_rem (tc_add (tc_div rfl (show (nI 2).toInt = 2 by decide)) (show (nI 1).toInt = 1 by decide)) rfl) _ _ (tc_rem (tc_rem rfl (show (nI 36).toInt = 36 by decide)) (show (nI 6).toInt = 6 by decide)) _ _ rfl
            · refine sm_if (cI_eq (tc_rem rfl (show (nI 3).toInt = 3 by decide)) (show (nI 1).toInt = 1 by decide)) ?_ ?_
              · refine sm_join (fun (k302 : Int32 → JP) (k302' : Int → MP) => ∀ (x0 : Int32) (X0 : Int), x0.toInt = X0 → SM (k302 x0) (k302' X0)) ?_ (fun k302 k302' hk302 => ?_)
                · intro s0_302 s0_302' hs0_302
                  subst hs0_302
                  exact hk326 _ _ (tc_div rfl (show (nI 2).toInt = 2 by decide)) _ _ rfl _ _ rfl
                refine sm_if (cI_eq (tc_rem (tc_rem rfl (show (nI 36).toInt = 36 by decide)) (show (nI 6).toInt = 6 by decide)) (show (nI 5).toInt = 5 by decide)) ?_ ?_
                · exact hk302 _ _ (tc_sub (tc_rem (tc_rem rfl (show (nI 36).toInt = 36 by decide)) (show (nI 6).toInt = 6 by decide)) (show (nI 1).toInt = 1 by decide))
                · exact hk302 _ _ (tc_add (tc_rem (tc_rem rfl (show (nI 36).toInt = 36 by decide)) (show (nI 6).toInt = 6 by decide)) (show (nI 1).toInt = 1 by decide))
              · refine sm_join (fun (k324 : Int32 → JP) (k324' : Int → MP) => ∀ (x0 : Int32) (X0 : Int), x0.toInt = X0 → SM (k324 x0) (k324' X0)) ?_ (fun k324 k324' hk324 => ?_)
                · intro s0_324 s0_324' hs0_324
                  subst hs0_324
                  exact hk326 _ _ (tc_div rfl (show (nI 2).toInt = 2 by decide)) _ _ (tc_rem (tc_rem rfl (show (nI 36).toInt = 36 by decide)) (show (nI 6).toInt = 6 by decide)) _ _ rfl
                refine sm_if (cI_eq rfl (show (nI 5).toInt = 5 by decide)) ?_ ?_
                · exact hk324 _ _ (tc_sub rfl (show (nI 1).toInt = 1 by decide))
                · exact hk324 _ _ (tc_add rfl (show (nI 1).toInt = 1 by decide))
        refine sm_join (fun (k232 : JP) (k232' : MP) => SM k232 k232') ?_ (fun k232 k232' hk232 => ?_)
        · exact hk237 _ _ (tc_div (tc_rem rfl (show (nI 36).toInt = 36 by decide)) (show (nI 6).toInt = 6 by decide))
        refine sm_if (cI_eq rfl (show (nI 1).toInt = 1 by decide)) ?_ ?_
        · refine sm_if (cI_eq (tc_rem rfl (show (nI 2).toInt = 2 by decide)) (show (nI 1).toInt = 1 by decide)) ?_ ?_
          · exact hk237 _ _ (tc_sub (show (nI 5).toInt = 5 by decide) (tc_div (tc_rem rfl (show (nI 36).toInt = 36 by decide)) (show (nI 6).toInt = 6 by decide)))
          · exact hk232
        · exact hk232
theorem sm_X11_write : ∀ (x0 : Nat), ∀ (x1 : Int32) (X1 : Int), x1.toInt = X1 → ∀ (x2 : Int32) (X2 : Int), x2.toInt = X2 → ∀ (x3 : Int32) (X3 : Int), x3.toInt = X3 → ∀ (x4 : Int32) (X4 : Int), x4.toInt = X4 → ∀ (x5 : Int32 → JP) (X5 : Int → MP), (∀ (x0 : Int32) (X0 : Int), x0.toInt = X0 → SM (x5 x0) (X5 X0)) → SM (JX11_write x0 x1 x2 x3 x4 x5) (MX11_write x0 X1 X2 X3 X4 X5) := by
  intro this p1 p1' hp1 p2 p2' hp2 p3 p3' hp3 p4 p4' hp4 Qj Qj' hQj
  subst hp1
  subst hp2
  subst hp3
  subst hp4
  unfold JX11_write MX11_write
  refine sm_putI rfl (show (nI 0).toInt = 0 by decide) ?_
  refine sm_X11_in _ _ rfl _ _ (show (nI 0).toInt = 0 by decide) _ _ (show (nI 1).toInt = 1 by decide) _ _ ?_
  intro v9 v9' hv9
  subst hv9
  refine sm_join (fun (k40 : Int32 → JP) (k40' : Int → MP) => ∀ (x0 : Int32) (X0 : Int), x0.toInt = X0 → SM (k40 x0) (k40' X0)) ?_ (fun k40 k40' hk40 => ?_)
  · intro s1_40 s1_40' hs1_40
    subst hs1_40
    refine sm_obj ?_
    refine sm_X11_throwsIf this _ _ rfl _ _ (show (nI 1).toInt = 1 by decide) _ _ ?_
    intro v41 v41' hv41
    subst hv41
    refine sm_if (cI_eq rfl (show (nI 0).toInt = 0 by decide)) ?_ ?_
    · refine sm_getA rfl (fun v49 => ?_)
      refine sm_aldI (by decide) (show (nI 1).toInt = 1 by decide) (fun v53 => ?_)
      refine sm_join (fun (k63 : Int32 → JP) (k63' : Int → MP) => ∀ (x0 : Int32) (X0 : Int), x0.toInt = X0 → SM (k63 x0) (k63' X0)) ?_ (fun k63 k63' hk63 => ?_)
      · intro s1_63 s1_63' hs1_63
        subst hs1_63
        refine sm_obj ?_
        refine sm_X11_throwsIf this _ _ rfl _ _ (show (nI 2).toInt = 2 by decide) _ _ ?_
        intro v64 v64' hv64
        subst hv64
        refine sm_if (cI_eq rfl (show (nI 0).toInt = 0 by decide)) ?_ ?_
        · refine sm_getA rfl (fun v73 => ?_)
          refine sm_aldI (by decide) (show (nI 1).toInt = 1 by decide) (fun v77 => ?_)
          refine sm_getA rfl (fun v81 => ?_)
          refine sm_astI (tc_add (show (nI 119).toInt = 119 by decide) (tc_mul (show (nI 98).toInt = 98 by decide) rfl)) rfl ?_
          refine sm_getA rfl (fun v95 => ?_)
          refine sm_astI (tc_add (tc_add (show (nI 119).toInt = 119 by decide) (tc_mul (show (nI 98).toInt = 98 by decide) rfl)) (show (nI 1).toInt = 1 by decide)) (show (nI 0).toInt = 0 by decide) ?_
          refine sm_getA rfl (fun v111 => ?_)
          refine sm_aldI (by decide) (show (nI 1).toInt = 1 by decide) (fun v116 => ?_)
          refine sm_astI (show (nI 1).toInt = 1 by decide) (tc_add rfl (show (nI 1).toInt = 1 by decide)) ?_
          refine sm_putI rfl rfl ?_
          refine sm_obj ?_
          refine sm_X11_begins this _ _ ?_
          refine sm_ex (fun n133 => ?_)
          refine smFX11_write_133 this p1 p2 p3 hQj v77 n133 _ _ (show (nI 0).toInt = 0 by decide)
        · exact hQj _ _ (show (nI 0).toInt = 0 by decide)
      refine sm_if (cI_eq rfl (show (nI 3).toInt = 3 by decide)) ?_ ?_
      · exact hk63 _ _ (show (nI 1).toInt = 1 by decide)
      · exact hk63 _ _ (show (nI 0).toInt = 0 by decide)
    · exact hQj _ _ (show (nI 0).toInt = 0 by decide)
  refine sm_join (fun (k35 : JP) (k35' : MP) => SM k35 k35') ?_ (fun k35 k35' hk35 => ?_)
  · exact hk40 _ _ (show (nI 1).toInt = 1 by decide)
  refine sm_if (cI_eq rfl (show (nI 0).toInt = 0 by decide)) ?_ ?_
  · exact hk35
  · refine sm_X11_in _ _ rfl _ _ (show (nI 1).toInt = 1 by decide) _ _ (show (nI 24).toInt = 24 by decide) _ _ ?_
    intro v19 v19' hv19
    subst hv19
    refine sm_if (cI_eq rfl (show (nI 0).toInt = 0 by decide)) ?_ ?_
    · exact hk35
    · refine sm_X11_in _ _ rfl _ _ (show (nI 0).toInt = 0 by decide) _ _ (show (nI 9).toInt = 9 by decide) _ _ ?_
      intro v29 v29' hv29
      subst hv29
      refine sm_if (cI_eq rfl (show (nI 0).toInt = 0 by decide)) ?_ ?_
      · exact hk35
      · exact hk40 _ _ (show (nI 0).toInt = 0 by decide)
theorem sm_X1_isSlip : ∀ (x0 : Nat), ∀ (x1 : Nat), ∀ (x2 : Int32) (X2 : Int), x2.toInt = X2 → ∀ (x3 : Nat → Nat → JP) (X3 : Nat → Nat → MP), (∀ z q, SM (x3 z q) (X3 z q)) → ∀ (x4 : JP) (X4 : MP), SM x4 X4 → SM (JX1_isSlip x0 x1 x2 x3 x4) (MX1_isSlip x0 x1 X2 X3 X4) := by
  intro bc bs p0 p0' hp0 Ex Ex' hEx Qj Qj' hQj
  subst hp0
  unfold JX1_isSlip MX1_isSlip
  refine sm_X1_isIn _ _ rfl _ _ (show (nI 1).toInt = 1 by decide) _ _ (show (nI 7).toInt = 7 by decide) _ _ ?_
  intro v4 v4' hv4
  subst hv4
  refine sm_bud (fun mc7 ms7 => ?_)
  exact sm_X1_mustBe mc7 ms7 _ _ rfl _ _ hEx _ _ hQj
theorem sm_X1_price : ∀ (x0 : Nat), ∀ (x1 : Nat), ∀ (x2 : Nat), ∀ (x3 : Int32) (X3 : Int), x3.toInt = X3 → ∀ (x4 : Int32) (X4 : Int), x4.toInt = X4 → ∀ (x5 : Nat → Nat → JP) (X5 : Nat → Nat → MP), (∀ z q, SM (x5 z q) (X5 z q)) → ∀ (x6 : Int32 → JP) (X6 : Int → MP), (∀ (x0 : Int32) (X0 : Int), x0.toInt = X0 → SM (x6 x0) (X6 X0)) → SM (JX1_price x0 x1 x2 x3 x4 x5 x6) (MX1_price x0 x1 x2 X3 X4 X5 X6) := by
  intro bc bs this p1 p1' hp1 p2 p2' hp2 Ex Ex' hEx Qj Qj' hQj
  subst hp1
  subst hp2
  unfold JX1_price MX1_price
  refine sm_bud (fun mc1 ms1 => ?_)
  refine sm_X1_isSlip mc1 ms1 _ _ rfl _ _ hEx _ _ ?_
  refine sm_X1_isIn _ _ rfl _ _ (show (nI 0).toInt = 0 by decide) _ _ (show (nI 9).toInt = 9 by decide) _ _ ?_
  intro v8 v8' hv8
  subst hv8
  refine sm_bud (fun mc11 ms11 => ?_)
  refine sm_X1_must mc11 ms11 _ _ rfl _ _ hEx _ _ ?_
  refine sm_getA rfl (fun v15 => ?_)
  refine sm_getA rfl (fun v18 => ?_)
  refine sm_aldI (by decide) rfl (fun v22 => ?_)
  refine sm_getA rfl (fun v25 => ?_)
  refine sm_getA rfl (fun v28 => ?_)
  refine sm_astI rfl rfl ?_
  refine sm_putZ rfl (show (nI 0).toInt = 0 by decide) ?_
  exact hQj _ _ rfl
theorem sm_X0_price : ∀ (x0 : Nat), ∀ (x1 : Nat), ∀ (x2 : Nat), ∀ (x3 : Int32) (X3 : Int), x3.toInt = X3 → ∀ (x4 : Int32) (X4 : Int), x4.toInt = X4 → ∀ (x5 : Nat), ∀ (x6 : Int32 → JP) (X6 : Int → MP), (∀ (x0 : Int32) (X0 : Int), x0.toInt = X0 → SM (x6 x0) (X6 X0)) → SM (JX0_price x0 x1 x2 x3 x4 x5 x6) (MX0_price x0 x1 x2 X3 X4 x5 X6) := by
  intro bc bs p0 p1 p1' hp1 p2 p2' hp2 p3 Qj Qj' hQj
  subst hp1
  subst hp2
  unfold JX0_price MX0_price
  refine sm_bud (fun mc5 ms5 => ?_)
  refine sm_obj ?_
  refine sm_X1_price mc5 ms5 p0 _ _ rfl _ _ rfl _ _ (fun xx5 xq5 => ?_) _ _ ?_
  · refine sm_if Iff.rfl ?_ ?_
    · exact hQj _ _ (show (nI 1).toInt = 1 by decide)
    · refine sm_if Iff.rfl ?_ ?_
      · exact hQj _ _ (show (nI 2).toInt = 2 by decide)
      · exact SM.bot
  intro v5 v5' hv5
  subst hv5
  refine sm_astL (show (nI 0).toInt = 0 by decide) (tc_i2l rfl) ?_
  exact hQj _ _ (show (nI 0).toInt = 0 by decide)
theorem sm_X11_price : ∀ (x0 : Nat), ∀ (x1 : Int32) (X1 : Int), x1.toInt = X1 → ∀ (x2 : Int32) (X2 : Int), x2.toInt = X2 → ∀ (x3 : Int32 → JP) (X3 : Int → MP), (∀ (x0 : Int32) (X0 : Int), x0.toInt = X0 → SM (x3 x0) (X3 X0)) → SM (JX11_price x0 x1 x2 x3) (MX11_price x0 X1 X2 X3) := by
  intro this p1 p1' hp1 p2 p2' hp2 Qj Qj' hQj
  subst hp1
  subst hp2
  unfold JX11_price MX11_price
  refine sm_putI rfl (show (nI 0).toInt = 0 by decide) ?_
  refine sm_X11_in _ _ rfl _ _ (show (nI 1).toInt = 1 by decide) _ _ (show (nI 7).toInt = 7 by decide) _ _ ?_
  intro v10 v10' hv10
  subst hv10
  refine sm_join (fun (k21 : Int32 → JP) (k21' : Int → MP) => ∀ (x0 : Int32) (X0 : Int), x0.toInt = X0 → SM (k21 x0) (k21' X0)) ?_ (fun k21 k21' hk21 => ?_)
  · intro s1_21 s1_21' hs1_21
    subst hs1_21
    refine sm_obj ?_
    refine sm_X11_throwsIf this _ _ rfl _ _ (show (nI 1).toInt = 1 by decide) _ _ ?_
    intro v22 v22' hv22
    subst hv22
    refine sm_if (cI_eq rfl (show (nI 0).toInt = 0 by decide)) ?_ ?_
    · refine sm_X11_in _ _ rfl _ _ (show (nI 0).toInt = 0 by decide) _ _ (show (nI 9).toInt = 9 by decide) _ _ ?_
      intro v33 v33' hv33
      subst hv33
      refine sm_join (fun (k44 : Int32 → JP) (k44' : Int → MP) => ∀ (x0 : Int32) (X0 : Int), x0.toInt = X0 → SM (k44 x0) (k44' X0)) ?_ (fun k44 k44' hk44 => ?_)
      · intro s1_44 s1_44' hs1_44
        subst hs1_44
        refine sm_obj ?_
        refine sm_X11_throwsIf this _ _ rfl _ _ (show (nI 2).toInt = 2 by decide) _ _ ?_
        intro v45 v45' hv45
        subst hv45
        refine sm_if (cI_eq rfl (show (nI 0).toInt = 0 by decide)) ?_ ?_
        · refine sm_getA rfl (fun v54 => ?_)
          refine sm_aldI (by decide) (tc_add (show (nI 5).toInt = 5 by decide) rfl) (fun v60 => ?_)
          refine sm_getA rfl (fun v63 => ?_)
          refine sm_astI (tc_add (show (nI 5).toInt = 5 by decide) rfl) rfl ?_
          exact hQj _ _ rfl
        · exact hQj _ _ (show (nI 0).toInt = 0 by decide)
      refine sm_if (cI_eq rfl (show (nI 0).toInt = 0 by decide)) ?_ ?_
      · exact hk44 _ _ (show (nI 1).toInt = 1 by decide)
      · exact hk44 _ _ (show (nI 0).toInt = 0 by decide)
    · exact hQj _ _ (show (nI 0).toInt = 0 by decide)
  refine sm_if (cI_eq rfl (show (nI 0).toInt = 0 by decide)) ?_ ?_
  · exact hk21 _ _ (show (nI 1).toInt = 1 by decide)
  · exact hk21 _ _ (show (nI 0).toInt = 0 by decide)
theorem sm_X1_length : ∀ (x0 : Nat), ∀ (x1 : Nat), ∀ (x2 : Nat), ∀ (x3 : Int32) (X3 : Int), x3.toInt = X3 → ∀ (x4 : Nat → Nat → JP) (X4 : Nat → Nat → MP), (∀ z q, SM (x4 z q) (X4 z q)) → ∀ (x5 : JP) (X5 : MP), SM x5 X5 → SM (JX1_length x0 x1 x2 x3 x4 x5) (MX1_length x0 x1 x2 X3 X4 X5) := by
  intro bc bs this p1 p1' hp1 Ex Ex' hEx Qj Qj' hQj
  subst hp1
  unfold JX1_length MX1_length
  refine sm_X1_isIn _ _ rfl _ _ (show ((-1) : Int32).toInt = (-1) by decide) _ _ (show (nI 30).toInt = 30 by decide) _ _ ?_
  intro v4 v4' hv4
  subst hv4
  refine sm_bud (fun mc7 ms7 => ?_)
  refine sm_X1_must mc7 ms7 _ _ rfl _ _ hEx _ _ ?_
  refine sm_getA rfl (fun v11 => ?_)
  refine sm_putI rfl rfl ?_
  refine sm_putZ rfl (show (nI 0).toInt = 0 by decide) ?_
  exact hQj
theorem sm_X0_length : ∀ (x0 : Nat), ∀ (x1 : Nat), ∀ (x2 : Nat), ∀ (x3 : Int32) (X3 : Int), x3.toInt = X3 → ∀ (x4 : Int32 → JP) (X4 : Int → MP), (∀ (x0 : Int32) (X0 : Int), x0.toInt = X0 → SM (x4 x0) (X4 X0)) → SM (JX0_length x0 x1 x2 x3 x4) (MX0_length x0 x1 x2 X3 X4) := by
  intro bc bs p0 p1 p1' hp1 Qj Qj' hQj
  subst hp1
  unfold JX0_length MX0_length
  refine sm_bud (fun mc2 ms2 => ?_)
  refine sm_obj ?_
  refine sm_X1_length mc2 ms2 p0 _ _ rfl _ _ (fun xx2 xq2 => ?_) _ _ ?_
  · refine sm_if Iff.rfl ?_ ?_
    · exact hQj _ _ (show (nI 1).toInt = 1 by decide)
    · exact SM.bot
  exact hQj _ _ (show (nI 0).toInt = 0 by decide)
theorem sm_X11_length : ∀ (x0 : Nat), ∀ (x1 : Int32) (X1 : Int), x1.toInt = X1 → ∀ (x2 : JP) (X2 : MP), SM x2 X2 → SM (JX11_length x0 x1 x2) (MX11_length x0 X1 X2) := by
  intro this p1 p1' hp1 Qj Qj' hQj
  subst hp1
  unfold JX11_length MX11_length
  refine sm_putI rfl (show (nI 0).toInt = 0 by decide) ?_
  refine sm_X11_in _ _ rfl _ _ (show ((-1) : Int32).toInt = (-1) by decide) _ _ (show (nI 30).toInt = 30 by decide) _ _ ?_
  intro v10 v10' hv10
  subst hv10
  refine sm_join (fun (k21 : Int32 → JP) (k21' : Int → MP) => ∀ (x0 : Int32) (X0 : Int), x0.toInt = X0 → SM (k21 x0) (k21' X0)) ?_ (fun k21 k21' hk21 => ?_)
  · intro s1_21 s1_21' hs1_21
    subst hs1_21
    refine sm_obj ?_
    refine sm_X11_throwsIf this _ _ rfl _ _ (show (nI 1).toInt = 1 by decide) _ _ ?_
    intro v22 v22' hv22
    subst hv22
    refine sm_if (cI_eq rfl (show (nI 0).toInt = 0 by decide)) ?_ ?_
    · refine sm_getA rfl (fun v30 => ?_)
      refine sm_astI (show (nI 3).toInt = 3 by decide) rfl ?_
      exact hQj
    · exact hQj
  refine sm_if (cI_eq rfl (show (nI 0).toInt = 0 by decide)) ?_ ?_
  · exact hk21 _ _ (show (nI 1).toInt = 1 by decide)
  · exact hk21 _ _ (show (nI 0).toInt = 0 by decide)
theorem sm_X24_init : ∀ (x0 : Nat), ∀ (x1 : Int32) (X1 : Int), x1.toInt = X1 → ∀ (x2 : Int32) (X2 : Int), x2.toInt = X2 → ∀ (x3 : Int32) (X3 : Int), x3.toInt = X3 → ∀ (x4 : Int32) (X4 : Int), x4.toInt = X4 → ∀ (x5 : JP) (X5 : MP), SM x5 X5 → SM (JX24_init x0 x1 x2 x3 x4 x5) (MX24_init x0 X1 X2 X3 X4 X5) := by
  intro this p1 p1' hp1 p2 p2' hp2 p3 p3' hp3 p4 p4' hp4 Qj Qj' hQj
  subst hp1
  subst hp2
  subst hp3
  subst hp4
  unfold JX24_init MX24_init
  refine sm_putI rfl rfl ?_
  refine sm_putI rfl rfl ?_
  refine sm_putI rfl rfl ?_
  refine sm_putI rfl rfl ?_
  exact hQj
theorem sm_X1_picture : ∀ (x0 : Nat), ∀ (x1 : Nat), ∀ (x2 : Nat), ∀ (x3 : Int32) (X3 : Int), x3.toInt = X3 → ∀ (x4 : Int32) (X4 : Int), x4.toInt = X4 → ∀ (x5 : Int32) (X5 : Int), x5.toInt = X5 → ∀ (x6 : Int32) (X6 : Int), x6.toInt = X6 → ∀ (x7 : Nat → Nat → JP) (X7 : Nat → Nat → MP), (∀ z q, SM (x7 z q) (X7 z q)) → ∀ (x8 : Int32 → JP) (X8 : Int → MP), (∀ (x0 : Int32) (X0 : Int), x0.toInt = X0 → SM (x8 x0) (X8 X0)) → SM (JX1_picture x0 x1 x2 x3 x4 x5 x6 x7 x8) (MX1_picture x0 x1 x2 X3 X4 X5 X6 X7 X8) := by
  intro bc bs this p1 p1' hp1 p2 p2' hp2 p3 p3' hp3 p4 p4' hp4 Ex Ex' hEx Qj Qj' hQj
  subst hp1
  subst hp2
  subst hp3
  subst hp4
  unfold JX1_picture MX1_picture
  refine sm_bud (fun mc1 ms1 => ?_)
  refine sm_X1_isSquare mc1 ms1 _ _ rfl _ _ hEx _ _ ?_
  refine sm_bud (fun mc7 ms7 => ?_)
  refine sm_obj ?_
  refine sm_X1_isKind mc7 ms7 this _ _ rfl _ _ (show ((-1) : Int32).toInt = (-1) by decide) _ _ hEx _ _ ?_
  refine sm_X1_isIn _ _ rfl _ _ (show (nI 0).toInt = 0 by decide) _ _ (show (nI 30).toInt = 30 by decide) _ _ ?_
  intro v14 v14' hv14
  subst hv14
  refine sm_join (fun (k40 : Int32 → JP) (k40' : Int → MP) => ∀ (x0 : Int32) (X0 : Int), x0.toInt = X0 → SM (k40 x0) (k40' X0)) ?_ (fun k40 k40' hk40 => ?_)
  · intro s0_40 s0_40' hs0_40
    subst hs0_40
    refine sm_bud (fun mc40 ms40 => ?_)
    refine sm_X1_must mc40 ms40 _ _ rfl _ _ hEx _ _ ?_
    refine sm_getA rfl (fun v44 => ?_)
    refine sm_getI rfl (fun v47 => ?_)
    refine sm_join (fun (k60 : Int32 → JP) (k60' : Int → MP) => ∀ (x0 : Int32) (X0 : Int), x0.toInt = X0 → SM (k60 x0) (k60' X0)) ?_ (fun k60 k60' hk60 => ?_)
    · intro s0_60 s0_60' hs0_60
      subst hs0_60
      refine sm_bud (fun mc60 ms60 => ?_)
      refine sm_X1_mayBe mc60 ms60 _ _ rfl _ _ hEx _ _ ?_
      refine sm_getA rfl (fun v64 => ?_)
      refine sm_getA rfl (fun v67 => ?_)
      refine sm_getA rfl (fun v71 => ?_)
      refine sm_getI rfl (fun v74 => ?_)
      refine sm_new rfl rfl (fun v77 => ?_)
      refine sm_X24_init v77 _ _ rfl _ _ rfl _ _ rfl _ _ rfl _ _ ?_
      refine sm_astA (by decide) rfl ?_
      refine sm_getA rfl (fun v91 => ?_)
      refine sm_getI rfl (fun v95 => ?_)
      refine sm_putI rfl (tc_add rfl (show (nI 1).toInt = 1 by decide)) ?_
      refine sm_putZ rfl (show (nI 0).toInt = 0 by decide) ?_
      refine sm_getA rfl (fun v109 => ?_)
      refine sm_getI rfl (fun v112 => ?_)
      exact hQj _ _ rfl
    refine sm_if (cI_le (show (nI 10).toInt = 10 by decide) rfl) ?_ ?_
    · exact hk60 _ _ (show (nI 0).toInt = 0 by decide)
    · exact hk60 _ _ (show (nI 1).toInt = 1 by decide)
  refine sm_join (fun (k39 : JP) (k39' : MP) => SM k39 k39') ?_ (fun k39 k39' hk39 => ?_)
  · exact hk40 _ _ (show (nI 0).toInt = 0 by decide)
  refine sm_if (cI_eq rfl (show (nI 0).toInt = 0 by decide)) ?_ ?_
  · exact hk39
  · refine sm_join (fun (k35 : JP) (k35' : MP) => SM k35 k35') ?_ (fun k35 k35' hk35 => ?_)
    · exact hk40 _ _ (show (nI 1).toInt = 1 by decide)
    refine sm_if (cI_eq rfl (show ((-1) : Int32).toInt = (-1) by decide)) ?_ ?_
    · exact hk35
    · refine sm_X1_isIn _ _ rfl _ _ (show (nI 0).toInt = 0 by decide) _ _ (show (nI 1).toInt = 1 by decide) _ _ ?_
      intro v29 v29' hv29
      subst hv29
      refine sm_if (cI_eq rfl (show (nI 0).toInt = 0 by decide)) ?_ ?_
      · exact hk39
      · exact hk35
theorem sm_X0_picture : ∀ (x0 : Nat), ∀ (x1 : Nat), ∀ (x2 : Nat), ∀ (x3 : Int32) (X3 : Int), x3.toInt = X3 → ∀ (x4 : Int32) (X4 : Int), x4.toInt = X4 → ∀ (x5 : Int32) (X5 : Int), x5.toInt = X5 → ∀ (x6 : Int32) (X6 : Int), x6.toInt = X6 → ∀ (x7 : Nat), ∀ (x8 : Int32 → JP) (X8 : Int → MP), (∀ (x0 : Int32) (X0 : Int), x0.toInt = X0 → SM (x8 x0) (X8 X0)) → SM (JX0_picture x0 x1 x2 x3 x4 x5 x6 x7 x8) (MX0_picture x0 x1 x2 X3 X4 X5 X6 x7 X8) := by
  intro bc bs p0 p1 p1' hp1 p2 p2' hp2 p3 p3' hp3 p4 p4' hp4 p5 Qj Qj' hQj
  subst hp1
  subst hp2
  subst hp3
  subst hp4
  unfold JX0_picture MX0_picture
  refine sm_bud (fun mc9 ms9 => ?_)
  refine sm_obj ?_
  refine sm_X1_picture mc9 ms9 p0 _ _ rfl _ _ rfl _ _ rfl _ _ rfl _ _ (fun xx9 xq9 => ?_) _ _ ?_
  · refine sm_if Iff.rfl ?_ ?_
    · exact hQj _ _ (show (nI 1).toInt = 1 by decide)
    · refine sm_if Iff.rfl ?_ ?_
      · exact hQj _ _ (show (nI 2).toInt = 2 by decide)
      · refine sm_if Iff.rfl ?_ ?_
        · exact hQj _ _ (show (nI 3).toInt = 3 by decide)
        · exact SM.bot
  intro v9 v9' hv9
  subst hv9
  refine sm_astL (show (nI 0).toInt = 0 by decide) (tc_i2l rfl) ?_
  exact hQj _ _ (show (nI 0).toInt = 0 by decide)
theorem sm_X11_picture : ∀ (x0 : Nat), ∀ (x1 : Int32) (X1 : Int), x1.toInt = X1 → ∀ (x2 : Int32) (X2 : Int), x2.toInt = X2 → ∀ (x3 : Int32) (X3 : Int), x3.toInt = X3 → ∀ (x4 : Int32) (X4 : Int), x4.toInt = X4 → ∀ (x5 : Int32 → JP) (X5 : Int → MP), (∀ (x0 : Int32) (X0 : Int), x0.toInt = X0 → SM (x5 x0) (X5 X0)) → SM (JX11_picture x0 x1 x2 x3 x4 x5) (MX11_picture x0 X1 X2 X3 X4 X5) := by
  intro this p1 p1' hp1 p2 p2' hp2 p3 p3' hp3 p4 p4' hp4 Qj Qj' hQj
  subst hp1
  subst hp2
  subst hp3
  subst hp4
  unfold JX11_picture MX11_picture
  refine sm_putI rfl (show (nI 0).toInt = 0 by decide) ?_
  refine sm_X11_noSquare _ _ rfl _ _ ?_
  intro v7 v7' hv7
  subst hv7
  refine sm_join (fun (k31 : Int32 → JP) (k31' : Int → MP) => ∀ (x0 : Int32) (X0 : Int), x0.toInt = X0 → SM (k31 x0) (k31' X0)) ?_ (fun k31 k31' hk31 => ?_)
  · intro s1_31 s1_31' hs1_31
    subst hs1_31
    refine sm_obj ?_
    refine sm_X11_throwsIf this _ _ rfl _ _ (show (nI 1).toInt = 1 by decide) _ _ ?_
    intro v32 v32' hv32
    subst hv32
    refine sm_if (cI_eq rfl (show (nI 0).toInt = 0 by decide)) ?_ ?_
    · refine sm_X11_in _ _ rfl _ _ (show (nI 0).toInt = 0 by decide) _ _ (show (nI 30).toInt = 30 by decide) _ _ ?_
      intro v43 v43' hv43
      subst hv43
      refine sm_join (fun (k69 : Int32 → JP) (k69' : Int → MP) => ∀ (x0 : Int32) (X0 : Int), x0.toInt = X0 → SM (k69 x0) (k69' X0)) ?_ (fun k69 k69' hk69 => ?_)
      · intro s1_69 s1_69' hs1_69
        subst hs1_69
        refine sm_obj ?_
        refine sm_X11_throwsIf this _ _ rfl _ _ (show (nI 2).toInt = 2 by decide) _ _ ?_
        intro v70 v70' hv70
        subst hv70
        refine sm_if (cI_eq rfl (show (nI 0).toInt = 0 by decide)) ?_ ?_
        · refine sm_getA rfl (fun v78 => ?_)
          refine sm_aldI (by decide) (show (nI 2).toInt = 2 by decide) (fun v82 => ?_)
          refine sm_join (fun (k93 : Int32 → JP) (k93' : Int → MP) => ∀ (x0 : Int32) (X0 : Int), x0.toInt = X0 → SM (k93 x0) (k93' X0)) ?_ (fun k93 k93' hk93 => ?_)
          · intro s1_93 s1_93' hs1_93
            subst hs1_93
            refine sm_obj ?_
            refine sm_X11_throwsIf this _ _ rfl _ _ (show (nI 3).toInt = 3 by decide) _ _ ?_
            intro v94 v94' hv94
            subst hv94
            refine sm_if (cI_eq rfl (show (nI 0).toInt = 0 by decide)) ?_ ?_
            · refine sm_getA rfl (fun v107 => ?_)
              refine sm_aldI (by decide) (show (nI 2).toInt = 2 by decide) (fun v111 => ?_)
              refine sm_getA rfl (fun v117 => ?_)
              refine sm_astI (tc_add (show (nI 413).toInt = 413 by decide) (tc_mul (show (nI 3).toInt = 3 by decide) rfl)) rfl ?_
              refine sm_getA rfl (fun v125 => ?_)
              refine sm_astI (tc_add (tc_add (show (nI 413).toInt = 413 by decide) (tc_mul (show (nI 3).toInt = 3 by decide) rfl)) (show (nI 1).toInt = 1 by decide)) rfl ?_
              refine sm_getA rfl (fun v135 => ?_)
              refine sm_X11_man _ _ rfl _ _ rfl _ _ ?_
              intro v145 v145' hv145
              subst hv145
              refine sm_astI (tc_add (tc_add (show (nI 413).toInt = 413 by decide) (tc_mul (show (nI 3).toInt = 3 by decide) rfl)) (show (nI 2).toInt = 2 by decide)) rfl ?_
              refine sm_getA rfl (fun v150 => ?_)
              refine sm_aldI (by decide) (show (nI 2).toInt = 2 by decide) (fun v155 => ?_)
              refine sm_astI (show (nI 2).toInt = 2 by decide) (tc_add rfl (show (nI 1).toInt = 1 by decide)) ?_
              refine sm_getA rfl (fun v160 => ?_)
              refine sm_aldI (by decide) (show (nI 2).toInt = 2 by decide) (fun v164 => ?_)
              exact hQj _ _ rfl
            · exact hQj _ _ (show (nI 0).toInt = 0 by decide)
          refine sm_if (cI_eq rfl (show (nI 10).toInt = 10 by decide)) ?_ ?_
          · exact hk93 _ _ (show (nI 1).toInt = 1 by decide)
          · exact hk93 _ _ (show (nI 0).toInt = 0 by decide)
        · exact hQj _ _ (show (nI 0).toInt = 0 by decide)
      refine sm_join (fun (k64 : JP) (k64' : MP) => SM k64 k64') ?_ (fun k64 k64' hk64 => ?_)
      · exact hk69 _ _ (show (nI 1).toInt = 1 by decide)
      refine sm_if (cI_eq rfl (show (nI 0).toInt = 0 by decide)) ?_ ?_
      · exact hk64
      · refine sm_join (fun (k68 : JP) (k68' : MP) => SM k68 k68') ?_ (fun k68 k68' hk68 => ?_)
        · exact hk69 _ _ (show (nI 0).toInt = 0 by decide)
        refine sm_if (cI_eq rfl (show ((-1) : Int32).toInt = (-1) by decide)) ?_ ?_
        · exact hk68
        · refine sm_X11_in _ _ rfl _ _ (show (nI 0).toInt = 0 by decide) _ _ (show (nI 1).toInt = 1 by decide) _ _ ?_
          intro v58 v58' hv58
          subst hv58
          refine sm_if (cI_eq rfl (show (nI 0).toInt = 0 by decide)) ?_ ?_
          · exact hk64
          · exact hk68
    · exact hQj _ _ (show (nI 0).toInt = 0 by decide)
  refine sm_join (fun (k26 : JP) (k26' : MP) => SM k26 k26') ?_ (fun k26 k26' hk26 => ?_)
  · exact hk31 _ _ (show (nI 1).toInt = 1 by decide)
  refine sm_if (cI_eq rfl (show (nI 0).toInt = 0 by decide)) ?_ ?_
  · refine sm_join (fun (k30 : JP) (k30' : MP) => SM k30 k30') ?_ (fun k30 k30' hk30 => ?_)
    · exact hk31 _ _ (show (nI 0).toInt = 0 by decide)
    refine sm_if (cI_eq rfl (show ((-1) : Int32).toInt = (-1) by decide)) ?_ ?_
    · exact hk30
    · refine sm_obj ?_
      refine sm_X11_noKind this _ _ rfl _ _ ?_
      intro v20 v20' hv20
      subst hv20
      refine sm_if (cI_eq rfl (show (nI 0).toInt = 0 by decide)) ?_ ?_
      · exact hk30
      · exact hk26
  · exact hk26
theorem sm_X1_allBooks : ∀ (x0 : Nat), ∀ (x1 : Int32 → JP) (X1 : Int → MP), (∀ (x0 : Int32) (X0 : Int), x0.toInt = X0 → SM (x1 x0) (X1 X0)) → SM (JX1_allBooks x0 x1) (MX1_allBooks x0 X1) := by
  intro this Qj Qj' hQj
  unfold JX1_allBooks MX1_allBooks
  refine sm_getA rfl (fun v2 => ?_)
  refine sm_getI rfl (fun v5 => ?_)
  exact hQj _ _ (tc_sub (tc_shl (show (nI 1).toInt = 1 by decide) rfl) (show (nI 1).toInt = 1 by decide))
theorem smFX10_begins_32 (this : Nat) (p2 : Int32) {Qj : JP} {Qj' : MP} (hQj : SM Qj Qj') : ∀ n : Nat, ∀ (x0 : Int32) (X0 : Int), x0.toInt = X0 → SM (jit (FX10_begins_32 this p2 Qj) (fun _ => jbot) n x0) (jit (GX10_begins_32 this p2.toInt Qj') (fun _ => mbot) n X0) := by
  intro n
  induction n with
  | zero =>
    intro x3_32 x3_32' hx3_32
    exact SM.bot
  | succ n ih =>
    intro x3_32 x3_32' hx3_32
    subst hx3_32
    show SM (FX10_begins_32 this p2 Qj (jit (FX10_begins_32 this p2 Qj) (fun _ => jbot) n) x3_32) (GX10_begins_32 this p2.toInt Qj' (jit (GX10_begins_32 this p2.toInt Qj') (fun _ => mbot) n) x3_32.toInt)
    generalize jit (FX10_begins_32 this p2 Qj) (fun _ => jbot) n = rec32 at ih ⊢
    generalize jit (GX10_begins_32 this p2.toInt Qj') (fun _ => mbot) n = rec32' at ih ⊢
    have hrec32 := ih
    unfold FX10_begins_32 GX10_begins_32
    refine sm_if (cI_lt (show (nI 7).toInt = 7 by decide) rfl) ?_ ?_
    · exact hQj
    · refine sm_getA rfl (fun v39 => ?_)
      refine sm_join (fun (k60 : Int32 → JP) (k60' : Int → MP) => ∀ (x0 : Int32) (X0 : Int), x0.toInt = X0 → SM (k60 x0) (k60' X0)) ?_ (fun k60 k60' hk60 => ?_)
      · intro s2_60 s2_60' hs2_60
        subst hs2_60
        refine sm_astI rfl rfl ?_
        exact hrec32 _ _ (tc_add rfl (show (nI 1).toInt = 1 by decide))
      refine sm_if (cI_eq rfl (show (nI 0).toInt = 0 by decide)) ?_ ?_
      · refine sm_getA rfl (fun v52 => ?_)
        refine sm_getA rfl (fun v55 => ?_)
        refine sm_aldI (by decide) rfl (fun v59 => ?_)
        exact hk60 _ _ rfl
      · exact hk60 _ _ (show (nI 0).toInt = 0 by decide)
theorem sm_X10_begins : ∀ (x0 : Nat), ∀ (x1 : Int32) (X1 : Int), x1.toInt = X1 → ∀ (x2 : Int32) (X2 : Int), x2.toInt = X2 → ∀ (x3 : JP) (X3 : MP), SM x3 X3 → SM (JX10_begins x0 x1 x2 x3) (MX10_begins x0 X1 X2 X3) := by
  intro this p1 p1' hp1 p2 p2' hp2 Qj Qj' hQj
  subst hp1
  subst hp2
  unfold JX10_begins MX10_begins
  refine sm_putI rfl rfl ?_
  refine sm_putZ rfl rfl ?_
  refine sm_putI rfl (show (nI 0).toInt = 0 by decide) ?_
  refine sm_putI rfl (show (nI 0).toInt = 0 by decide) ?_
  refine sm_putZ rfl (show (nI 0).toInt = 0 by decide) ?_
  refine sm_putZ rfl (show (nI 0).toInt = 0 by decide) ?_
  refine sm_ex (fun n32 => ?_)
  refine smFX10_begins_32 this p2 hQj n32 _ _ (show (nI 0).toInt = 0 by decide)
theorem sm_X24_is : ∀ (x0 : Nat), ∀ (x1 : Nat), ∀ (x2 : Int32 → JP) (X2 : Int → MP), (∀ (x0 : Int32) (X0 : Int), x0.toInt = X0 → SM (x2 x0) (X2 X0)) → SM (JX24_is x0 x1 x2) (MX24_is x0 x1 X2) := by
  intro this p1 Qj Qj' hQj
  unfold JX24_is MX24_is
  refine sm_getA rfl (fun v1 => ?_)
  refine sm_getI rfl (fun v5 => ?_)
  refine sm_aldI (by decide) rfl (fun v8 => ?_)
  refine sm_getI rfl (fun v10 => ?_)
  refine sm_join (fun (k44 : JP) (k44' : MP) => SM k44 k44') ?_ (fun k44 k44' hk44 => ?_)
  · exact hQj _ _ (show (nI 0).toInt = 0 by decide)
  refine sm_if (cI_eq rfl rfl) ?_ ?_
  · refine sm_getI rfl (fun v17 => ?_)
    refine sm_join (fun (k40 : JP) (k40' : MP) => SM k40 k40') ?_ (fun k40 k40' hk40 => ?_)
    · exact hQj _ _ (show (nI 1).toInt = 1 by decide)
    refine sm_if (cI_eq rfl (show ((-1) : Int32).toInt = (-1) by decide)) ?_ ?_
    · exact hk40
    · refine sm_getA rfl (fun v25 => ?_)
      refine sm_getI rfl (fun v29 => ?_)
      refine sm_aldI (by decide) rfl (fun v32 => ?_)
      refine sm_getI rfl (fun v34 => ?_)
      refine sm_if (cI_eq rfl rfl) ?_ ?_
      · exact hk40
      · exact hk44
  · exact hk44
theorem smFX10_bars_4 (this : Nat) (p1 : Int32) {Qj : Int32 → JP} {Qj' : Int → MP} (hQj : ∀ (x0 : Int32) (X0 : Int), x0.toInt = X0 → SM (Qj x0) (Qj' X0)) : ∀ n : Nat, ∀ (x0 : Int32) (X0 : Int), x0.toInt = X0 → ∀ (x1 : Int32) (X1 : Int), x1.toInt = X1 → SM (jit (FX10_bars_4 this p1 Qj) (fun _ _ => jbot) n x0 x1) (jit (GX10_bars_4 this p1.toInt Qj') (fun _ _ => mbot) n X0 X1) := by
  intro n
  induction n with
  | zero =>
    intro x2_4 x2_4' hx2_4 x3_4 x3_4' hx3_4
    exact SM.bot
  | succ n ih =>
    intro x2_4 x2_4' hx2_4 x3_4 x3_4' hx3_4
    subst hx2_4
    subst hx3_4
    show SM (FX10_bars_4 this p1 Qj (jit (FX10_bars_4 this p1 Qj) (fun _ _ => jbot) n) x2_4 x3_4) (GX10_bars_4 this p1.toInt Qj' (jit (GX10_bars_4 this p1.toInt Qj') (fun _ _ => mbot) n) x2_4.toInt x3_4.toInt)
    generalize jit (FX10_bars_4 this p1 Qj) (fun _ _ => jbot) n = rec4 at ih ⊢
    generalize jit (GX10_bars_4 this p1.toInt Qj') (fun _ _ => mbot) n = rec4' at ih ⊢
    have hrec4 := ih
    unfold FX10_bars_4 GX10_bars_4
    refine sm_getA rfl (fun v6 => ?_)
    refine sm_getI rfl (fun v9 => ?_)
    refine sm_if (cI_le rfl rfl) ?_ ?_
    · refine sm_and (fun h => h.imp (cI_eq rfl (show (nI 0).toInt = 0 by decide)).mpr (cI_eq rfl (show (nI 1).toInt = 1 by decide)).mpr) ?_
      exact hQj _ _ rfl
    · refine sm_getI rfl (fun v16 => ?_)
      refine sm_if (cI_eq rfl (show (nI 0).toInt = 0 by decide)) ?_ ?_
      · refine sm_join (fun (k66 : Int32 → JP) (k66' : Int → MP) => ∀ (x0 : Int32) (X0 : Int), x0.toInt = X0 → SM (k66 x0) (k66' X0)) ?_ (fun k66 k66' hk66 => ?_)
        · intro s0_66 s0_66' hs0_66
          subst hs0_66
          exact hrec4 _ _ rfl _ _ (tc_add rfl (show (nI 1).toInt = 1 by decide))
        refine sm_join (fun (k61 : JP) (k61' : MP) => SM k61 k61') ?_ (fun k61 k61' hk61 => ?_)
        · exact hk66 _ _ (show (nI 1).toInt = 1 by decide)
        refine sm_if (cI_eq rfl (show (nI 0).toInt = 0 by decide)) ?_ ?_
        · refine sm_getA rfl (fun v27 => ?_)
          refine sm_getA rfl (fun v30 => ?_)
          refine sm_aldA (by decide) rfl (fun v34 => ?_)
          refine sm_getI rfl (fun v35 => ?_)
          refine sm_join (fun (k65 : JP) (k65' : MP) => SM k65 k65') ?_ (fun k65 k65' hk65 => ?_)
          · exact hk66 _ _ (show (nI 0).toInt = 0 by decide)
          refine sm_if (cI_eq rfl rfl) ?_ ?_
          · refine sm_getA rfl (fun v43 => ?_)
            refine sm_getA rfl (fun v46 => ?_)
            refine sm_aldA (by decide) rfl (fun v50 => ?_)
            refine sm_getA rfl (fun v52 => ?_)
            refine sm_obj ?_
            refine sm_X24_is v50 v52 _ _ ?_
            intro v55 v55' hv55
            subst hv55
            refine sm_if (cI_eq rfl (show (nI 0).toInt = 0 by decide)) ?_ ?_
            · exact hk61
            · exact hk65
          · exact hk65
        · exact hk61
      · refine sm_and (fun h => h.imp (cI_eq rfl (show (nI 0).toInt = 0 by decide)).mpr (cI_eq rfl (show (nI 1).toInt = 1 by decide)).mpr) ?_
        exact hQj _ _ rfl
theorem sm_X10_bars : ∀ (x0 : Nat), ∀ (x1 : Int32) (X1 : Int), x1.toInt = X1 → ∀ (x2 : Int32 → JP) (X2 : Int → MP), (∀ (x0 : Int32) (X0 : Int), x0.toInt = X0 → SM (x2 x0) (X2 X0)) → SM (JX10_bars x0 x1 x2) (MX10_bars x0 X1 X2) := by
  intro this p1 p1' hp1 Qj Qj' hQj
  subst hp1
  unfold JX10_bars MX10_bars
  refine sm_ex (fun n4 => ?_)
  refine smFX10_bars_4 this p1 hQj n4 _ _ (show (nI 0).toInt = 0 by decide) _ _ (show (nI 0).toInt = 0 by decide)
theorem sm_X10_isIn : ∀ (x0 : Nat), ∀ (x1 : Int32) (X1 : Int), x1.toInt = X1 → ∀ (x2 : Int32 → JP) (X2 : Int → MP), (∀ (x0 : Int32) (X0 : Int), x0.toInt = X0 → SM (x2 x0) (X2 X0)) → SM (JX10_isIn x0 x1 x2) (MX10_isIn x0 X1 X2) := by
  intro this p1 p1' hp1 Qj Qj' hQj
  subst hp1
  unfold JX10_isIn MX10_isIn
  refine sm_getI rfl (fun v1 => ?_)
  refine sm_if (cI_eq (tc_and (tc_shr rfl rfl) (show (nI 1).toInt = 1 by decide)) (show (nI 1).toInt = 1 by decide)) ?_ ?_
  · exact hQj _ _ (show (nI 1).toInt = 1 by decide)
  · exact hQj _ _ (show (nI 0).toInt = 0 by decide)
theorem smFX10_isReading_79 (this : Nat) (p1 : Int32) {k137 : Int32 → JP} {k137' : Int → MP} (hk137 : ∀ (x0 : Int32) (X0 : Int), x0.toInt = X0 → SM (k137 x0) (k137' X0)) : ∀ n : Nat, ∀ (x0 : Int32) (X0 : Int), x0.toInt = X0 → ∀ (x1 : Int32) (X1 : Int), x1.toInt = X1 → SM (jit (FX10_isReading_79 this p1 k137) (fun _ _ => jbot) n x0 x1) (jit (GX10_isReading_79 this p1.toInt k137') (fun _ _ => mbot) n X0 X1) := by
  intro n
  induction n with
  | zero =>
    intro x2_79 x2_79' hx2_79 x3_79 x3_79' hx3_79
    exact SM.bot
  | succ n ih =>
    intro x2_79 x2_79' hx2_79 x3_79 x3_79' hx3_79
    subst hx2_79
    subst hx3_79
    show SM (FX10_isReading_79 this p1 k137 (jit (FX10_isReading_79 this p1 k137) (fun _ _ => jbot) n) x2_79 x3_79) (GX10_isReading_79 this p1.toInt k137' (jit (GX10_isReading_79 this p1.toInt k137') (fun _ _ => mbot) n) x2_79.toInt x3_79.toInt)
    generalize jit (FX10_isReading_79 this p1 k137) (fun _ _ => jbot) n = rec79 at ih ⊢
    generalize jit (GX10_isReading_79 this p1.toInt k137') (fun _ _ => mbot) n = rec79' at ih ⊢
    have hrec79 := ih
    unfold FX10_isReading_79 GX10_isReading_79
    refine sm_getA rfl (fun v81 => ?_)
    refine sm_getI rfl (fun v84 => ?_)
    refine sm_if (cI_le rfl rfl) ?_ ?_
    · exact hk137 _ _ rfl
    · refine sm_obj ?_
      refine sm_X10_isIn this _ _ rfl _ _ ?_
      intro v92 v92' hv92
      subst hv92
      refine sm_join (fun (k130 : Int32 → JP) (k130' : Int → MP) => ∀ (x0 : Int32) (X0 : Int), x0.toInt = X0 → SM (k130 x0) (k130' X0)) ?_ (fun k130 k130' hk130 => ?_)
      · intro s0_130 s0_130' hs0_130
        subst hs0_130
        exact hrec79 _ _ rfl _ _ (tc_add rfl (show (nI 1).toInt = 1 by decide))
      refine sm_if (cI_eq rfl (show (nI 0).toInt = 0 by decide)) ?_ ?_
      · exact hk130 _ _ rfl
      · refine sm_getA rfl (fun v102 => ?_)
        refine sm_aldA (by decide) rfl (fun v106 => ?_)
        refine sm_aldA (by decide) rfl (fun v108 => ?_)
        refine sm_getA rfl (fun v110 => ?_)
        refine sm_getA rfl (fun v113 => ?_)
        refine sm_aldA (by decide) rfl (fun v117 => ?_)
        refine sm_getI rfl (fun v118 => ?_)
        refine sm_aldI (by decide) rfl (fun v121 => ?_)
        exact hk130 _ _ (tc_min (show (nI 1000000).toInt = 1000000 by decide) (tc_add rfl rfl))
theorem smFX10_isReading_33 (this : Nat) (p1 : Int32) {Qj : Int32 → JP} {Qj' : Int → MP} (hQj : ∀ (x0 : Int32) (X0 : Int), x0.toInt = X0 → SM (Qj x0) (Qj' X0)) {k75 : JP} {k75' : MP} (hk75 : SM k75 k75') : ∀ n : Nat, ∀ (x0 : Int32) (X0 : Int), x0.toInt = X0 → SM (jit (FX10_isReading_33 this p1 Qj k75) (fun _ => jbot) n x0) (jit (GX10_isReading_33 this p1.toInt Qj' k75') (fun _ => mbot) n X0) := by
  intro n
  induction n with
  | zero =>
    intro x2_33 x2_33' hx2_33
    exact SM.bot
  | succ n ih =>
    intro x2_33 x2_33' hx2_33
    subst hx2_33
    show SM (FX10_isReading_33 this p1 Qj k75 (jit (FX10_isReading_33 this p1 Qj k75) (fun _ => jbot) n) x2_33) (GX10_isReading_33 this p1.toInt Qj' k75' (jit (GX10_isReading_33 this p1.toInt Qj' k75') (fun _ => mbot) n) x2_33.toInt)
    generalize jit (FX10_isReading_33 this p1 Qj k75) (fun _ => jbot) n = rec33 at ih ⊢
    generalize jit (GX10_isReading_33 this p1.toInt Qj' k75') (fun _ => mbot) n = rec33' at ih ⊢
    have hrec33 := ih
    unfold FX10_isReading_33 GX10_isReading_33
    refine sm_getA rfl (fun v35 => ?_)
    refine sm_getI rfl (fun v38 => ?_)
    refine sm_if (cI_le rfl rfl) ?_ ?_
    · exact hk75
    · refine sm_getI rfl (fun v45 => ?_)
      refine sm_if (cI_eq rfl (show (nI 0).toInt = 0 by decide)) ?_ ?_
      · refine sm_getA rfl (fun v52 => ?_)
        refine sm_getA rfl (fun v55 => ?_)
        refine sm_aldA (by decide) rfl (fun v59 => ?_)
        refine sm_getI rfl (fun v60 => ?_)
        refine sm_if (cI_le rfl rfl) ?_ ?_
        · exact hrec33 _ _ (tc_add rfl (show (nI 1).toInt = 1 by decide))
        · exact hQj _ _ (show (nI 0).toInt = 0 by decide)
      · exact hk75
theorem sm_X10_isReading : ∀ (x0 : Nat), ∀ (x1 : Int32) (X1 : Int), x1.toInt = X1 → ∀ (x2 : Int32 → JP) (X2 : Int → MP), (∀ (x0 : Int32) (X0 : Int), x0.toInt = X0 → SM (x2 x0) (X2 X0)) → SM (JX10_isReading x0 x1 x2) (MX10_isReading x0 X1 X2) := by
  intro this p1 p1' hp1 Qj Qj' hQj
  subst hp1
  unfold JX10_isReading MX10_isReading
  refine sm_getI rfl (fun v1 => ?_)
  refine sm_join (fun (k31 : JP) (k31' : MP) => SM k31 k31') ?_ (fun k31 k31' hk31 => ?_)
  · refine sm_ex (fun n33 => ?_)
    refine smFX10_isReading_33 this p1 hQj ?_ n33 _ _ (show (nI 0).toInt = 0 by decide)
    · refine sm_ex (fun n79 => ?_)
      refine smFX10_isReading_79 this p1 ?_ n79 _ _ (show (nI 0).toInt = 0 by decide) _ _ (show (nI 0).toInt = 0 by decide)
      · intro y2_137 y2_137' hy2_137
        subst hy2_137
        refine sm_getI rfl (fun v139 => ?_)
        refine sm_if (cI_eq rfl rfl) ?_ ?_
        · exact hQj _ _ (show (nI 1).toInt = 1 by decide)
        · exact hQj _ _ (show (nI 0).toInt = 0 by decide)
  refine sm_if (cI_eq rfl (show (nI 0).toInt = 0 by decide)) ?_ ?_
  · refine sm_getA rfl (fun v8 => ?_)
    refine sm_getI rfl (fun v11 => ?_)
    refine sm_if (cI_eq rfl (show ((-1) : Int32).toInt = (-1) by decide)) ?_ ?_
    · exact hk31
    · refine sm_getA rfl (fun v19 => ?_)
      refine sm_getI rfl (fun v22 => ?_)
      refine sm_if (cI_eq rfl rfl) ?_ ?_
      · exact hk31
      · exact hQj _ _ (show (nI 0).toInt = 0 by decide)
  · exact hk31
theorem smFX8_men_4 (this : Nat) (p1 : Int32) {Qj : Int32 → JP} {Qj' : Int → MP} (hQj : ∀ (x0 : Int32) (X0 : Int), x0.toInt = X0 → SM (Qj x0) (Qj' X0)) : ∀ n : Nat, ∀ (x0 : Int32) (X0 : Int), x0.toInt = X0 → ∀ (x1 : Int32) (X1 : Int), x1.toInt = X1 → SM (jit (FX8_men_4 this p1 Qj) (fun _ _ => jbot) n x0 x1) (jit (GX8_men_4 this p1.toInt Qj') (fun _ _ => mbot) n X0 X1) := by
  intro n
  induction n with
  | zero =>
    intro x2_4 x2_4' hx2_4 x3_4 x3_4' hx3_4
    exact SM.bot
  | succ n ih =>
    intro x2_4 x2_4' hx2_4 x3_4 x3_4' hx3_4
    subst hx2_4
    subst hx3_4
    show SM (FX8_men_4 this p1 Qj (jit (FX8_men_4 this p1 Qj) (fun _ _ => jbot) n) x2_4 x3_4) (GX8_men_4 this p1.toInt Qj' (jit (GX8_men_4 this p1.toInt Qj') (fun _ _ => mbot) n) x2_4.toInt x3_4.toInt)
    generalize jit (FX8_men_4 this p1 Qj) (fun _ _ => jbot) n = rec4 at ih ⊢
    generalize jit (GX8_men_4 this p1.toInt Qj') (fun _ _ => mbot) n = rec4' at ih ⊢
    have hrec4 := ih
    unfold FX8_men_4 GX8_men_4
    refine sm_if (cI_le (show (nI 36).toInt = 36 by decide) rfl) ?_ ?_
    · exact hQj _ _ rfl
    · refine sm_getA rfl (fun v12 => ?_)
      refine sm_aldI (by decide) rfl (fun v16 => ?_)
      refine sm_join (fun (k36 : Int32 → JP) (k36' : Int → MP) => ∀ (x0 : Int32) (X0 : Int), x0.toInt = X0 → SM (k36 x0) (k36' X0)) ?_ (fun k36 k36' hk36 => ?_)
      · intro s1_36 s1_36' hs1_36
        subst hs1_36
        exact hrec4 _ _ (tc_add rfl rfl) _ _ (tc_add rfl (show (nI 1).toInt = 1 by decide))
      refine sm_join (fun (k35 : JP) (k35' : MP) => SM k35 k35') ?_ (fun k35 k35' hk35 => ?_)
      · exact hk36 _ _ (show (nI 0).toInt = 0 by decide)
      refine sm_if (cI_eq rfl (show ((-1) : Int32).toInt = (-1) by decide)) ?_ ?_
      · exact hk35
      · refine sm_getA rfl (fun v22 => ?_)
        refine sm_aldI (by decide) rfl (fun v26 => ?_)
        refine sm_if (cI_eq rfl rfl) ?_ ?_
        · exact hk36 _ _ (show (nI 1).toInt = 1 by decide)
        · exact hk35
theorem sm_X8_men : ∀ (x0 : Nat), ∀ (x1 : Int32) (X1 : Int), x1.toInt = X1 → ∀ (x2 : Int32 → JP) (X2 : Int → MP), (∀ (x0 : Int32) (X0 : Int), x0.toInt = X0 → SM (x2 x0) (X2 X0)) → SM (JX8_men x0 x1 x2) (MX8_men x0 X1 X2) := by
  intro this p1 p1' hp1 Qj Qj' hQj
  subst hp1
  unfold JX8_men MX8_men
  refine sm_ex (fun n4 => ?_)
  refine smFX8_men_4 this p1 hQj n4 _ _ (show (nI 0).toInt = 0 by decide) _ _ (show (nI 0).toInt = 0 by decide)
theorem smFX10_isTaken_23 (this : Nat) (p1 : Int32) {Qj : Int32 → JP} {Qj' : Int → MP} (hQj : ∀ (x0 : Int32) (X0 : Int), x0.toInt = X0 → SM (Qj x0) (Qj' X0)) (v13 : Int32) : ∀ n : Nat, ∀ (x0 : Int32) (X0 : Int), x0.toInt = X0 → ∀ (x1 : Int32) (X1 : Int), x1.toInt = X1 → SM (jit (FX10_isTaken_23 this p1 Qj v13) (fun _ _ => jbot) n x0 x1) (jit (GX10_isTaken_23 this p1.toInt Qj' v13.toInt) (fun _ _ => mbot) n X0 X1) := by
  intro n
  induction n with
  | zero =>
    intro x4_23 x4_23' hx4_23 x5_23 x5_23' hx5_23
    exact SM.bot
  | succ n ih =>
    intro x4_23 x4_23' hx4_23 x5_23 x5_23' hx5_23
    subst hx4_23
    subst hx5_23
    show SM (FX10_isTaken_23 this p1 Qj v13 (jit (FX10_isTaken_23 this p1 Qj v13) (fun _ _ => jbot) n) x4_23 x5_23) (GX10_isTaken_23 this p1.toInt Qj' v13.toInt (jit (GX10_isTaken_23 this p1.toInt Qj' v13.toInt) (fun _ _ => mbot) n) x4_23.toInt x5_23.toInt)
    generalize jit (FX10_isTaken_23 this p1 Qj v13) (fun _ _ => jbot) n = rec23 at ih ⊢
    generalize jit (GX10_isTaken_23 this p1.toInt Qj' v13.toInt) (fun _ _ => mbot) n = rec23' at ih ⊢
    have hrec23 := ih
    unfold FX10_isTaken_23 GX10_isTaken_23
    refine sm_if (cI_le rfl rfl) ?_ ?_
    · refine sm_and (fun h => h.imp (cI_eq rfl (show (nI 0).toInt = 0 by decide)).mpr (cI_eq rfl (show (nI 1).toInt = 1 by decide)).mpr) ?_
      exact hQj _ _ rfl
    · refine sm_join (fun (k56 : Int32 → JP) (k56' : Int → MP) => ∀ (x0 : Int32) (X0 : Int), x0.toInt = X0 → SM (k56 x0) (k56' X0)) ?_ (fun k56 k56' hk56 => ?_)
      · intro s0_56 s0_56' hs0_56
        subst hs0_56
        exact hrec23 _ _ rfl _ _ (tc_add rfl (show (nI 1).toInt = 1 by decide))
      refine sm_join (fun (k51 : JP) (k51' : MP) => SM k51 k51') ?_ (fun k51 k51' hk51 => ?_)
      · exact hk56 _ _ (show (nI 1).toInt = 1 by decide)
      refine sm_if (cI_eq rfl (show (nI 0).toInt = 0 by decide)) ?_ ?_
      · refine sm_getA rfl (fun v35 => ?_)
        refine sm_aldA (by decide) (show (nI 30).toInt = 30 by decide) (fun v40 => ?_)
        refine sm_aldI (by decide) rfl (fun v43 => ?_)
        refine sm_if (cI_eq (tc_rem rfl (show (nI 36).toInt = 36 by decide)) rfl) ?_ ?_
        · exact hk51
        · exact hk56 _ _ (show (nI 0).toInt = 0 by decide)
      · exact hk51
theorem sm_X10_isTaken : ∀ (x0 : Nat), ∀ (x1 : Int32) (X1 : Int), x1.toInt = X1 → ∀ (x2 : Int32) (X2 : Int), x2.toInt = X2 → ∀ (x3 : Int32 → JP) (X3 : Int → MP), (∀ (x0 : Int32) (X0 : Int), x0.toInt = X0 → SM (x3 x0) (X3 X0)) → SM (JX10_isTaken x0 x1 x2 x3) (MX10_isTaken x0 X1 X2 X3) := by
  intro this p1 p1' hp1 p2 p2' hp2 Qj Qj' hQj
  subst hp1
  subst hp2
  unfold JX10_isTaken MX10_isTaken
  refine sm_getA rfl (fun v2 => ?_)
  refine sm_getA rfl (fun v7 => ?_)
  refine sm_aldA (by decide) (show (nI 30).toInt = 30 by decide) (fun v12 => ?_)
  refine sm_obj ?_
  refine sm_X10_gathers this v2 _ _ rfl v12 _ _ ?_
  intro v13 v13' hv13
  subst hv13
  refine sm_ex (fun n23 => ?_)
  refine smFX10_isTaken_23 this p1 hQj v13 n23 _ _ (show (nI 0).toInt = 0 by decide) _ _ (show (nI 0).toInt = 0 by decide)
theorem sm_X18_holds : ∀ (x0 : Nat), ∀ (x1 : Nat), ∀ (x2 : Int32 → JP) (X2 : Int → MP), (∀ (x0 : Int32) (X0 : Int), x0.toInt = X0 → SM (x2 x0) (X2 X0)) → SM (JX18_holds x0 x1 x2) (MX18_holds x0 x1 X2) := by
  intro this p1 Qj Qj' hQj
  unfold JX18_holds MX18_holds
  refine sm_getI rfl (fun v2 => ?_)
  refine sm_aldI (by decide) rfl (fun v5 => ?_)
  refine sm_if (cI_eq rfl (show (nI 0).toInt = 0 by decide)) ?_ ?_
  · exact hQj _ _ (show (nI 0).toInt = 0 by decide)
  · exact hQj _ _ (show (nI 1).toInt = 1 by decide)
theorem smFX19_of_7 (this : Nat) (p1 : Nat) {Qj : Int32 → JP} {Qj' : Int → MP} (hQj : ∀ (x0 : Int32) (X0 : Int), x0.toInt = X0 → SM (Qj x0) (Qj' X0)) : ∀ n : Nat, ∀ (x0 : Int32) (X0 : Int), x0.toInt = X0 → ∀ (x1 : Int32) (X1 : Int), x1.toInt = X1 → SM (jit (FX19_of_7 this p1 Qj) (fun _ _ => jbot) n x0 x1) (jit (GX19_of_7 this p1 Qj') (fun _ _ => mbot) n X0 X1) := by
  intro n
  induction n with
  | zero =>
    intro x2_7 x2_7' hx2_7 x3_7 x3_7' hx3_7
    exact SM.bot
  | succ n ih =>
    intro x2_7 x2_7' hx2_7 x3_7 x3_7' hx3_7
    subst hx2_7
    subst hx3_7
    show SM (FX19_of_7 this p1 Qj (jit (FX19_of_7 this p1 Qj) (fun _ _ => jbot) n) x2_7 x3_7) (GX19_of_7 this p1 Qj' (jit (GX19_of_7 this p1 Qj') (fun _ _ => mbot) n) x2_7.toInt x3_7.toInt)
    generalize jit (FX19_of_7 this p1 Qj) (fun _ _ => jbot) n = rec7 at ih ⊢
    generalize jit (GX19_of_7 this p1 Qj') (fun _ _ => mbot) n = rec7' at ih ⊢
    have hrec7 := ih
    unfold FX19_of_7 GX19_of_7
    refine sm_if (cI_le (show (nI 4).toInt = 4 by decide) rfl) ?_ ?_
    · exact hQj _ _ rfl
    · refine sm_getA rfl (fun v14 => ?_)
      refine sm_aldI (by decide) rfl (fun v18 => ?_)
      refine sm_aldI (by decide) rfl (fun v21 => ?_)
      exact hrec7 _ _ (tc_add rfl (tc_mul rfl rfl)) _ _ (tc_add rfl (show (nI 1).toInt = 1 by decide))
theorem sm_X19_of : ∀ (x0 : Nat), ∀ (x1 : Nat), ∀ (x2 : Int32 → JP) (X2 : Int → MP), (∀ (x0 : Int32) (X0 : Int), x0.toInt = X0 → SM (x2 x0) (X2 X0)) → SM (JX19_of x0 x1 x2) (MX19_of x0 x1 X2) := by
  intro this p1 Qj Qj' hQj
  unfold JX19_of MX19_of
  refine sm_getI rfl (fun v1 => ?_)
  refine sm_ex (fun n7 => ?_)
  refine smFX19_of_7 this p1 hQj n7 _ _ rfl _ _ (show (nI 0).toInt = 0 by decide)
theorem sm_X20_holds : ∀ (x0 : Nat), ∀ (x1 : Nat), ∀ (x2 : Int32 → JP) (X2 : Int → MP), (∀ (x0 : Int32) (X0 : Int), x0.toInt = X0 → SM (x2 x0) (X2 X0)) → SM (JX20_holds x0 x1 x2) (MX20_holds x0 x1 X2) := by
  intro this p1 Qj Qj' hQj
  unfold JX20_holds MX20_holds
  refine sm_getA rfl (fun v1 => ?_)
  refine sm_obj ?_
  refine sm_X19_of v1 p1 _ _ ?_
  intro v5 v5' hv5
  subst hv5
  refine sm_getA rfl (fun v9 => ?_)
  refine sm_obj ?_
  refine sm_X19_of v9 p1 _ _ ?_
  intro v13 v13' hv13
  subst hv13
  refine sm_if (cI_le rfl rfl) ?_ ?_
  · exact hQj _ _ (show (nI 0).toInt = 0 by decide)
  · exact hQj _ _ (show (nI 1).toInt = 1 by decide)
theorem smFX17_holds_2 {rJX17_holds : Nat → Nat → (Int32 → JP) → JP} {rJX17_holds' : Nat → Nat → (Int → MP) → MP} (hrJX17_holds : ∀ (x0 : Nat), ∀ (x1 : Nat), ∀ (x2 : Int32 → JP) (X2 : Int → MP), (∀ (x0 : Int32) (X0 : Int), x0.toInt = X0 → SM (x2 x0) (X2 X0)) → SM (rJX17_holds x0 x1 x2) (rJX17_holds' x0 x1 X2)) {rJX21_holds : Nat → Nat → (Int32 → JP) → JP} {rJX21_holds' : Nat → Nat → (Int → MP) → MP} (hrJX21_holds : ∀ (x0 : Nat), ∀ (x1 : Nat), ∀ (x2 : Int32 → JP) (X2 : Int → MP), (∀ (x0 : Int32) (X0 : Int), x0.toInt = X0 → SM (x2 x0) (X2 X0)) → SM (rJX21_holds x0 x1 x2) (rJX21_holds' x0 x1 X2)) (this : Nat) (p1 : Nat) {k44 : JP} {k44' : MP} (hk44 : SM k44 k44') {k23 : JP} {k23' : MP} (hk23 : SM k23 k23') : ∀ n : Nat, ∀ (x0 : Option Nat), SM (jit (FX17_holds_2 rJX17_holds rJX21_holds this p1 k44 k23) (fun _ => jbot) n x0) (jit (GX17_holds_2 rJX17_holds' rJX21_holds' this p1 k44' k23') (fun _ => mbot) n x0) := by
  intro n
  induction n with
  | zero =>
    intro x2_2
    exact SM.bot
  | succ n ih =>
    intro x2_2
    show SM (FX17_holds_2 rJX17_holds rJX21_holds this p1 k44 k23 (jit (FX17_holds_2 rJX17_holds rJX21_holds this p1 k44 k23) (fun _ => jbot) n) x2_2) (GX17_holds_2 rJX17_holds' rJX21_holds' this p1 k44' k23' (jit (GX17_holds_2 rJX17_holds' rJX21_holds' this p1 k44' k23') (fun _ => mbot) n) x2_2)
    generalize jit (FX17_holds_2 rJX17_holds rJX21_holds this p1 k44 k23) (fun _ => jbot) n = rec2 at ih ⊢
    generalize jit (GX17_holds_2 rJX17_holds' rJX21_holds' this p1 k44' k23') (fun _ => mbot) n = rec2' at ih ⊢
    have hrec2 := ih
    unfold FX17_holds_2 GX17_holds_2
    refine sm_null ?_ ?_
    · exact hk44
    · refine sm_some (fun u7 => ?_)
      refine sm_getA rfl (fun v7 => ?_)
      refine sm_join (fun (kd11 : Int32 → JP) (kd11' : Int → MP) => ∀ (x0 : Int32) (X0 : Int), x0.toInt = X0 → SM (kd11 x0) (kd11' X0)) ?_ (fun kd11 kd11' hkd11 => ?_)
      · intro v11 v11' hv11
        subst hv11
        refine sm_getI rfl (fun v17 => ?_)
        refine sm_if (cI_eq rfl rfl) ?_ ?_
        · refine sm_getO rfl (fun v37 => ?_)
          exact hrec2 v37
        · exact hk23
      refine sm_dispC ?_ ?_
      · exact hrJX17_holds v7 p1 _ _ hkd11
      refine sm_dispC ?_ ?_
      · exact sm_X18_holds v7 p1 _ _ hkd11
      refine sm_dispC ?_ ?_
      · exact sm_X20_holds v7 p1 _ _ hkd11
      refine sm_dispC ?_ ?_
      · exact hrJX21_holds v7 p1 _ _ hkd11
      exact sm_disp0
theorem sm_X17_holdsF {rJX17_holds : Nat → Nat → (Int32 → JP) → JP} {rJX17_holds' : Nat → Nat → (Int → MP) → MP} (hrJX17_holds : ∀ (x0 : Nat), ∀ (x1 : Nat), ∀ (x2 : Int32 → JP) (X2 : Int → MP), (∀ (x0 : Int32) (X0 : Int), x0.toInt = X0 → SM (x2 x0) (X2 X0)) → SM (rJX17_holds x0 x1 x2) (rJX17_holds' x0 x1 X2)) {rJX21_holds : Nat → Nat → (Int32 → JP) → JP} {rJX21_holds' : Nat → Nat → (Int → MP) → MP} (hrJX21_holds : ∀ (x0 : Nat), ∀ (x1 : Nat), ∀ (x2 : Int32 → JP) (X2 : Int → MP), (∀ (x0 : Int32) (X0 : Int), x0.toInt = X0 → SM (x2 x0) (X2 X0)) → SM (rJX21_holds x0 x1 x2) (rJX21_holds' x0 x1 X2)) : ∀ (x0 : Nat), ∀ (x1 : Nat), ∀ (x2 : Int32 → JP) (X2 : Int → MP), (∀ (x0 : Int32) (X0 : Int), x0.toInt = X0 → SM (x2 x0) (X2 X0)) → SM ((JX17_holdsF rJX17_holds rJX21_holds) x0 x1 x2) ((MX17_holdsF rJX17_holds' rJX21_holds') x0 x1 X2) := by
  intro this p1 Qj Qj' hQj
  unfold JX17_holdsF MX17_holdsF
  refine sm_ex (fun n2 => ?_)
  refine smFX17_holds_2 hrJX17_holds hrJX21_holds this p1 ?_ ?_ n2 (some this)
  · refine sm_getI rfl (fun v45 => ?_)
    refine sm_and (fun h => h.imp (cI_eq rfl (show (nI 0).toInt = 0 by decide)).mpr (cI_eq rfl (show (nI 1).toInt = 1 by decide)).mpr) ?_
    exact hQj _ _ rfl
  · refine sm_getI rfl (fun v24 => ?_)
    refine sm_if (cI_eq rfl (show (nI 0).toInt = 0 by decide)) ?_ ?_
    · exact hQj _ _ (show (nI 1).toInt = 1 by decide)
    · exact hQj _ _ (show (nI 0).toInt = 0 by decide)
theorem sm_X21_holdsF {rJX17_holds : Nat → Nat → (Int32 → JP) → JP} {rJX17_holds' : Nat → Nat → (Int → MP) → MP} (hrJX17_holds : ∀ (x0 : Nat), ∀ (x1 : Nat), ∀ (x2 : Int32 → JP) (X2 : Int → MP), (∀ (x0 : Int32) (X0 : Int), x0.toInt = X0 → SM (x2 x0) (X2 X0)) → SM (rJX17_holds x0 x1 x2) (rJX17_holds' x0 x1 X2)) {rJX21_holds : Nat → Nat → (Int32 → JP) → JP} {rJX21_holds' : Nat → Nat → (Int → MP) → MP} (hrJX21_holds : ∀ (x0 : Nat), ∀ (x1 : Nat), ∀ (x2 : Int32 → JP) (X2 : Int → MP), (∀ (x0 : Int32) (X0 : Int), x0.toInt = X0 → SM (x2 x0) (X2 X0)) → SM (rJX21_holds x0 x1 x2) (rJX21_holds' x0 x1 X2)) : ∀ (x0 : Nat), ∀ (x1 : Nat), ∀ (x2 : Int32 → JP) (X2 : Int → MP), (∀ (x0 : Int32) (X0 : Int), x0.toInt = X0 → SM (x2 x0) (X2 X0)) → SM ((JX21_holdsF rJX17_holds rJX21_holds) x0 x1 x2) ((MX21_holdsF rJX17_holds' rJX21_holds') x0 x1 X2) := by
  intro this p1 Qj Qj' hQj
  unfold JX21_holdsF MX21_holdsF
  refine sm_getA rfl (fun v1 => ?_)
  refine sm_join (fun (kd5 : Int32 → JP) (kd5' : Int → MP) => ∀ (x0 : Int32) (X0 : Int), x0.toInt = X0 → SM (kd5 x0) (kd5' X0)) ?_ (fun kd5 kd5' hkd5 => ?_)
  · intro v5 v5' hv5
    subst hv5
    refine sm_if (cI_eq rfl (show (nI 0).toInt = 0 by decide)) ?_ ?_
    · exact hQj _ _ (show (nI 1).toInt = 1 by decide)
    · exact hQj _ _ (show (nI 0).toInt = 0 by decide)
  refine sm_dispC ?_ ?_
  · exact hrJX17_holds v1 p1 _ _ hkd5
  refine sm_dispC ?_ ?_
  · exact sm_X18_holds v1 p1 _ _ hkd5
  refine sm_dispC ?_ ?_
  · exact sm_X20_holds v1 p1 _ _ hkd5
  refine sm_dispC ?_ ?_
  · exact hrJX21_holds v1 p1 _ _ hkd5
  exact sm_disp0
theorem sm_X17_holdsR : ∀ n : Nat, (∀ (x0 : Nat), ∀ (x1 : Nat), ∀ (x2 : Int32 → JP) (X2 : Int → MP), (∀ (x0 : Int32) (X0 : Int), x0.toInt = X0 → SM (x2 x0) (X2 X0)) → SM (JX17_holds n x0 x1 x2) (MX17_holds n x0 x1 X2)) ∧ (∀ (x0 : Nat), ∀ (x1 : Nat), ∀ (x2 : Int32 → JP) (X2 : Int → MP), (∀ (x0 : Int32) (X0 : Int), x0.toInt = X0 → SM (x2 x0) (X2 X0)) → SM (JX21_holds n x0 x1 x2) (MX21_holds n x0 x1 X2)) := by
  intro n
  induction n with
  | zero =>
    exact ⟨(by intros; exact SM.bot), (by intros; exact SM.bot)⟩
  | succ n ih =>
    exact ⟨(sm_X17_holdsF ih.1 ih.2), (sm_X21_holdsF ih.1 ih.2)⟩
theorem sm_X17_holds (n : Nat) : ∀ (x0 : Nat), ∀ (x1 : Nat), ∀ (x2 : Int32 → JP) (X2 : Int → MP), (∀ (x0 : Int32) (X0 : Int), x0.toInt = X0 → SM (x2 x0) (X2 X0)) → SM (JX17_holds n x0 x1 x2) (MX17_holds n x0 x1 X2) := (sm_X17_holdsR n).1
theorem sm_X21_holds (n : Nat) : ∀ (x0 : Nat), ∀ (x1 : Nat), ∀ (x2 : Int32 → JP) (X2 : Int → MP), (∀ (x0 : Int32) (X0 : Int), x0.toInt = X0 → SM (x2 x0) (X2 X0)) → SM (JX21_holds n x0 x1 x2) (MX21_holds n x0 x1 X2) := (sm_X17_holdsR n).2
theorem sm_X16_tells : ∀ (x0 : Nat), ∀ (x1 : Nat), ∀ (x2 : Int32 → JP) (X2 : Int → MP), (∀ (x0 : Int32) (X0 : Int), x0.toInt = X0 → SM (x2 x0) (X2 X0)) → SM (JX16_tells x0 x1 x2) (MX16_tells x0 x1 X2) := by
  intro this p1 Qj Qj' hQj
  unfold JX16_tells MX16_tells
  refine sm_getO rfl (fun v1 => ?_)
  refine sm_join (fun (k24 : JP) (k24' : MP) => SM k24 k24') ?_ (fun k24 k24' hk24 => ?_)
  · refine sm_getI rfl (fun v25 => ?_)
    refine sm_if (cI_eq rfl (show ((-1) : Int32).toInt = (-1) by decide)) ?_ ?_
    · refine sm_getI rfl (fun v33 => ?_)
      exact hQj _ _ rfl
    · refine sm_getI rfl (fun v40 => ?_)
      refine sm_getI rfl (fun v45 => ?_)
      refine sm_aldI (by decide) rfl (fun v48 => ?_)
      exact hQj _ _ (tc_mul rfl rfl)
  refine sm_null ?_ ?_
  · exact hk24
  · refine sm_getO rfl (fun v8 => ?_)
    refine sm_some (fun u12 => ?_)
    refine sm_join (fun (kd12 : Int32 → JP) (kd12' : Int → MP) => ∀ (x0 : Int32) (X0 : Int), x0.toInt = X0 → SM (kd12 x0) (kd12' X0)) ?_ (fun kd12 kd12' hkd12 => ?_)
    · intro v12 v12' hv12
      subst hv12
      refine sm_if (cI_eq rfl (show (nI 0).toInt = 0 by decide)) ?_ ?_
      · exact hQj _ _ (show (nI 0).toInt = 0 by decide)
      · exact hk24
    refine sm_dispC ?_ ?_
    · exact sm_X17_holds 40 u12 p1 _ _ hkd12
    refine sm_dispC ?_ ?_
    · exact sm_X18_holds u12 p1 _ _ hkd12
    refine sm_dispC ?_ ?_
    · exact sm_X20_holds u12 p1 _ _ hkd12
    refine sm_dispC ?_ ?_
    · exact sm_X21_holds 40 u12 p1 _ _ hkd12
    exact sm_disp0
theorem smFX22_tells_4 (this : Nat) (p1 : Nat) {Qj : Int32 → JP} {Qj' : Int → MP} (hQj : ∀ (x0 : Int32) (X0 : Int), x0.toInt = X0 → SM (Qj x0) (Qj' X0)) : ∀ n : Nat, ∀ (x0 : Int32) (X0 : Int), x0.toInt = X0 → ∀ (x1 : Int32) (X1 : Int), x1.toInt = X1 → SM (jit (FX22_tells_4 this p1 Qj) (fun _ _ => jbot) n x0 x1) (jit (GX22_tells_4 this p1 Qj') (fun _ _ => mbot) n X0 X1) := by
  intro n
  induction n with
  | zero =>
    intro x2_4 x2_4' hx2_4 x3_4 x3_4' hx3_4
    exact SM.bot
  | succ n ih =>
    intro x2_4 x2_4' hx2_4 x3_4 x3_4' hx3_4
    subst hx2_4
    subst hx3_4
    show SM (FX22_tells_4 this p1 Qj (jit (FX22_tells_4 this p1 Qj) (fun _ _ => jbot) n) x2_4 x3_4) (GX22_tells_4 this p1 Qj' (jit (GX22_tells_4 this p1 Qj') (fun _ _ => mbot) n) x2_4.toInt x3_4.toInt)
    generalize jit (FX22_tells_4 this p1 Qj) (fun _ _ => jbot) n = rec4 at ih ⊢
    generalize jit (GX22_tells_4 this p1 Qj') (fun _ _ => mbot) n = rec4' at ih ⊢
    have hrec4 := ih
    unfold FX22_tells_4 GX22_tells_4
    refine sm_getA rfl (fun v6 => ?_)
    refine sm_alen (fun v9 => ?_)
    refine sm_if (cI_le rfl rfl) ?_ ?_
    · exact hQj _ _ rfl
    · refine sm_getA rfl (fun v15 => ?_)
      refine sm_aldA (by decide) rfl (fun v19 => ?_)
      refine sm_obj ?_
      refine sm_X16_tells v19 p1 _ _ ?_
      intro v21 v21' hv21
      subst hv21
      exact hrec4 _ _ (tc_add rfl rfl) _ _ (tc_add rfl (show (nI 1).toInt = 1 by decide))
theorem sm_X22_tells : ∀ (x0 : Nat), ∀ (x1 : Nat), ∀ (x2 : Int32 → JP) (X2 : Int → MP), (∀ (x0 : Int32) (X0 : Int), x0.toInt = X0 → SM (x2 x0) (X2 X0)) → SM (JX22_tells x0 x1 x2) (MX22_tells x0 x1 X2) := by
  intro this p1 Qj Qj' hQj
  unfold JX22_tells MX22_tells
  refine sm_ex (fun n4 => ?_)
  refine smFX22_tells_4 this p1 hQj n4 _ _ (show (nI 0).toInt = 0 by decide) _ _ (show (nI 0).toInt = 0 by decide)
theorem smFX10_played_30 (this : Nat) (p1 : Int32) {Qj : Int32 → JP} {Qj' : Int → MP} (hQj : ∀ (x0 : Int32) (X0 : Int), x0.toInt = X0 → SM (Qj x0) (Qj' X0)) : ∀ n : Nat, ∀ (x0 : Int32) (X0 : Int), x0.toInt = X0 → ∀ (x1 : Int32) (X1 : Int), x1.toInt = X1 → SM (jit (FX10_played_30 this p1 Qj) (fun _ _ => jbot) n x0 x1) (jit (GX10_played_30 this p1.toInt Qj') (fun _ _ => mbot) n X0 X1) := by
  intro n
  induction n with
  | zero =>
    intro x2_30 x2_30' hx2_30 x3_30 x3_30' hx3_30
    exact SM.bot
  | succ n ih =>
    intro x2_30 x2_30' hx2_30 x3_30 x3_30' hx3_30
    subst hx2_30
    subst hx3_30
    show SM (FX10_played_30 this p1 Qj (jit (FX10_played_30 this p1 Qj) (fun _ _ => jbot) n) x2_30 x3_30) (GX10_played_30 this p1.toInt Qj' (jit (GX10_played_30 this p1.toInt Qj') (fun _ _ => mbot) n) x2_30.toInt x3_30.toInt)
    generalize jit (FX10_played_30 this p1 Qj) (fun _ _ => jbot) n = rec30 at ih ⊢
    generalize jit (GX10_played_30 this p1.toInt Qj') (fun _ _ => mbot) n = rec30' at ih ⊢
    have hrec30 := ih
    unfold FX10_played_30 GX10_played_30
    refine sm_if (cI_le rfl rfl) ?_ ?_
    · exact hQj _ _ rfl
    · refine sm_getA rfl (fun v41 => ?_)
      refine sm_aldI (by decide) rfl (fun v45 => ?_)
      refine sm_getA rfl (fun v49 => ?_)
      refine sm_getA rfl (fun v52 => ?_)
      refine sm_getA rfl (fun v56 => ?_)
      refine sm_getA rfl (fun v59 => ?_)
      refine sm_aldI (by decide) (tc_div rfl (show (nI 36).toInt = 36 by decide)) (fun v67 => ?_)
      refine sm_aldA (by decide) rfl (fun v68 => ?_)
      refine sm_getI rfl (fun v69 => ?_)
      refine sm_getA rfl (fun v75 => ?_)
      refine sm_obj ?_
      refine sm_X8_goes v75 _ _ rfl _ _ ?_
      intro v80 v80' hv80
      subst hv80
      refine sm_getA rfl (fun v86 => ?_)
      refine sm_join (fun (k113 : Int32 → JP) (k113' : Int → MP) => ∀ (x0 : Int32) (X0 : Int), x0.toInt = X0 → SM (k113 x0) (k113' X0)) ?_ (fun k113 k113' hk113 => ?_)
      · intro s2_113 s2_113' hs2_113
        subst hs2_113
        refine sm_astI (show (nI 0).toInt = 0 by decide) rfl ?_
        refine sm_getA rfl (fun v115 => ?_)
        refine sm_astI (show (nI 1).toInt = 1 by decide) rfl ?_
        refine sm_getA rfl (fun v123 => ?_)
        refine sm_astI (show (nI 2).toInt = 2 by decide) (tc_add rfl (show (nI 1).toInt = 1 by decide)) ?_
        refine sm_getA rfl (fun v132 => ?_)
        refine sm_getA rfl (fun v137 => ?_)
        refine sm_obj ?_
        refine sm_X8_men v137 _ _ (tc_rem rfl (show (nI 2).toInt = 2 by decide)) _ _ ?_
        intro v142 v142' hv142
        subst hv142
        refine sm_astI (show (nI 3).toInt = 3 by decide) rfl ?_
        refine sm_getA rfl (fun v147 => ?_)
        refine sm_join (fun (k162 : Int32 → JP) (k162' : Int → MP) => ∀ (x0 : Int32) (X0 : Int), x0.toInt = X0 → SM (k162 x0) (k162' X0)) ?_ (fun k162 k162' hk162 => ?_)
        · intro s2_162 s2_162' hs2_162
          subst hs2_162
          refine sm_astI (show (nI 4).toInt = 4 by decide) rfl ?_
          refine sm_getA rfl (fun v164 => ?_)
          refine sm_obj ?_
          refine sm_X10_isTaken this _ _ (tc_rem rfl (show (nI 36).toInt = 36 by decide)) _ _ (tc_sub (show (nI 1).toInt = 1 by decide) (tc_rem rfl (show (nI 2).toInt = 2 by decide))) _ _ ?_
          intro v178 v178' hv178
          subst hv178
          refine sm_join (fun (k189 : Int32 → JP) (k189' : Int → MP) => ∀ (x0 : Int32) (X0 : Int), x0.toInt = X0 → SM (k189 x0) (k189' X0)) ?_ (fun k189 k189' hk189 => ?_)
          · intro s2_189 s2_189' hs2_189
            subst hs2_189
            refine sm_astI (show (nI 5).toInt = 5 by decide) rfl ?_
            refine sm_getA rfl (fun v192 => ?_)
            refine sm_getO rfl (fun v195 => ?_)
            refine sm_getA rfl (fun v199 => ?_)
            refine sm_some (fun u202 => ?_)
            refine sm_obj ?_
            refine sm_X22_tells u202 v199 _ _ ?_
            intro v202 v202' hv202
            subst hv202
            exact hrec30 _ _ (tc_add rfl rfl) _ _ (tc_add rfl (show (nI 1).toInt = 1 by decide))
          refine sm_if (cI_eq rfl (show (nI 0).toInt = 0 by decide)) ?_ ?_
          · exact hk189 _ _ (show (nI 1).toInt = 1 by decide)
          · exact hk189 _ _ (show (nI 0).toInt = 0 by decide)
        refine sm_if (cI_eq rfl (show ((-1) : Int32).toInt = (-1) by decide)) ?_ ?_
        · exact hk162 _ _ (show (nI 0).toInt = 0 by decide)
        · exact hk162 _ _ (show (nI 1).toInt = 1 by decide)
      refine sm_if (cI_eq rfl (show ((-1) : Int32).toInt = (-1) by decide)) ?_ ?_
      · exact hk113 _ _ (show (nI 0).toInt = 0 by decide)
      · refine sm_getA rfl (fun v101 => ?_)
        refine sm_getA rfl (fun v104 => ?_)
        refine sm_aldA (by decide) rfl (fun v109 => ?_)
        refine sm_getI rfl (fun v110 => ?_)
        exact hk113 _ _ rfl
theorem sm_X10_played : ∀ (x0 : Nat), ∀ (x1 : Int32) (X1 : Int), x1.toInt = X1 → ∀ (x2 : Int32 → JP) (X2 : Int → MP), (∀ (x0 : Int32) (X0 : Int), x0.toInt = X0 → SM (x2 x0) (X2 X0)) → SM (JX10_played x0 x1 x2) (MX10_played x0 X1 X2) := by
  intro this p1 p1' hp1 Qj Qj' hQj
  subst hp1
  unfold JX10_played MX10_played
  refine sm_getA rfl (fun v1 => ?_)
  refine sm_getO rfl (fun v4 => ?_)
  refine sm_null ?_ ?_
  · exact hQj _ _ (show (nI 0).toInt = 0 by decide)
  · refine sm_getA rfl (fun v13 => ?_)
    refine sm_getA rfl (fun v17 => ?_)
    refine sm_getA rfl (fun v20 => ?_)
    refine sm_obj ?_
    refine sm_X8_be v13 v20 _ _ ?_
    refine sm_ex (fun n30 => ?_)
    refine smFX10_played_30 this p1 hQj n30 _ _ (show (nI 0).toInt = 0 by decide) _ _ (show (nI 0).toInt = 0 by decide)
theorem sm_X10_found : ∀ (x0 : Nat), ∀ (x1 : Int32) (X1 : Int), x1.toInt = X1 → ∀ (x2 : JP) (X2 : MP), SM x2 X2 → SM (JX10_found x0 x1 x2) (MX10_found x0 X1 X2) := by
  intro this p1 p1' hp1 Qj Qj' hQj
  subst hp1
  unfold JX10_found MX10_found
  refine sm_getI rfl (fun v1 => ?_)
  refine sm_if (cI_eq rfl (show (nI 0).toInt = 0 by decide)) ?_ ?_
  · refine sm_getI rfl (fun v68 => ?_)
    refine sm_join (fun (k93 : JP) (k93' : MP) => SM k93 k93') ?_ (fun k93 k93' hk93 => ?_)
    · refine sm_getI rfl (fun v94 => ?_)
      refine sm_join (fun (k120 : JP) (k120' : MP) => SM k120 k120') ?_ (fun k120 k120' hk120 => ?_)
      · refine sm_getI rfl (fun v121 => ?_)
        refine sm_join (fun (k182 : JP) (k182' : MP) => SM k182 k182') ?_ (fun k182 k182' hk182 => ?_)
        · refine sm_getI rfl (fun v184 => ?_)
          refine sm_putI rfl (tc_add rfl (show (nI 1).toInt = 1 by decide)) ?_
          exact hQj
        refine sm_if (cI_eq rfl (show (nI 0).toInt = 0 by decide)) ?_ ?_
        · exact hk182
        · refine sm_getI rfl (fun v128 => ?_)
          refine sm_if (cI_le (show (nI 200).toInt = 200 by decide) rfl) ?_ ?_
          · exact hk182
          · refine sm_obj ?_
            refine sm_X10_played this _ _ rfl _ _ ?_
            intro v139 v139' hv139
            subst hv139
            refine sm_getI rfl (fun v144 => ?_)
            refine sm_join (fun (k158 : JP) (k158' : MP) => SM k158 k158') ?_ (fun k158 k158' hk158 => ?_)
            · refine sm_putI rfl rfl ?_
              refine sm_putI rfl rfl ?_
              refine sm_getA rfl (fun v169 => ?_)
              refine sm_getA rfl (fun v174 => ?_)
              refine sm_cpyI (show (nI 0).toInt = 0 by decide) (show (nI 0).toInt = 0 by decide) rfl ?_
              exact hk182
            refine sm_if (cI_eq rfl (show (nI 0).toInt = 0 by decide)) ?_ ?_
            · exact hk158
            · refine sm_getI rfl (fun v152 => ?_)
              refine sm_if (cI_le rfl rfl) ?_ ?_
              · exact hk182
              · exact hk158
      refine sm_if (cI_eq rfl (show (nI 1).toInt = 1 by decide)) ?_ ?_
      · refine sm_getA rfl (fun v102 => ?_)
        refine sm_getA rfl (fun v107 => ?_)
        refine sm_cpyI (show (nI 0).toInt = 0 by decide) (show (nI 0).toInt = 0 by decide) rfl ?_
        refine sm_putI rfl rfl ?_
        exact hk120
      · exact hk120
    refine sm_if (cI_eq rfl (show (nI 0).toInt = 0 by decide)) ?_ ?_
    · refine sm_getA rfl (fun v75 => ?_)
      refine sm_getA rfl (fun v80 => ?_)
      refine sm_cpyI (show (nI 0).toInt = 0 by decide) (show (nI 0).toInt = 0 by decide) rfl ?_
      refine sm_putI rfl rfl ?_
      exact hk93
    · exact hk93
  · refine sm_getL rfl (fun v9 => ?_)
    refine sm_getL rfl (fun v13 => ?_)
    refine sm_putL rfl (tl_add rfl rfl) ?_
    refine sm_getL rfl (fun v22 => ?_)
    refine sm_getI rfl (fun v27 => ?_)
    refine sm_join (fun (k62 : Int64 → JP) (k62' : Int → MP) => ∀ (x0 : Int64) (X0 : Int), x0.toInt = X0 → SM (k62 x0) (k62' X0)) ?_ (fun k62 k62' hk62 => ?_)
    · intro s2_62 s2_62' hs2_62
      subst hs2_62
      refine sm_putL rfl (tl_add rfl rfl) ?_
      exact hQj
    refine sm_join (fun (k61 : JP) (k61' : MP) => SM k61 k61') ?_ (fun k61 k61' hk61 => ?_)
    · exact hk62 _ _ (show (lN 0).toInt = 0 by decide)
    refine sm_if (cI_le rfl rfl) ?_ ?_
    · exact hk61
    · refine sm_getA rfl (fun v34 => ?_)
      refine sm_getI rfl (fun v38 => ?_)
      refine sm_aldI (by decide) rfl (fun v41 => ?_)
      refine sm_getA rfl (fun v43 => ?_)
      refine sm_getI rfl (fun v47 => ?_)
      refine sm_aldI (by decide) rfl (fun v50 => ?_)
      refine sm_if (cI_eq rfl rfl) ?_ ?_
      · refine sm_getL rfl (fun v55 => ?_)
        exact hk62 _ _ rfl
      · exact hk61
theorem sm_X23_slip : ∀ (x0 : Nat), ∀ (x1 : Int32) (X1 : Int), x1.toInt = X1 → ∀ (x2 : Int32) (X2 : Int), x2.toInt = X2 → ∀ (x3 : Int32) (X3 : Int), x3.toInt = X3 → ∀ (x4 : Int32) (X4 : Int), x4.toInt = X4 → ∀ (x5 : Nat), ∀ (x6 : Int32 → JP) (X6 : Int → MP), (∀ (x0 : Int32) (X0 : Int), x0.toInt = X0 → SM (x6 x0) (X6 X0)) → SM (JX23_slip x0 x1 x2 x3 x4 x5 x6) (MX23_slip x0 X1 X2 X3 X4 x5 X6) := by
  intro this p1 p1' hp1 p2 p2' hp2 p3 p3' hp3 p4 p4' hp4 p5 Qj Qj' hQj
  subst hp1
  subst hp2
  subst hp3
  subst hp4
  unfold JX23_slip MX23_slip
  refine sm_join (fun (k49 : Int32 → JP) (k49' : Int → MP) => ∀ (x0 : Int32) (X0 : Int), x0.toInt = X0 → SM (k49 x0) (k49' X0)) ?_ (fun k49 k49' hk49 => ?_)
  · intro s0_49 s0_49' hs0_49
    subst hs0_49
    refine sm_getI rfl (fun v52 => ?_)
    refine sm_join (fun (k64 : Int32 → JP) (k64' : Int → MP) => ∀ (x0 : Int32) (X0 : Int), x0.toInt = X0 → SM (k64 x0) (k64' X0)) ?_ (fun k64 k64' hk64 => ?_)
    · intro s0_64 s0_64' hs0_64
      subst hs0_64
      refine sm_getI rfl (fun v65 => ?_)
      refine sm_join (fun (k78 : Int32 → JP) (k78' : Int → MP) => ∀ (x0 : Int32) (X0 : Int), x0.toInt = X0 → SM (k78 x0) (k78' X0)) ?_ (fun k78 k78' hk78 => ?_)
      · intro s1_78 s1_78' hs1_78
        subst hs1_78
        refine sm_getI rfl (fun v80 => ?_)
        refine sm_join (fun (k94 : Int32 → JP) (k94' : Int → MP) => ∀ (x0 : Int32) (X0 : Int), x0.toInt = X0 → SM (k94 x0) (k94' X0)) ?_ (fun k94 k94' hk94 => ?_)
        · intro s1_94 s1_94' hs1_94
          subst hs1_94
          refine sm_getI rfl (fun v96 => ?_)
          refine sm_join (fun (k118 : Int32 → JP) (k118' : Int → MP) => ∀ (x0 : Int32) (X0 : Int), x0.toInt = X0 → SM (k118 x0) (k118' X0)) ?_ (fun k118 k118' hk118 => ?_)
          · intro s1_118 s1_118' hs1_118
            subst hs1_118
            refine sm_if (cI_eq (tc_or (tc_or (tc_or rfl rfl) rfl) rfl) (show (nI 0).toInt = 0 by decide)) ?_ ?_
            · exact hQj _ _ (show (nI 0).toInt = 0 by decide)
            · refine sm_J13_bitCount _ _ (tc_or (tc_or (tc_or rfl rfl) rfl) rfl) _ _ ?_
              intro v130 v130' hv130
              subst hv130
              refine sm_if (cI_le rfl (show (nI 1).toInt = 1 by decide)) ?_ ?_
              · refine sm_J13_numberOfTrailingZeros _ _ (tc_or (tc_or (tc_or rfl rfl) rfl) rfl) _ _ ?_
                intro v141 v141' hv141
                subst hv141
                refine sm_if (cI_eq rfl (show (nI 2).toInt = 2 by decide)) ?_ ?_
                · refine sm_getI rfl (fun v153 => ?_)
                  refine sm_join (fun (k177 : JP) (k177' : MP) => SM k177 k177') ?_ (fun k177 k177' hk177 => ?_)
                  · exact hQj _ _ (show ((-1) : Int32).toInt = (-1) by decide)
                  refine sm_if (cI_eq (tc_abs (tc_sub rfl (tc_rem (tc_rem rfl (show (nI 36).toInt = 36 by decide)) (show (nI 6).toInt = 6 by decide)))) (show (nI 1).toInt = 1 by decide)) ?_ ?_
                  · refine sm_aldI (by decide) (show (nI 2).toInt = 2 by decide) (fun v169 => ?_)
                    refine sm_if (cI_le rfl (show (nI 0).toInt = 0 by decide)) ?_ ?_
                    · exact hk177
                    · exact hQj _ _ (show (nI 2).toInt = 2 by decide)
                  · exact hk177
                · refine sm_if (cI_eq rfl (show (nI 3).toInt = 3 by decide)) ?_ ?_
                  · refine sm_getI rfl (fun v201 => ?_)
                    refine sm_join (fun (k226 : Int32 → JP) (k226' : Int → MP) => ∀ (x0 : Int32) (X0 : Int), x0.toInt = X0 → SM (k226 x0) (k226' X0)) ?_ (fun k226 k226' hk226 => ?_)
                    · intro s0_226 s0_226' hs0_226
                      subst hs0_226
                      refine sm_getI rfl (fun v230 => ?_)
                      refine sm_join (fun (k251 : Int32 → JP) (k251' : Int → MP) => ∀ (x0 : Int32) (X0 : Int), x0.toInt = X0 → SM (k251 x0) (k251' X0)) ?_ (fun k251 k251' hk251 => ?_)
                      · intro s0_251 s0_251' hs0_251
                        subst hs0_251
                        refine sm_join (fun (k282 : JP) (k282' : MP) => SM k282 k282') ?_ (fun k282 k282' hk282 => ?_)
                        · refine sm_if (cI_eq rfl (show (nI 0).toInt = 0 by decide)) ?_ ?_
                          · refine sm_if (cI_eq rfl (show (nI 0).toInt = 0 by decide)) ?_ ?_
                            · exact hQj _ _ (show ((-1) : Int32).toInt = (-1) by decide)
                            · exact hQj _ _ (show (nI 4).toInt = 4 by decide)
                          · exact hQj _ _ (show (nI 3).toInt = 3 by decide)
                        refine sm_if (cI_eq rfl (show (nI 0).toInt = 0 by decide)) ?_ ?_
                        · exact hk282
                        · refine sm_if (cI_eq rfl (show (nI 0).toInt = 0 by decide)) ?_ ?_
                          · exact hk282
                          · refine sm_aldI (by decide) (show (nI 4).toInt = 4 by decide) (fun v266 => ?_)
                            refine sm_aldI (by decide) (show (nI 3).toInt = 3 by decide) (fun v270 => ?_)
                            refine sm_if (cI_le rfl rfl) ?_ ?_
                            · exact hQj _ _ (show (nI 3).toInt = 3 by decide)
                            · exact hQj _ _ (show (nI 4).toInt = 4 by decide)
                      refine sm_join (fun (k250 : JP) (k250' : MP) => SM k250 k250') ?_ (fun k250 k250' hk250 => ?_)
                      · exact hk251 _ _ (show (nI 0).toInt = 0 by decide)
                      refine sm_if (cI_eq (tc_sub (show (nI 5).toInt = 5 by decide) rfl) rfl) ?_ ?_
                      · refine sm_aldI (by decide) (show (nI 4).toInt = 4 by decide) (fun v242 => ?_)
                        refine sm_if (cI_le rfl (show (nI 0).toInt = 0 by decide)) ?_ ?_
                        · exact hk250
                        · exact hk251 _ _ (show (nI 1).toInt = 1 by decide)
                      · exact hk250
                    refine sm_join (fun (k225 : JP) (k225' : MP) => SM k225 k225') ?_ (fun k225 k225' hk225 => ?_)
                    · exact hk226 _ _ (show (nI 0).toInt = 0 by decide)
                    refine sm_if (cI_eq (tc_abs (tc_sub rfl rfl)) (show (nI 1).toInt = 1 by decide)) ?_ ?_
                    · refine sm_aldI (by decide) (show (nI 3).toInt = 3 by decide) (fun v217 => ?_)
                      refine sm_if (cI_le rfl (show (nI 0).toInt = 0 by decide)) ?_ ?_
                      · exact hk225
                      · exact hk226 _ _ (show (nI 1).toInt = 1 by decide)
                    · exact hk225
                  · refine sm_aldI (by decide) rfl (fun v189 => ?_)
                    refine sm_if (cI_le rfl (show (nI 0).toInt = 0 by decide)) ?_ ?_
                    · exact hQj _ _ (show ((-1) : Int32).toInt = (-1) by decide)
                    · exact hQj _ _ rfl
              · exact hQj _ _ (show ((-1) : Int32).toInt = (-1) by decide)
          refine sm_join (fun (k112 : JP) (k112' : MP) => SM k112 k112') ?_ (fun k112 k112' hk112 => ?_)
          · exact hk118 _ _ (show (nI 0).toInt = 0 by decide)
          refine sm_if (cI_eq rfl (show ((-1) : Int32).toInt = (-1) by decide)) ?_ ?_
          · exact hk112
          · refine sm_getI rfl (fun v104 => ?_)
            refine sm_if (cI_eq rfl (tc_rem (tc_div rfl (show (nI 36).toInt = 36 by decide)) (show (nI 6).toInt = 6 by decide))) ?_ ?_
            · exact hk112
            · exact hk118 _ _ (show (nI 32).toInt = 32 by decide)
        refine sm_if (cI_eq rfl rfl) ?_ ?_
        · exact hk94 _ _ (show (nI 0).toInt = 0 by decide)
        · exact hk94 _ _ (show (nI 8).toInt = 8 by decide)
      refine sm_if (cI_eq rfl (tc_rem (tc_rem rfl (show (nI 36).toInt = 36 by decide)) (show (nI 6).toInt = 6 by decide))) ?_ ?_
      · exact hk78 _ _ (show (nI 0).toInt = 0 by decide)
      · exact hk78 _ _ (show (nI 4).toInt = 4 by decide)
    refine sm_if (cI_eq rfl rfl) ?_ ?_
    · exact hk64 _ _ (show (nI 0).toInt = 0 by decide)
    · exact hk64 _ _ (show (nI 2).toInt = 2 by decide)
  refine sm_join (fun (k47 : JP) (k47' : MP) => SM k47 k47') ?_ (fun k47 k47' hk47 => ?_)
  · exact hk49 _ _ (tc_div (tc_rem rfl (show (nI 36).toInt = 36 by decide)) (show (nI 6).toInt = 6 by decide))
  refine sm_if (cI_eq rfl (show (nI 1).toInt = 1 by decide)) ?_ ?_
  · refine sm_if (cI_eq rfl (show (nI 1).toInt = 1 by decide)) ?_ ?_
    · exact hk49 _ _ (tc_sub (show (nI 5).toInt = 5 by decide) (tc_div (tc_rem rfl (show (nI 36).toInt = 36 by decide)) (show (nI 6).toInt = 6 by decide)))
    · exact hk47
  · exact hk47
theorem sm_X10_cost : ∀ (x0 : Nat), ∀ (x1 : Nat), ∀ (x2 : Int32) (X2 : Int), x2.toInt = X2 → ∀ (x3 : Int32) (X3 : Int), x3.toInt = X3 → ∀ (x4 : Int32) (X4 : Int), x4.toInt = X4 → ∀ (x5 : Int32) (X5 : Int), x5.toInt = X5 → ∀ (x6 : Int32 → JP) (X6 : Int → MP), (∀ (x0 : Int32) (X0 : Int), x0.toInt = X0 → SM (x6 x0) (X6 X0)) → SM (JX10_cost x0 x1 x2 x3 x4 x5 x6) (MX10_cost x0 x1 X2 X3 X4 X5 X6) := by
  intro this p1 p2 p2' hp2 p3 p3' hp3 p4 p4' hp4 p5 p5' hp5 Qj Qj' hQj
  subst hp2
  subst hp3
  subst hp4
  subst hp5
  unfold JX10_cost MX10_cost
  refine sm_getA rfl (fun v1 => ?_)
  refine sm_aldA (by decide) rfl (fun v5 => ?_)
  refine sm_getI rfl (fun v7 => ?_)
  refine sm_getA rfl (fun v16 => ?_)
  refine sm_obj ?_
  refine sm_X23_slip v5 _ _ rfl _ _ rfl _ _ rfl _ _ rfl v16 _ _ ?_
  intro v19 v19' hv19
  subst hv19
  refine sm_if (cI_eq rfl (show ((-1) : Int32).toInt = (-1) by decide)) ?_ ?_
  · exact hQj _ _ (show (nI 1000000).toInt = 1000000 by decide)
  · refine sm_if (cI_eq rfl (show (nI 0).toInt = 0 by decide)) ?_ ?_
    · exact hQj _ _ (show (nI 0).toInt = 0 by decide)
    · refine sm_getA rfl (fun v45 => ?_)
      refine sm_aldI (by decide) rfl (fun v50 => ?_)
      exact hQj _ _ rfl
theorem sm_X9_isTwice : ∀ (x0 : Nat), ∀ (x1 : Int32) (X1 : Int), x1.toInt = X1 → ∀ (x2 : Int32 → JP) (X2 : Int → MP), (∀ (x0 : Int32) (X0 : Int), x0.toInt = X0 → SM (x2 x0) (X2 X0)) → SM (JX9_isTwice x0 x1 x2) (MX9_isTwice x0 X1 X2) := by
  intro this p1 p1' hp1 Qj Qj' hQj
  subst hp1
  unfold JX9_isTwice MX9_isTwice
  refine sm_join (fun (k28 : JP) (k28' : MP) => SM k28 k28') ?_ (fun k28 k28' hk28 => ?_)
  · exact hQj _ _ (show (nI 0).toInt = 0 by decide)
  refine sm_if (cI_le rfl (show (nI 0).toInt = 0 by decide)) ?_ ?_
  · exact hk28
  · refine sm_getA rfl (fun v5 => ?_)
    refine sm_aldA (by decide) rfl (fun v9 => ?_)
    refine sm_getA rfl (fun v11 => ?_)
    refine sm_aldA (by decide) (tc_sub rfl (show (nI 1).toInt = 1 by decide)) (fun v17 => ?_)
    refine sm_obj ?_
    refine sm_X23_isLike v9 v17 _ _ ?_
    intro v18 v18' hv18
    subst hv18
    refine sm_if (cI_eq rfl (show (nI 0).toInt = 0 by decide)) ?_ ?_
    · exact hk28
    · exact hQj _ _ (show (nI 1).toInt = 1 by decide)
theorem smFX10_leads_7 (this : Nat) (p1 : Nat) (p2 : Nat) (p3 : Nat) (p4 : Int32) (p5 : Int32) (p6 : Int32) {Qj : Int32 → JP} {Qj' : Int → MP} (hQj : ∀ (x0 : Int32) (X0 : Int), x0.toInt = X0 → SM (Qj x0) (Qj' X0)) : ∀ n : Nat, ∀ (x0 : Int32) (X0 : Int), x0.toInt = X0 → ∀ (x1 : Int32) (X1 : Int), x1.toInt = X1 → SM (jit (FX10_leads_7 this p1 p2 p3 p4 p5 p6 Qj) (fun _ _ => jbot) n x0 x1) (jit (GX10_leads_7 this p1 p2 p3 p4.toInt p5.toInt p6.toInt Qj') (fun _ _ => mbot) n X0 X1) := by
  intro n
  induction n with
  | zero =>
    intro x7_7 x7_7' hx7_7 x8_7 x8_7' hx8_7
    exact SM.bot
  | succ n ih =>
    intro x7_7 x7_7' hx7_7 x8_7 x8_7' hx8_7
    subst hx7_7
    subst hx8_7
    show SM (FX10_leads_7 this p1 p2 p3 p4 p5 p6 Qj (jit (FX10_leads_7 this p1 p2 p3 p4 p5 p6 Qj) (fun _ _ => jbot) n) x7_7 x8_7) (GX10_leads_7 this p1 p2 p3 p4.toInt p5.toInt p6.toInt Qj' (jit (GX10_leads_7 this p1 p2 p3 p4.toInt p5.toInt p6.toInt Qj') (fun _ _ => mbot) n) x7_7.toInt x8_7.toInt)
    generalize jit (FX10_leads_7 this p1 p2 p3 p4 p5 p6 Qj) (fun _ _ => jbot) n = rec7 at ih ⊢
    generalize jit (GX10_leads_7 this p1 p2 p3 p4.toInt p5.toInt p6.toInt Qj') (fun _ _ => mbot) n = rec7' at ih ⊢
    have hrec7 := ih
    unfold FX10_leads_7 GX10_leads_7
    refine sm_getI rfl (fun v10 => ?_)
    refine sm_if (cI_lt rfl rfl) ?_ ?_
    · exact hQj _ _ rfl
    · refine sm_getA rfl (fun v17 => ?_)
      refine sm_aldI (by decide) (show (nI 6).toInt = 6 by decide) (fun v22 => ?_)
      refine sm_join (fun (k43 : Int32 → JP) (k43' : Int → MP) => ∀ (x0 : Int32) (X0 : Int), x0.toInt = X0 → SM (k43 x0) (k43' X0)) ?_ (fun k43 k43' hk43 => ?_)
      · intro s0_43 s0_43' hs0_43
        subst hs0_43
        refine sm_join (fun (k90 : Int32 → JP) (k90' : Int → MP) => ∀ (x0 : Int32) (X0 : Int), x0.toInt = X0 → SM (k90 x0) (k90' X0)) ?_ (fun k90 k90' hk90 => ?_)
        · intro x9_90 x9_90' hx9_90
          subst hx9_90
          refine sm_join (fun (k137 : Int32 → JP) (k137' : Int → MP) => ∀ (x0 : Int32) (X0 : Int), x0.toInt = X0 → SM (k137 x0) (k137' X0)) ?_ (fun k137 k137' hk137 => ?_)
          · intro x9_137 x9_137' hx9_137
            subst hx9_137
            refine sm_astI rfl (tc_min rfl (show (nI 1000000).toInt = 1000000 by decide)) ?_
            refine sm_aldI (by decide) rfl (fun v153 => ?_)
            exact hrec7 _ _ (tc_min rfl rfl) _ _ (tc_add rfl (show (nI 1).toInt = 1 by decide))
          refine sm_if (cI_le rfl (show (nI 0).toInt = 0 by decide)) ?_ ?_
          · exact hk137 _ _ rfl
          · refine sm_getA rfl (fun v96 => ?_)
            refine sm_aldI (by decide) (show (nI 7).toInt = 7 by decide) (fun v101 => ?_)
            refine sm_if (cI_le rfl (show (nI 0).toInt = 0 by decide)) ?_ ?_
            · exact hk137 _ _ rfl
            · refine sm_obj ?_
              refine sm_X9_isTwice p1 _ _ (tc_sub rfl (show (nI 1).toInt = 1 by decide)) _ _ ?_
              intro v110 v110' hv110
              subst hv110
              refine sm_if (cI_eq rfl (show (nI 0).toInt = 0 by decide)) ?_ ?_
              · exact hk137 _ _ rfl
              · refine sm_aldI (by decide) (tc_sub rfl (show (nI 1).toInt = 1 by decide)) (fun v123 => ?_)
                refine sm_getA rfl (fun v125 => ?_)
                refine sm_aldI (by decide) (show (nI 7).toInt = 7 by decide) (fun v130 => ?_)
                exact hk137 _ _ (tc_min rfl (tc_add rfl rfl))
        refine sm_if (cI_le rfl (show (nI 0).toInt = 0 by decide)) ?_ ?_
        · exact hk90 _ _ rfl
        · refine sm_aldI (by decide) (tc_sub rfl (show (nI 1).toInt = 1 by decide)) (fun v55 => ?_)
          refine sm_if (cI_le (show (nI 1000000).toInt = 1000000 by decide) rfl) ?_ ?_
          · exact hk90 _ _ rfl
          · refine sm_aldI (by decide) (tc_sub rfl (show (nI 1).toInt = 1 by decide)) (fun v68 => ?_)
            refine sm_obj ?_
            refine sm_X10_cost this p1 _ _ (tc_sub rfl (show (nI 1).toInt = 1 by decide)) _ _ rfl _ _ rfl _ _ rfl _ _ ?_
            intro v81 v81' hv81
            subst hv81
            exact hk90 _ _ (tc_min rfl (tc_add rfl rfl))
      refine sm_if (cI_le rfl (show (nI 0).toInt = 0 by decide)) ?_ ?_
      · exact hk43 _ _ (show (nI 1000000).toInt = 1000000 by decide)
      · refine sm_aldI (by decide) rfl (fun v29 => ?_)
        refine sm_getA rfl (fun v31 => ?_)
        refine sm_aldI (by decide) (show (nI 6).toInt = 6 by decide) (fun v36 => ?_)
        exact hk43 _ _ (tc_add rfl rfl)
theorem sm_X10_leads : ∀ (x0 : Nat), ∀ (x1 : Nat), ∀ (x2 : Nat), ∀ (x3 : Nat), ∀ (x4 : Int32) (X4 : Int), x4.toInt = X4 → ∀ (x5 : Int32) (X5 : Int), x5.toInt = X5 → ∀ (x6 : Int32) (X6 : Int), x6.toInt = X6 → ∀ (x7 : Int32 → JP) (X7 : Int → MP), (∀ (x0 : Int32) (X0 : Int), x0.toInt = X0 → SM (x7 x0) (X7 X0)) → SM (JX10_leads x0 x1 x2 x3 x4 x5 x6 x7) (MX10_leads x0 x1 x2 x3 X4 X5 X6 X7) := by
  intro this p1 p2 p3 p4 p4' hp4 p5 p5' hp5 p6 p6' hp6 Qj Qj' hQj
  subst hp4
  subst hp5
  subst hp6
  unfold JX10_leads MX10_leads
  refine sm_ex (fun n7 => ?_)
  refine smFX10_leads_7 this p1 p2 p3 p4 p5 p6 hQj n7 _ _ (show (nI 1000000).toInt = 1000000 by decide) _ _ (show (nI 0).toInt = 0 by decide)
theorem sm_X8_comes : ∀ (x0 : Nat), ∀ (x1 : Int32) (X1 : Int), x1.toInt = X1 → ∀ (x2 : Int32) (X2 : Int), x2.toInt = X2 → ∀ (x3 : JP) (X3 : MP), SM x3 X3 → SM (JX8_comes x0 x1 x2 x3) (MX8_comes x0 X1 X2 X3) := by
  intro this p1 p1' hp1 p2 p2' hp2 Qj Qj' hQj
  subst hp1
  subst hp2
  unfold JX8_comes MX8_comes
  refine sm_getA rfl (fun v12 => ?_)
  refine sm_getA rfl (fun v17 => ?_)
  refine sm_aldI (by decide) (tc_rem rfl (show (nI 36).toInt = 36 by decide)) (fun v22 => ?_)
  refine sm_astI (tc_div rfl (show (nI 36).toInt = 36 by decide)) rfl ?_
  refine sm_getA rfl (fun v25 => ?_)
  refine sm_getA rfl (fun v30 => ?_)
  refine sm_aldI (by decide) (tc_rem rfl (show (nI 36).toInt = 36 by decide)) (fun v35 => ?_)
  refine sm_astI (tc_div rfl (show (nI 36).toInt = 36 by decide)) rfl ?_
  refine sm_getA rfl (fun v38 => ?_)
  refine sm_astI (tc_rem rfl (show (nI 36).toInt = 36 by decide)) rfl ?_
  refine sm_getA rfl (fun v46 => ?_)
  refine sm_getA rfl (fun v53 => ?_)
  refine sm_aldI (by decide) (tc_div rfl (show (nI 36).toInt = 36 by decide)) (fun v57 => ?_)
  refine sm_astI (tc_rem rfl (show (nI 36).toInt = 36 by decide)) (tc_sub (show (nI 1).toInt = 1 by decide) rfl) ?_
  exact hQj
theorem smFX10_goes_162 (this : Nat) (p1 : Int32) (v138 : Int32) (v153 : Int32) {k243 : Int32 → JP} {k243' : Int → MP} (hk243 : ∀ (x0 : Int32) (X0 : Int), x0.toInt = X0 → SM (k243 x0) (k243' X0)) : ∀ n : Nat, ∀ (x0 : Int32) (X0 : Int), x0.toInt = X0 → ∀ (x1 : Int32) (X1 : Int), x1.toInt = X1 → SM (jit (FX10_goes_162 this p1 v138 v153 k243) (fun _ _ => jbot) n x0 x1) (jit (GX10_goes_162 this p1.toInt v138.toInt v153.toInt k243') (fun _ _ => mbot) n X0 X1) := by
  intro n
  induction n with
  | zero =>
    intro x8_162 x8_162' hx8_162 x9_162 x9_162' hx9_162
    exact SM.bot
  | succ n ih =>
    intro x8_162 x8_162' hx8_162 x9_162 x9_162' hx9_162
    subst hx8_162
    subst hx9_162
    show SM (FX10_goes_162 this p1 v138 v153 k243 (jit (FX10_goes_162 this p1 v138 v153 k243) (fun _ _ => jbot) n) x8_162 x9_162) (GX10_goes_162 this p1.toInt v138.toInt v153.toInt k243' (jit (GX10_goes_162 this p1.toInt v138.toInt v153.toInt k243') (fun _ _ => mbot) n) x8_162.toInt x9_162.toInt)
    generalize jit (FX10_goes_162 this p1 v138 v153 k243) (fun _ _ => jbot) n = rec162 at ih ⊢
    generalize jit (GX10_goes_162 this p1.toInt v138.toInt v153.toInt k243') (fun _ _ => mbot) n = rec162' at ih ⊢
    have hrec162 := ih
    unfold FX10_goes_162 GX10_goes_162
    refine sm_getA rfl (fun v165 => ?_)
    refine sm_getI rfl (fun v168 => ?_)
    refine sm_if (cI_le rfl rfl) ?_ ?_
    · exact hk243 _ _ rfl
    · refine sm_obj ?_
      refine sm_X10_isIn this _ _ rfl _ _ ?_
      intro v177 v177' hv177
      subst hv177
      refine sm_join (fun (k235 : Int32 → JP) (k235' : Int → MP) => ∀ (x0 : Int32) (X0 : Int), x0.toInt = X0 → SM (k235 x0) (k235' X0)) ?_ (fun k235 k235' hk235 => ?_)
      · intro s0_235 s0_235' hs0_235
        subst hs0_235
        exact hrec162 _ _ rfl _ _ (tc_add rfl (show (nI 1).toInt = 1 by decide))
      refine sm_if (cI_eq rfl (show (nI 0).toInt = 0 by decide)) ?_ ?_
      · exact hk235 _ _ rfl
      · refine sm_getA rfl (fun v189 => ?_)
        refine sm_getA rfl (fun v192 => ?_)
        refine sm_aldA (by decide) rfl (fun v197 => ?_)
        refine sm_getA rfl (fun v199 => ?_)
        refine sm_aldA (by decide) rfl (fun v204 => ?_)
        refine sm_aldA (by decide) rfl (fun v206 => ?_)
        refine sm_getA rfl (fun v208 => ?_)
        refine sm_aldA (by decide) rfl (fun v213 => ?_)
        refine sm_aldA (by decide) (tc_add rfl (show (nI 1).toInt = 1 by decide)) (fun v217 => ?_)
        refine sm_obj ?_
        refine sm_X10_leads this v197 v206 v217 _ _ rfl _ _ (tc_rem rfl (show (nI 2).toInt = 2 by decide)) _ _ rfl _ _ ?_
        intro v223 v223' hv223
        subst hv223
        exact hk235 _ _ (tc_min (show (nI 1000000).toInt = 1000000 by decide) (tc_add rfl rfl))
theorem smFX10_goes_121 {rJX10_goes : Nat → Int32 → JP → JP} {rJX10_goes' : Nat → Int → MP → MP} (hrJX10_goes : ∀ (x0 : Nat), ∀ (x1 : Int32) (X1 : Int), x1.toInt = X1 → ∀ (x2 : JP) (X2 : MP), SM x2 X2 → SM (rJX10_goes x0 x1 x2) (rJX10_goes' x0 X1 X2)) (this : Nat) (p1 : Int32) {Qj : JP} {Qj' : MP} (hQj : SM Qj Qj') (v104 : Nat) (v113 : Int32) : ∀ n : Nat, ∀ (x0 : Int32) (X0 : Int), x0.toInt = X0 → SM (jit (FX10_goes_121 rJX10_goes this p1 Qj v104 v113) (fun _ => jbot) n x0) (jit (GX10_goes_121 rJX10_goes' this p1.toInt Qj' v104 v113.toInt) (fun _ => mbot) n X0) := by
  intro n
  induction n with
  | zero =>
    intro x5_121 x5_121' hx5_121
    exact SM.bot
  | succ n ih =>
    intro x5_121 x5_121' hx5_121
    subst hx5_121
    show SM (FX10_goes_121 rJX10_goes this p1 Qj v104 v113 (jit (FX10_goes_121 rJX10_goes this p1 Qj v104 v113) (fun _ => jbot) n) x5_121) (GX10_goes_121 rJX10_goes' this p1.toInt Qj' v104 v113.toInt (jit (GX10_goes_121 rJX10_goes' this p1.toInt Qj' v104 v113.toInt) (fun _ => mbot) n) x5_121.toInt)
    generalize jit (FX10_goes_121 rJX10_goes this p1 Qj v104 v113) (fun _ => jbot) n = rec121 at ih ⊢
    generalize jit (GX10_goes_121 rJX10_goes' this p1.toInt Qj' v104 v113.toInt) (fun _ => mbot) n = rec121' at ih ⊢
    have hrec121 := ih
    unfold FX10_goes_121 GX10_goes_121
    refine sm_if (cI_le rfl rfl) ?_ ?_
    · exact hQj
    · refine sm_getI rfl (fun v129 => ?_)
      refine sm_if (cI_eq rfl (show (nI 0).toInt = 0 by decide)) ?_ ?_
      · refine sm_aldI (by decide) rfl (fun v138 => ?_)
        refine sm_getA rfl (fun v142 => ?_)
        refine sm_getA rfl (fun v145 => ?_)
        refine sm_aldI (by decide) (tc_div rfl (show (nI 36).toInt = 36 by decide)) (fun v153 => ?_)
        refine sm_ex (fun n162 => ?_)
        refine smFX10_goes_162 this p1 v138 v153 ?_ n162 _ _ (show (nI 0).toInt = 0 by decide) _ _ (show (nI 0).toInt = 0 by decide)
        · intro y8_243 y8_243' hy8_243
          subst hy8_243
          refine sm_getI rfl (fun v246 => ?_)
          refine sm_join (fun (k292 : JP) (k292' : MP) => SM k292 k292') ?_ (fun k292 k292' hk292 => ?_)
          · exact hrec121 _ _ (tc_add rfl (show (nI 1).toInt = 1 by decide))
          refine sm_if (cI_le rfl rfl) ?_ ?_
          · refine sm_getA rfl (fun v256 => ?_)
            refine sm_obj ?_
            refine sm_X8_goes v256 _ _ rfl _ _ ?_
            intro v261 v261' hv261
            subst hv261
            refine sm_getA rfl (fun v267 => ?_)
            refine sm_astI rfl rfl ?_
            refine sm_obj ?_
            refine hrJX10_goes this _ _ (tc_add rfl (show (nI 1).toInt = 1 by decide)) _ _ ?_
            refine sm_getA rfl (fun v282 => ?_)
            refine sm_obj ?_
            exact sm_X8_comes v282 _ _ rfl _ _ rfl _ _ hk292
          · exact hk292
      · exact hQj
theorem sm_X10_goesF {rJX10_goes : Nat → Int32 → JP → JP} {rJX10_goes' : Nat → Int → MP → MP} (hrJX10_goes : ∀ (x0 : Nat), ∀ (x1 : Int32) (X1 : Int), x1.toInt = X1 → ∀ (x2 : JP) (X2 : MP), SM x2 X2 → SM (rJX10_goes x0 x1 x2) (rJX10_goes' x0 X1 X2)) : ∀ (x0 : Nat), ∀ (x1 : Int32) (X1 : Int), x1.toInt = X1 → ∀ (x2 : JP) (X2 : MP), SM x2 X2 → SM ((JX10_goesF rJX10_goes) x0 x1 x2) ((MX10_goesF rJX10_goes') x0 X1 X2) := by
  intro this p1 p1' hp1 Qj Qj' hQj
  subst hp1
  unfold JX10_goesF MX10_goesF
  refine sm_getI rfl (fun v2 => ?_)
  refine sm_putI rfl (tc_add rfl (show (nI 1).toInt = 1 by decide)) ?_
  refine sm_getI rfl (fun v12 => ?_)
  refine sm_join (fun (k26 : Int32 → JP) (k26' : Int → MP) => ∀ (x0 : Int32) (X0 : Int), x0.toInt = X0 → SM (k26 x0) (k26' X0)) ?_ (fun k26 k26' hk26 => ?_)
  · intro s1_26 s1_26' hs1_26
    subst hs1_26
    refine sm_putZ rfl rfl ?_
    refine sm_getI rfl (fun v30 => ?_)
    refine sm_if (cI_eq rfl (show (nI 0).toInt = 0 by decide)) ?_ ?_
    · refine sm_obj ?_
      refine sm_X10_bars this _ _ rfl _ _ ?_
      intro v38 v38' hv38
      subst hv38
      refine sm_if (cI_eq rfl (show (nI 0).toInt = 0 by decide)) ?_ ?_
      · refine sm_getI rfl (fun v47 => ?_)
        refine sm_putI rfl (tc_max rfl rfl) ?_
        refine sm_obj ?_
        refine sm_X10_isReading this _ _ rfl _ _ ?_
        intro v59 v59' hv59
        subst hv59
        refine sm_join (fun (k70 : JP) (k70' : MP) => SM k70 k70') ?_ (fun k70 k70' hk70 => ?_)
        · refine sm_if (cI_eq rfl (show (nI 30).toInt = 30 by decide)) ?_ ?_
          · exact hQj
          · refine sm_getI rfl (fun v77 => ?_)
            refine sm_join (fun (k95 : JP) (k95' : MP) => SM k95 k95') ?_ (fun k95 k95' hk95 => ?_)
            · refine sm_getA rfl (fun v100 => ?_)
              refine sm_aldA (by decide) rfl (fun v104 => ?_)
              refine sm_getA rfl (fun v108 => ?_)
              refine sm_obj ?_
              refine sm_X10_gathers this v108 _ _ (tc_rem rfl (show (nI 2).toInt = 2 by decide)) v104 _ _ ?_
              intro v113 v113' hv113
              subst hv113
              refine sm_ex (fun n121 => ?_)
              refine smFX10_goes_121 hrJX10_goes this p1 hQj v104 v113 n121 _ _ (show (nI 0).toInt = 0 by decide)
            refine sm_if (cI_eq rfl (show (nI 0).toInt = 0 by decide)) ?_ ?_
            · refine sm_getA rfl (fun v85 => ?_)
              refine sm_getI rfl (fun v88 => ?_)
              refine sm_if (cI_eq rfl rfl) ?_ ?_
              · exact hQj
              · exact hk95
            · exact hk95
        refine sm_if (cI_eq rfl (show (nI 0).toInt = 0 by decide)) ?_ ?_
        · exact hk70
        · refine sm_obj ?_
          exact sm_X10_found this _ _ rfl _ _ hk70
      · exact hQj
    · exact hQj
  refine sm_if (cI_le rfl (show (nI 8000).toInt = 8000 by decide)) ?_ ?_
  · exact hk26 _ _ (show (nI 0).toInt = 0 by decide)
  · exact hk26 _ _ (show (nI 1).toInt = 1 by decide)
theorem sm_X10_goesR : ∀ n : Nat, (∀ (x0 : Nat), ∀ (x1 : Int32) (X1 : Int), x1.toInt = X1 → ∀ (x2 : JP) (X2 : MP), SM x2 X2 → SM (JX10_goes n x0 x1 x2) (MX10_goes n x0 X1 X2)) := by
  intro n
  induction n with
  | zero =>
    exact (by intros; exact SM.bot)
  | succ n ih =>
    exact (sm_X10_goesF ih)
theorem sm_X10_goes (n : Nat) : ∀ (x0 : Nat), ∀ (x1 : Int32) (X1 : Int), x1.toInt = X1 → ∀ (x2 : JP) (X2 : MP), SM x2 X2 → SM (JX10_goes n x0 x1 x2) (MX10_goes n x0 X1 X2) := (sm_X10_goesR n)
theorem smFX10_walks_34 (this : Nat) (x2_21 : Int32) {k66 : JP} {k66' : MP} (hk66 : SM k66 k66') : ∀ n : Nat, ∀ (x0 : Int32) (X0 : Int), x0.toInt = X0 → SM (jit (FX10_walks_34 this x2_21 k66) (fun _ => jbot) n x0) (jit (GX10_walks_34 this x2_21.toInt k66') (fun _ => mbot) n X0) := by
  intro n
  induction n with
  | zero =>
    intro x3_34 x3_34' hx3_34
    exact SM.bot
  | succ n ih =>
    intro x3_34 x3_34' hx3_34
    subst hx3_34
    show SM (FX10_walks_34 this x2_21 k66 (jit (FX10_walks_34 this x2_21 k66) (fun _ => jbot) n) x3_34) (GX10_walks_34 this x2_21.toInt k66' (jit (GX10_walks_34 this x2_21.toInt k66') (fun _ => mbot) n) x3_34.toInt)
    generalize jit (FX10_walks_34 this x2_21 k66) (fun _ => jbot) n = rec34 at ih ⊢
    generalize jit (GX10_walks_34 this x2_21.toInt k66') (fun _ => mbot) n = rec34' at ih ⊢
    have hrec34 := ih
    unfold FX10_walks_34 GX10_walks_34
    refine sm_if (cI_lt (show (nI 24).toInt = 24 by decide) rfl) ?_ ?_
    · exact hk66
    · refine sm_getA rfl (fun v41 => ?_)
      refine sm_aldA (by decide) rfl (fun v45 => ?_)
      refine sm_aldA (by decide) (show (nI 0).toInt = 0 by decide) (fun v47 => ?_)
      refine sm_join (fun (k59 : Int32 → JP) (k59' : Int → MP) => ∀ (x0 : Int32) (X0 : Int), x0.toInt = X0 → SM (k59 x0) (k59' X0)) ?_ (fun k59 k59' hk59 => ?_)
      · intro s2_59 s2_59' hs2_59
        subst hs2_59
        refine sm_astI rfl rfl ?_
        exact hrec34 _ _ (tc_add rfl (show (nI 1).toInt = 1 by decide))
      refine sm_if (cI_eq rfl (show (nI 0).toInt = 0 by decide)) ?_ ?_
      · exact hk59 _ _ (show (nI 0).toInt = 0 by decide)
      · exact hk59 _ _ (show (nI 1000000).toInt = 1000000 by decide)
theorem smFX10_walks_21 (this : Nat) {k72 : JP} {k72' : MP} (hk72 : SM k72 k72') : ∀ n : Nat, ∀ (x0 : Int32) (X0 : Int), x0.toInt = X0 → SM (jit (FX10_walks_21 this k72) (fun _ => jbot) n x0) (jit (GX10_walks_21 this k72') (fun _ => mbot) n X0) := by
  intro n
  induction n with
  | zero =>
    intro x2_21 x2_21' hx2_21
    exact SM.bot
  | succ n ih =>
    intro x2_21 x2_21' hx2_21
    subst hx2_21
    show SM (FX10_walks_21 this k72 (jit (FX10_walks_21 this k72) (fun _ => jbot) n) x2_21) (GX10_walks_21 this k72' (jit (GX10_walks_21 this k72') (fun _ => mbot) n) x2_21.toInt)
    generalize jit (FX10_walks_21 this k72) (fun _ => jbot) n = rec21 at ih ⊢
    generalize jit (GX10_walks_21 this k72') (fun _ => mbot) n = rec21' at ih ⊢
    have hrec21 := ih
    unfold FX10_walks_21 GX10_walks_21
    refine sm_getA rfl (fun v23 => ?_)
    refine sm_getI rfl (fun v26 => ?_)
    refine sm_if (cI_le rfl rfl) ?_ ?_
    · exact hk72
    · refine sm_ex (fun n34 => ?_)
      refine smFX10_walks_34 this x2_21 ?_ n34 _ _ (show (nI 0).toInt = 0 by decide)
      · exact hrec21 _ _ (tc_add rfl (show (nI 1).toInt = 1 by decide))
theorem sm_X10_walks : ∀ (x0 : Nat), ∀ (x1 : Int32) (X1 : Int), x1.toInt = X1 → ∀ (x2 : JP) (X2 : MP), SM x2 X2 → SM (JX10_walks x0 x1 x2) (MX10_walks x0 X1 X2) := by
  intro this p1 p1' hp1 Qj Qj' hQj
  subst hp1
  unfold JX10_walks MX10_walks
  refine sm_putI rfl rfl ?_
  refine sm_getA rfl (fun v6 => ?_)
  refine sm_getA rfl (fun v10 => ?_)
  refine sm_getA rfl (fun v13 => ?_)
  refine sm_obj ?_
  refine sm_X8_be v6 v13 _ _ ?_
  refine sm_ex (fun n21 => ?_)
  refine smFX10_walks_21 this ?_ n21 _ _ (show (nI 0).toInt = 0 by decide)
  · refine sm_obj ?_
    exact sm_X10_goes 40 this _ _ (show (nI 0).toInt = 0 by decide) _ _ hQj
theorem smFX10_least_13 (this : Nat) {k49 : JP} {k49' : MP} (hk49 : SM k49 k49') : ∀ n : Nat, ∀ (x0 : Int32) (X0 : Int), x0.toInt = X0 → SM (jit (FX10_least_13 this k49) (fun _ => jbot) n x0) (jit (GX10_least_13 this k49') (fun _ => mbot) n X0) := by
  intro n
  induction n with
  | zero =>
    intro x2_13 x2_13' hx2_13
    exact SM.bot
  | succ n ih =>
    intro x2_13 x2_13' hx2_13
    subst hx2_13
    show SM (FX10_least_13 this k49 (jit (FX10_least_13 this k49) (fun _ => jbot) n) x2_13) (GX10_least_13 this k49' (jit (GX10_least_13 this k49') (fun _ => mbot) n) x2_13.toInt)
    generalize jit (FX10_least_13 this k49) (fun _ => jbot) n = rec13 at ih ⊢
    generalize jit (GX10_least_13 this k49') (fun _ => mbot) n = rec13' at ih ⊢
    have hrec13 := ih
    unfold FX10_least_13 GX10_least_13
    refine sm_if (cI_lt (show (nI 20).toInt = 20 by decide) rfl) ?_ ?_
    · exact hk49
    · refine sm_getI rfl (fun v20 => ?_)
      refine sm_if (cI_eq rfl (show (nI 0).toInt = 0 by decide)) ?_ ?_
      · refine sm_getI rfl (fun v27 => ?_)
        refine sm_if (cI_eq rfl (show (nI 0).toInt = 0 by decide)) ?_ ?_
        · refine sm_obj ?_
          refine sm_X10_walks this _ _ rfl _ _ ?_
          refine sm_putI rfl rfl ?_
          exact hrec13 _ _ (tc_add rfl (show (nI 1).toInt = 1 by decide))
        · exact hk49
      · exact hk49
theorem sm_X10_least : ∀ (x0 : Nat), ∀ (x1 : Int32) (X1 : Int), x1.toInt = X1 → ∀ (x2 : Int32 → JP) (X2 : Int → MP), (∀ (x0 : Int32) (X0 : Int), x0.toInt = X0 → SM (x2 x0) (X2 X0)) → SM (JX10_least x0 x1 x2) (MX10_least x0 X1 X2) := by
  intro this p1 p1' hp1 Qj Qj' hQj
  subst hp1
  unfold JX10_least MX10_least
  refine sm_obj ?_
  refine sm_X10_begins this _ _ rfl _ _ (show (nI 0).toInt = 0 by decide) _ _ ?_
  refine sm_putI rfl (show (nI 0).toInt = 0 by decide) ?_
  refine sm_ex (fun n13 => ?_)
  refine smFX10_least_13 this ?_ n13 _ _ (show (nI 0).toInt = 0 by decide)
  · refine sm_getI rfl (fun v50 => ?_)
    refine sm_if (cI_eq rfl (show (nI 0).toInt = 0 by decide)) ?_ ?_
    · refine sm_getI rfl (fun v62 => ?_)
      refine sm_if (cI_eq rfl (show (nI 0).toInt = 0 by decide)) ?_ ?_
      · exact hQj _ _ (show ((-1) : Int32).toInt = (-1) by decide)
      · refine sm_getI rfl (fun v73 => ?_)
        exact hQj _ _ rfl
    · exact hQj _ _ (show ((-2) : Int32).toInt = (-2) by decide)
theorem smFX1_lays_179 (this : Nat) (p1 : Int32) {Qj : JP} {Qj' : MP} (hQj : SM Qj Qj') (v8 : Nat) : ∀ n : Nat, ∀ (x0 : Int32) (X0 : Int), x0.toInt = X0 → ∀ (x1 : Int32) (X1 : Int), x1.toInt = X1 → SM (jit (FX1_lays_179 this p1 Qj v8) (fun _ _ => jbot) n x0 x1) (jit (GX1_lays_179 this p1.toInt Qj' v8) (fun _ _ => mbot) n X0 X1) := by
  intro n
  induction n with
  | zero =>
    intro x3_179 x3_179' hx3_179 x4_179 x4_179' hx4_179
    exact SM.bot
  | succ n ih =>
    intro x3_179 x3_179' hx3_179 x4_179 x4_179' hx4_179
    subst hx3_179
    subst hx4_179
    show SM (FX1_lays_179 this p1 Qj v8 (jit (FX1_lays_179 this p1 Qj v8) (fun _ _ => jbot) n) x3_179 x4_179) (GX1_lays_179 this p1.toInt Qj' v8 (jit (GX1_lays_179 this p1.toInt Qj' v8) (fun _ _ => mbot) n) x3_179.toInt x4_179.toInt)
    generalize jit (FX1_lays_179 this p1 Qj v8) (fun _ _ => jbot) n = rec179 at ih ⊢
    generalize jit (GX1_lays_179 this p1.toInt Qj' v8) (fun _ _ => mbot) n = rec179' at ih ⊢
    have hrec179 := ih
    unfold FX1_lays_179 GX1_lays_179
    refine sm_join (fun (k188 : JP) (k188' : MP) => SM k188 k188') ?_ (fun k188 k188' hk188 => ?_)
    · refine sm_join (fun (k248 : Int32 → JP) (k248' : Int → MP) => ∀ (x0 : Int32) (X0 : Int), x0.toInt = X0 → SM (k248 x0) (k248' X0)) ?_ (fun k248 k248' hk248 => ?_)
      · intro s0_248 s0_248' hs0_248
        subst hs0_248
        refine sm_join (fun (k421 : Int32 → Int32 → JP) (k421' : Int → Int → MP) => ∀ (x0 : Int32) (X0 : Int), x0.toInt = X0 → ∀ (x1 : Int32) (X1 : Int), x1.toInt = X1 → SM (k421 x0 x1) (k421' X0 X1)) ?_ (fun k421 k421' hk421 => ?_)
        · intro x3_421 x3_421' hx3_421 x4_421 x4_421' hx4_421
          subst hx3_421
          subst hx4_421
          exact hrec179 _ _ rfl _ _ rfl
        refine sm_join (fun (k331 : JP) (k331' : MP) => SM k331 k331') ?_ (fun k331 k331' hk331 => ?_)
        · refine sm_join (fun (k407 : JP) (k407' : MP) => SM k407 k407') ?_ (fun k407 k407' hk407 => ?_)
          · refine sm_getA rfl (fun v411 => ?_)
            refine sm_aldA (by decide) rfl (fun v415 => ?_)
            refine sm_astI (tc_add rfl (show ((-1) : Int32).toInt = (-1) by decide)) (show (nI 7).toInt = 7 by decide) ?_
            exact hk421 _ _ rfl _ _ (tc_add rfl (show ((-1) : Int32).toInt = (-1) by decide))
          refine sm_if (cI_le rfl (show (nI 0).toInt = 0 by decide)) ?_ ?_
          · exact hk407
          · refine sm_getA rfl (fun v336 => ?_)
            refine sm_getA rfl (fun v339 => ?_)
            refine sm_aldI (by decide) (show (nI 6).toInt = 6 by decide) (fun v344 => ?_)
            refine sm_if (cI_le rfl (show (nI 0).toInt = 0 by decide)) ?_ ?_
            · exact hk407
            · refine sm_getA rfl (fun v349 => ?_)
              refine sm_aldA (by decide) rfl (fun v353 => ?_)
              refine sm_aldI (by decide) rfl (fun v356 => ?_)
              refine sm_getA rfl (fun v358 => ?_)
              refine sm_aldA (by decide) (tc_sub rfl (show (nI 1).toInt = 1 by decide)) (fun v364 => ?_)
              refine sm_aldI (by decide) rfl (fun v367 => ?_)
              refine sm_getA rfl (fun v369 => ?_)
              refine sm_getA rfl (fun v372 => ?_)
              refine sm_aldI (by decide) (show (nI 6).toInt = 6 by decide) (fun v377 => ?_)
              refine sm_if (cI_eq rfl (tc_add rfl rfl)) ?_ ?_
              · refine sm_getA rfl (fun v386 => ?_)
                refine sm_aldA (by decide) rfl (fun v390 => ?_)
                refine sm_astI (tc_add rfl (show ((-1) : Int32).toInt = (-1) by decide)) (show ((-1) : Int32).toInt = (-1) by decide) ?_
                refine sm_getA rfl (fun v395 => ?_)
                refine sm_aldI (by decide) rfl (fun v400 => ?_)
                refine sm_astI rfl (tc_add rfl (show (nI 1).toInt = 1 by decide)) ?_
                exact hk421 _ _ (tc_add rfl (show ((-1) : Int32).toInt = (-1) by decide)) _ _ rfl
              · exact hk407
        refine sm_if (cI_eq rfl (show ((-1) : Int32).toInt = (-1) by decide)) ?_ ?_
        · exact hk331
        · refine sm_getA rfl (fun v257 => ?_)
          refine sm_aldA (by decide) rfl (fun v261 => ?_)
          refine sm_aldI (by decide) rfl (fun v264 => ?_)
          refine sm_getA rfl (fun v266 => ?_)
          refine sm_aldA (by decide) (tc_sub rfl (show (nI 1).toInt = 1 by decide)) (fun v272 => ?_)
          refine sm_aldI (by decide) (tc_sub rfl (show (nI 1).toInt = 1 by decide)) (fun v277 => ?_)
          refine sm_join (fun (k297 : Int32 → JP) (k297' : Int → MP) => ∀ (x0 : Int32) (X0 : Int), x0.toInt = X0 → SM (k297 x0) (k297' X0)) ?_ (fun k297 k297' hk297 => ?_)
          · intro s2_297 s2_297' hs2_297
            subst hs2_297
            refine sm_if (cI_eq rfl (tc_add rfl rfl)) ?_ ?_
            · refine sm_getA rfl (fun v308 => ?_)
              refine sm_aldA (by decide) rfl (fun v312 => ?_)
              refine sm_astI (tc_add rfl (show ((-1) : Int32).toInt = (-1) by decide)) rfl ?_
              refine sm_getA rfl (fun v319 => ?_)
              refine sm_aldA (by decide) rfl (fun v323 => ?_)
              refine sm_astI (tc_add rfl (show ((-1) : Int32).toInt = (-1) by decide)) (tc_add rfl (show ((-1) : Int32).toInt = (-1) by decide)) ?_
              exact hk421 _ _ (tc_add rfl (show ((-1) : Int32).toInt = (-1) by decide)) _ _ (tc_add rfl (show ((-1) : Int32).toInt = (-1) by decide))
            · exact hk331
          refine sm_if (cI_eq rfl (show (nI 0).toInt = 0 by decide)) ?_ ?_
          · exact hk297 _ _ (show (nI 0).toInt = 0 by decide)
          · refine sm_getA rfl (fun v288 => ?_)
            refine sm_getA rfl (fun v291 => ?_)
            refine sm_aldI (by decide) rfl (fun v296 => ?_)
            exact hk297 _ _ rfl
      refine sm_join (fun (k247 : JP) (k247' : MP) => SM k247 k247') ?_ (fun k247 k247' hk247 => ?_)
      · exact hk248 _ _ (show ((-1) : Int32).toInt = (-1) by decide)
      refine sm_if (cI_le rfl (show (nI 0).toInt = 0 by decide)) ?_ ?_
      · exact hk247
      · refine sm_if (cI_le rfl (show (nI 0).toInt = 0 by decide)) ?_ ?_
        · exact hk247
        · refine sm_getA rfl (fun v198 => ?_)
          refine sm_aldA (by decide) (tc_sub rfl (show (nI 1).toInt = 1 by decide)) (fun v205 => ?_)
          refine sm_getI rfl (fun v207 => ?_)
          refine sm_getA rfl (fun v211 => ?_)
          refine sm_aldI (by decide) (tc_sub rfl (show (nI 1).toInt = 1 by decide)) (fun v217 => ?_)
          refine sm_getA rfl (fun v224 => ?_)
          refine sm_getA rfl (fun v227 => ?_)
          refine sm_aldI (by decide) (tc_sub rfl (show (nI 1).toInt = 1 by decide)) (fun v233 => ?_)
          refine sm_getA rfl (fun v235 => ?_)
          refine sm_getA rfl (fun v238 => ?_)
          refine sm_obj ?_
          refine sm_X23_slip v205 _ _ rfl _ _ rfl _ _ (tc_rem (tc_sub rfl (show (nI 1).toInt = 1 by decide)) (show (nI 2).toInt = 2 by decide)) _ _ rfl v238 _ _ ?_
          intro v241 v241' hv241
          subst hv241
          exact hk248 _ _ rfl
    refine sm_if (cI_lt (show (nI 0).toInt = 0 by decide) rfl) ?_ ?_
    · exact hk188
    · refine sm_if (cI_le rfl (show (nI 0).toInt = 0 by decide)) ?_ ?_
      · exact hQj
      · exact hk188
theorem smFX1_lays_59 (this : Nat) (v8 : Nat) {k158 : JP} {k158' : MP} (hk158 : SM k158 k158') : ∀ n : Nat, ∀ (x0 : Int32) (X0 : Int), x0.toInt = X0 → SM (jit (FX1_lays_59 this v8 k158) (fun _ => jbot) n x0) (jit (GX1_lays_59 this v8 k158') (fun _ => mbot) n X0) := by
  intro n
  induction n with
  | zero =>
    intro x3_59 x3_59' hx3_59
    exact SM.bot
  | succ n ih =>
    intro x3_59 x3_59' hx3_59
    subst hx3_59
    show SM (FX1_lays_59 this v8 k158 (jit (FX1_lays_59 this v8 k158) (fun _ => jbot) n) x3_59) (GX1_lays_59 this v8 k158' (jit (GX1_lays_59 this v8 k158') (fun _ => mbot) n) x3_59.toInt)
    generalize jit (FX1_lays_59 this v8 k158) (fun _ => jbot) n = rec59 at ih ⊢
    generalize jit (GX1_lays_59 this v8 k158') (fun _ => mbot) n = rec59' at ih ⊢
    have hrec59 := ih
    unfold FX1_lays_59 GX1_lays_59
    refine sm_getA rfl (fun v61 => ?_)
    refine sm_getI rfl (fun v64 => ?_)
    refine sm_if (cI_le rfl rfl) ?_ ?_
    · exact hk158
    · refine sm_getA rfl (fun v71 => ?_)
      refine sm_getA rfl (fun v74 => ?_)
      refine sm_aldI (by decide) rfl (fun v78 => ?_)
      refine sm_getA rfl (fun v82 => ?_)
      refine sm_getA rfl (fun v87 => ?_)
      refine sm_aldA (by decide) rfl (fun v91 => ?_)
      refine sm_getA rfl (fun v93 => ?_)
      refine sm_aldA (by decide) (tc_add rfl (show (nI 1).toInt = 1 by decide)) (fun v99 => ?_)
      refine sm_getA rfl (fun v101 => ?_)
      refine sm_getA rfl (fun v104 => ?_)
      refine sm_aldI (by decide) (tc_div rfl (show (nI 36).toInt = 36 by decide)) (fun v112 => ?_)
      refine sm_obj ?_
      refine sm_X10_leads v82 v8 v91 v99 _ _ rfl _ _ (tc_rem rfl (show (nI 2).toInt = 2 by decide)) _ _ rfl _ _ ?_
      intro v118 v118' hv118
      subst hv118
      refine sm_getA rfl (fun v124 => ?_)
      refine sm_getA rfl (fun v129 => ?_)
      refine sm_getA rfl (fun v132 => ?_)
      refine sm_aldI (by decide) (tc_div rfl (show (nI 36).toInt = 36 by decide)) (fun v140 => ?_)
      refine sm_astI rfl rfl ?_
      refine sm_getA rfl (fun v143 => ?_)
      refine sm_obj ?_
      refine sm_X8_goes v143 _ _ rfl _ _ ?_
      intro v148 v148' hv148
      subst hv148
      exact hrec59 _ _ (tc_add rfl (show (nI 1).toInt = 1 by decide))
theorem smFX1_lays_26 (this : Nat) {k57 : JP} {k57' : MP} (hk57 : SM k57 k57') : ∀ n : Nat, ∀ (x0 : Int32) (X0 : Int), x0.toInt = X0 → SM (jit (FX1_lays_26 this k57) (fun _ => jbot) n x0) (jit (GX1_lays_26 this k57') (fun _ => mbot) n X0) := by
  intro n
  induction n with
  | zero =>
    intro x3_26 x3_26' hx3_26
    exact SM.bot
  | succ n ih =>
    intro x3_26 x3_26' hx3_26
    subst hx3_26
    show SM (FX1_lays_26 this k57 (jit (FX1_lays_26 this k57) (fun _ => jbot) n) x3_26) (GX1_lays_26 this k57' (jit (GX1_lays_26 this k57') (fun _ => mbot) n) x3_26.toInt)
    generalize jit (FX1_lays_26 this k57) (fun _ => jbot) n = rec26 at ih ⊢
    generalize jit (GX1_lays_26 this k57') (fun _ => mbot) n = rec26' at ih ⊢
    have hrec26 := ih
    unfold FX1_lays_26 GX1_lays_26
    refine sm_if (cI_lt (show (nI 24).toInt = 24 by decide) rfl) ?_ ?_
    · exact hk57
    · refine sm_getA rfl (fun v33 => ?_)
      refine sm_aldA (by decide) (show (nI 0).toInt = 0 by decide) (fun v37 => ?_)
      refine sm_join (fun (k50 : Int32 → JP) (k50' : Int → MP) => ∀ (x0 : Int32) (X0 : Int), x0.toInt = X0 → SM (k50 x0) (k50' X0)) ?_ (fun k50 k50' hk50 => ?_)
      · intro s2_50 s2_50' hs2_50
        subst hs2_50
        refine sm_astI rfl rfl ?_
        exact hrec26 _ _ (tc_add rfl (show (nI 1).toInt = 1 by decide))
      refine sm_if (cI_eq rfl (show (nI 0).toInt = 0 by decide)) ?_ ?_
      · exact hk50 _ _ (show (nI 0).toInt = 0 by decide)
      · exact hk50 _ _ (show (nI 1000000).toInt = 1000000 by decide)
theorem sm_X1_lays : ∀ (x0 : Nat), ∀ (x1 : Int32) (X1 : Int), x1.toInt = X1 → ∀ (x2 : JP) (X2 : MP), SM x2 X2 → SM (JX1_lays x0 x1 x2) (MX1_lays x0 X1 X2) := by
  intro this p1 p1' hp1 Qj Qj' hQj
  subst hp1
  unfold JX1_lays MX1_lays
  refine sm_getA rfl (fun v1 => ?_)
  refine sm_getA rfl (fun v4 => ?_)
  refine sm_aldA (by decide) rfl (fun v8 => ?_)
  refine sm_getA rfl (fun v11 => ?_)
  refine sm_getA rfl (fun v15 => ?_)
  refine sm_getA rfl (fun v18 => ?_)
  refine sm_obj ?_
  refine sm_X8_be v11 v18 _ _ ?_
  refine sm_ex (fun n26 => ?_)
  refine smFX1_lays_26 this ?_ n26 _ _ (show (nI 0).toInt = 0 by decide)
  · refine sm_ex (fun n59 => ?_)
    refine smFX1_lays_59 this v8 ?_ n59 _ _ (show (nI 0).toInt = 0 by decide)
    · refine sm_getA rfl (fun v159 => ?_)
      refine sm_astI rfl (show (nI 0).toInt = 0 by decide) ?_
      refine sm_getA rfl (fun v166 => ?_)
      refine sm_getI rfl (fun v169 => ?_)
      refine sm_getI rfl (fun v174 => ?_)
      refine sm_ex (fun n179 => ?_)
      refine smFX1_lays_179 this p1 hQj v8 n179 _ _ rfl _ _ rfl
theorem smFX1_reads_37 (this : Nat) {k66 : JP} {k66' : MP} (hk66 : SM k66 k66') : ∀ n : Nat, ∀ (x0 : Int32) (X0 : Int), x0.toInt = X0 → SM (jit (FX1_reads_37 this k66) (fun _ => jbot) n x0) (jit (GX1_reads_37 this k66') (fun _ => mbot) n X0) := by
  intro n
  induction n with
  | zero =>
    intro x1_37 x1_37' hx1_37
    exact SM.bot
  | succ n ih =>
    intro x1_37 x1_37' hx1_37
    subst hx1_37
    show SM (FX1_reads_37 this k66 (jit (FX1_reads_37 this k66) (fun _ => jbot) n) x1_37) (GX1_reads_37 this k66' (jit (GX1_reads_37 this k66') (fun _ => mbot) n) x1_37.toInt)
    generalize jit (FX1_reads_37 this k66) (fun _ => jbot) n = rec37 at ih ⊢
    generalize jit (GX1_reads_37 this k66') (fun _ => mbot) n = rec37' at ih ⊢
    have hrec37 := ih
    unfold FX1_reads_37 GX1_reads_37
    refine sm_getA rfl (fun v39 => ?_)
    refine sm_getI rfl (fun v42 => ?_)
    refine sm_if (cI_le rfl rfl) ?_ ?_
    · exact hk66
    · refine sm_getI rfl (fun v49 => ?_)
      refine sm_if (cI_lt rfl (show (nI 0).toInt = 0 by decide)) ?_ ?_
      · exact hk66
      · refine sm_obj ?_
        refine sm_X1_lays this _ _ rfl _ _ ?_
        exact hrec37 _ _ (tc_add rfl (show (nI 1).toInt = 1 by decide))
theorem sm_X1_reads : ∀ (x0 : Nat), ∀ (x1 : Int32 → JP) (X1 : Int → MP), (∀ (x0 : Int32) (X0 : Int), x0.toInt = X0 → SM (x1 x0) (X1 X0)) → SM (JX1_reads x0 x1) (MX1_reads x0 X1) := by
  intro this Qj Qj' hQj
  unfold JX1_reads MX1_reads
  refine sm_getI rfl (fun v1 => ?_)
  refine sm_if (cI_eq rfl (show (nI 0).toInt = 0 by decide)) ?_ ?_
  · refine sm_getA rfl (fun v13 => ?_)
    refine sm_putZ rfl (show (nI 0).toInt = 0 by decide) ?_
    refine sm_getA rfl (fun v22 => ?_)
    refine sm_obj ?_
    refine sm_X1_allBooks this _ _ ?_
    intro v26 v26' hv26
    subst hv26
    refine sm_obj ?_
    refine sm_X10_least v22 _ _ rfl _ _ ?_
    intro v29 v29' hv29
    subst hv29
    refine sm_putI rfl rfl ?_
    refine sm_ex (fun n37 => ?_)
    refine smFX1_reads_37 this ?_ n37 _ _ (show (nI 0).toInt = 0 by decide)
    · refine sm_putZ rfl (show (nI 1).toInt = 1 by decide) ?_
      refine sm_getI rfl (fun v72 => ?_)
      exact hQj _ _ rfl
  · refine sm_getI rfl (fun v8 => ?_)
    exact hQj _ _ rfl
theorem sm_X1_least : ∀ (x0 : Nat), ∀ (x1 : Int32 → JP) (X1 : Int → MP), (∀ (x0 : Int32) (X0 : Int), x0.toInt = X0 → SM (x1 x0) (X1 X0)) → SM (JX1_least x0 x1) (MX1_least x0 X1) := by
  intro this Qj Qj' hQj
  unfold JX1_least MX1_least
  refine sm_obj ?_
  refine sm_X1_reads this _ _ ?_
  intro v1 v1' hv1
  subst hv1
  exact hQj _ _ rfl
theorem smFX11_asksAll_46 (this : Nat) {Qj : JP} {Qj' : MP} (hQj : SM Qj Qj') : ∀ n : Nat, ∀ (x0 : Int32) (X0 : Int), x0.toInt = X0 → SM (jit (FX11_asksAll_46 this Qj) (fun _ => jbot) n x0) (jit (GX11_asksAll_46 this Qj') (fun _ => mbot) n X0) := by
  intro n
  induction n with
  | zero =>
    intro x1_46 x1_46' hx1_46
    exact SM.bot
  | succ n ih =>
    intro x1_46 x1_46' hx1_46
    subst hx1_46
    show SM (FX11_asksAll_46 this Qj (jit (FX11_asksAll_46 this Qj) (fun _ => jbot) n) x1_46) (GX11_asksAll_46 this Qj' (jit (GX11_asksAll_46 this Qj') (fun _ => mbot) n) x1_46.toInt)
    generalize jit (FX11_asksAll_46 this Qj) (fun _ => jbot) n = rec46 at ih ⊢
    generalize jit (GX11_asksAll_46 this Qj') (fun _ => mbot) n = rec46' at ih ⊢
    have hrec46 := ih
    unfold FX11_asksAll_46 GX11_asksAll_46
    refine sm_if (cI_le (show (nI 8).toInt = 8 by decide) rfl) ?_ ?_
    · exact hQj
    · refine sm_getA rfl (fun v53 => ?_)
      refine sm_getA rfl (fun v58 => ?_)
      refine sm_aldI (by decide) (tc_add (show (nI 5).toInt = 5 by decide) rfl) (fun v64 => ?_)
      refine sm_astI rfl rfl ?_
      exact hrec46 _ _ (tc_add rfl (show (nI 1).toInt = 1 by decide))
theorem smFX11_asksAll_16 (this : Nat) {k44 : JP} {k44' : MP} (hk44 : SM k44 k44') : ∀ n : Nat, ∀ (x0 : Int32) (X0 : Int), x0.toInt = X0 → SM (jit (FX11_asksAll_16 this k44) (fun _ => jbot) n x0) (jit (GX11_asksAll_16 this k44') (fun _ => mbot) n X0) := by
  intro n
  induction n with
  | zero =>
    intro x1_16 x1_16' hx1_16
    exact SM.bot
  | succ n ih =>
    intro x1_16 x1_16' hx1_16
    subst hx1_16
    show SM (FX11_asksAll_16 this k44 (jit (FX11_asksAll_16 this k44) (fun _ => jbot) n) x1_16) (GX11_asksAll_16 this k44' (jit (GX11_asksAll_16 this k44') (fun _ => mbot) n) x1_16.toInt)
    generalize jit (FX11_asksAll_16 this k44) (fun _ => jbot) n = rec16 at ih ⊢
    generalize jit (GX11_asksAll_16 this k44') (fun _ => mbot) n = rec16' at ih ⊢
    have hrec16 := ih
    unfold FX11_asksAll_16 GX11_asksAll_16
    refine sm_getA rfl (fun v18 => ?_)
    refine sm_aldI (by decide) (show (nI 1).toInt = 1 by decide) (fun v22 => ?_)
    refine sm_if (cI_le rfl rfl) ?_ ?_
    · exact hk44
    · refine sm_getA rfl (fun v27 => ?_)
      refine sm_obj ?_
      refine sm_X11_ofBook this _ _ rfl _ _ (show (nI 0).toInt = 0 by decide) _ _ ?_
      intro v34 v34' hv34
      subst hv34
      refine sm_astI rfl rfl ?_
      exact hrec16 _ _ (tc_add rfl (show (nI 1).toInt = 1 by decide))
theorem sm_X11_asksAll : ∀ (x0 : Nat), ∀ (x1 : JP) (X1 : MP), SM x1 X1 → SM (JX11_asksAll x0 x1) (MX11_asksAll x0 X1) := by
  intro this Qj Qj' hQj
  unfold JX11_asksAll MX11_asksAll
  refine sm_getA rfl (fun v3 => ?_)
  refine sm_aldI (by decide) (show (nI 1).toInt = 1 by decide) (fun v7 => ?_)
  refine sm_putI rfl (tc_sub (tc_shl (show (nI 1).toInt = 1 by decide) rfl) (show (nI 1).toInt = 1 by decide)) ?_
  refine sm_ex (fun n16 => ?_)
  refine smFX11_asksAll_16 this ?_ n16 _ _ (show (nI 0).toInt = 0 by decide)
  · refine sm_ex (fun n46 => ?_)
    refine smFX11_asksAll_46 this hQj n46 _ _ (show (nI 0).toInt = 0 by decide)
theorem sm_X11_isAsked : ∀ (x0 : Nat), ∀ (x1 : Int32) (X1 : Int), x1.toInt = X1 → ∀ (x2 : Int32 → JP) (X2 : Int → MP), (∀ (x0 : Int32) (X0 : Int), x0.toInt = X0 → SM (x2 x0) (X2 X0)) → SM (JX11_isAsked x0 x1 x2) (MX11_isAsked x0 X1 X2) := by
  intro this p1 p1' hp1 Qj Qj' hQj
  subst hp1
  unfold JX11_isAsked MX11_isAsked
  refine sm_getI rfl (fun v1 => ?_)
  refine sm_if (cI_eq (tc_and (tc_shr rfl rfl) (show (nI 1).toInt = 1 by decide)) (show (nI 1).toInt = 1 by decide)) ?_ ?_
  · exact hQj _ _ (show (nI 1).toInt = 1 by decide)
  · exact hQj _ _ (show (nI 0).toInt = 0 by decide)
theorem sm_X11_sumAt : ∀ (x0 : Int32) (X0 : Int), x0.toInt = X0 → ∀ (x1 : Int32) (X1 : Int), x1.toInt = X1 → ∀ (x2 : Int32) (X2 : Int), x2.toInt = X2 → ∀ (x3 : Int32 → JP) (X3 : Int → MP), (∀ (x0 : Int32) (X0 : Int), x0.toInt = X0 → SM (x3 x0) (X3 X0)) → SM (JX11_sumAt x0 x1 x2 x3) (MX11_sumAt X0 X1 X2 X3) := by
  intro p0 p0' hp0 p1 p1' hp1 p2 p2' hp2 Qj Qj' hQj
  subst hp0
  subst hp1
  subst hp2
  unfold JX11_sumAt MX11_sumAt
  exact hQj _ _ (tc_add (tc_mul (show (nI 25).toInt = 25 by decide) (tc_add (tc_mul (show (nI 31).toInt = 31 by decide) rfl) rfl)) rfl)
theorem sm_X11_fitAt : ∀ (x0 : Int32) (X0 : Int), x0.toInt = X0 → ∀ (x1 : Int32) (X1 : Int), x1.toInt = X1 → ∀ (x2 : Int32) (X2 : Int), x2.toInt = X2 → ∀ (x3 : Int32 → JP) (X3 : Int → MP), (∀ (x0 : Int32) (X0 : Int), x0.toInt = X0 → SM (x3 x0) (X3 X0)) → SM (JX11_fitAt x0 x1 x2 x3) (MX11_fitAt X0 X1 X2 X3) := by
  intro p0 p0' hp0 p1 p1' hp1 p2 p2' hp2 Qj Qj' hQj
  subst hp0
  subst hp1
  subst hp2
  unfold JX11_fitAt MX11_fitAt
  exact hQj _ _ (tc_add (tc_mul (tc_add (tc_mul (show (nI 3).toInt = 3 by decide) rfl) rfl) (show (nI 24).toInt = 24 by decide)) rfl)
theorem sm_X11_ofMove : ∀ (x0 : Nat), ∀ (x1 : Int32) (X1 : Int), x1.toInt = X1 → ∀ (x2 : Int32) (X2 : Int), x2.toInt = X2 → ∀ (x3 : Int32) (X3 : Int), x3.toInt = X3 → ∀ (x4 : Int32 → JP) (X4 : Int → MP), (∀ (x0 : Int32) (X0 : Int), x0.toInt = X0 → SM (x4 x0) (X4 X0)) → SM (JX11_ofMove x0 x1 x2 x3 x4) (MX11_ofMove x0 X1 X2 X3 X4) := by
  intro this p1 p1' hp1 p2 p2' hp2 p3 p3' hp3 Qj Qj' hQj
  subst hp1
  subst hp2
  subst hp3
  unfold JX11_ofMove MX11_ofMove
  refine sm_join (fun (k8 : JP) (k8' : MP) => SM k8 k8') ?_ (fun k8 k8' hk8 => ?_)
  · exact hQj _ _ (show (nI 1000).toInt = 1000 by decide)
  refine sm_if (cI_eq rfl (show (nI 0).toInt = 0 by decide)) ?_ ?_
  · exact hk8
  · refine sm_if (cI_eq rfl (show (nI 0).toInt = 0 by decide)) ?_ ?_
    · exact hk8
    · refine sm_getA rfl (fun v15 => ?_)
      refine sm_X11_sumAt _ _ rfl _ _ (tc_sub rfl (show (nI 1).toInt = 1 by decide)) _ _ (tc_sub rfl (show (nI 1).toInt = 1 by decide)) _ _ ?_
      intro v25 v25' hv25
      subst hv25
      refine sm_aldI (by decide) rfl (fun v28 => ?_)
      refine sm_getA rfl (fun v30 => ?_)
      refine sm_X11_fitAt _ _ (tc_sub rfl (show (nI 1).toInt = 1 by decide)) _ _ rfl _ _ (tc_sub rfl (show (nI 1).toInt = 1 by decide)) _ _ ?_
      intro v40 v40' hv40
      subst hv40
      refine sm_aldI (by decide) rfl (fun v43 => ?_)
      exact hQj _ _ (tc_add rfl rfl)
theorem sm_X11_ofLost : ∀ (x0 : Nat), ∀ (x1 : Int32) (X1 : Int), x1.toInt = X1 → ∀ (x2 : Int32) (X2 : Int), x2.toInt = X2 → ∀ (x3 : Int32) (X3 : Int), x3.toInt = X3 → ∀ (x4 : Int32 → JP) (X4 : Int → MP), (∀ (x0 : Int32) (X0 : Int), x0.toInt = X0 → SM (x4 x0) (X4 X0)) → SM (JX11_ofLost x0 x1 x2 x3 x4) (MX11_ofLost x0 X1 X2 X3 X4) := by
  intro this p1 p1' hp1 p2 p2' hp2 p3 p3' hp3 Qj Qj' hQj
  subst hp1
  subst hp2
  subst hp3
  unfold JX11_ofLost MX11_ofLost
  refine sm_join (fun (k14 : JP) (k14' : MP) => SM k14 k14') ?_ (fun k14 k14' hk14 => ?_)
  · exact hQj _ _ (show (nI 1000).toInt = 1000 by decide)
  refine sm_if (cI_eq rfl (show (nI 0).toInt = 0 by decide)) ?_ ?_
  · exact hk14
  · refine sm_getA rfl (fun v5 => ?_)
    refine sm_aldI (by decide) (show (nI 6).toInt = 6 by decide) (fun v10 => ?_)
    refine sm_if (cI_eq rfl (show (nI 0).toInt = 0 by decide)) ?_ ?_
    · exact hk14
    · refine sm_getA rfl (fun v21 => ?_)
      refine sm_X11_sumAt _ _ rfl _ _ (tc_sub rfl (show (nI 1).toInt = 1 by decide)) _ _ rfl _ _ ?_
      intro v29 v29' hv29
      subst hv29
      refine sm_aldI (by decide) rfl (fun v32 => ?_)
      refine sm_getA rfl (fun v34 => ?_)
      refine sm_aldI (by decide) (show (nI 6).toInt = 6 by decide) (fun v39 => ?_)
      exact hQj _ _ (tc_add rfl rfl)
theorem smFX11_isTwice_23 (this : Nat) (p1 : Int32) (p2 : Int32) {Qj : Int32 → JP} {Qj' : Int → MP} (hQj : ∀ (x0 : Int32) (X0 : Int), x0.toInt = X0 → SM (Qj x0) (Qj' X0)) : ∀ n : Nat, ∀ (x0 : Int32) (X0 : Int), x0.toInt = X0 → ∀ (x1 : Int32) (X1 : Int), x1.toInt = X1 → SM (jit (FX11_isTwice_23 this p1 p2 Qj) (fun _ _ => jbot) n x0 x1) (jit (GX11_isTwice_23 this p1.toInt p2.toInt Qj') (fun _ _ => mbot) n X0 X1) := by
  intro n
  induction n with
  | zero =>
    intro x3_23 x3_23' hx3_23 x4_23 x4_23' hx4_23
    exact SM.bot
  | succ n ih =>
    intro x3_23 x3_23' hx3_23 x4_23 x4_23' hx4_23
    subst hx3_23
    subst hx4_23
    show SM (FX11_isTwice_23 this p1 p2 Qj (jit (FX11_isTwice_23 this p1 p2 Qj) (fun _ _ => jbot) n) x3_23 x4_23) (GX11_isTwice_23 this p1.toInt p2.toInt Qj' (jit (GX11_isTwice_23 this p1.toInt p2.toInt Qj') (fun _ _ => mbot) n) x3_23.toInt x4_23.toInt)
    generalize jit (FX11_isTwice_23 this p1 p2 Qj) (fun _ _ => jbot) n = rec23 at ih ⊢
    generalize jit (GX11_isTwice_23 this p1.toInt p2.toInt Qj') (fun _ _ => mbot) n = rec23' at ih ⊢
    have hrec23 := ih
    unfold FX11_isTwice_23 GX11_isTwice_23
    refine sm_if (cI_le (show (nI 4).toInt = 4 by decide) rfl) ?_ ?_
    · refine sm_and (fun h => h.imp (cI_eq rfl (show (nI 0).toInt = 0 by decide)).mpr (cI_eq rfl (show (nI 1).toInt = 1 by decide)).mpr) ?_
      exact hQj _ _ rfl
    · refine sm_if (cI_eq rfl (show (nI 0).toInt = 0 by decide)) ?_ ?_
      · refine sm_and (fun h => h.imp (cI_eq rfl (show (nI 0).toInt = 0 by decide)).mpr (cI_eq rfl (show (nI 1).toInt = 1 by decide)).mpr) ?_
        exact hQj _ _ rfl
      · refine sm_obj ?_
        refine sm_X11_ofNote this _ _ rfl _ _ rfl _ _ rfl _ _ ?_
        intro v38 v38' hv38
        subst hv38
        refine sm_obj ?_
        refine sm_X11_ofNote this _ _ rfl _ _ (tc_sub rfl (show (nI 1).toInt = 1 by decide)) _ _ rfl _ _ ?_
        intro v48 v48' hv48
        subst hv48
        refine sm_join (fun (k59 : Int32 → JP) (k59' : Int → MP) => ∀ (x0 : Int32) (X0 : Int), x0.toInt = X0 → SM (k59 x0) (k59' X0)) ?_ (fun k59 k59' hk59 => ?_)
        · intro s0_59 s0_59' hs0_59
          subst hs0_59
          exact hrec23 _ _ rfl _ _ (tc_add rfl (show (nI 1).toInt = 1 by decide))
        refine sm_if (cI_eq rfl rfl) ?_ ?_
        · exact hk59 _ _ (show (nI 1).toInt = 1 by decide)
        · exact hk59 _ _ (show (nI 0).toInt = 0 by decide)
theorem sm_X11_isTwice : ∀ (x0 : Nat), ∀ (x1 : Int32) (X1 : Int), x1.toInt = X1 → ∀ (x2 : Int32) (X2 : Int), x2.toInt = X2 → ∀ (x3 : Int32 → JP) (X3 : Int → MP), (∀ (x0 : Int32) (X0 : Int), x0.toInt = X0 → SM (x3 x0) (X3 X0)) → SM (JX11_isTwice x0 x1 x2 x3) (MX11_isTwice x0 X1 X2 X3) := by
  intro this p1 p1' hp1 p2 p2' hp2 Qj Qj' hQj
  subst hp1
  subst hp2
  unfold JX11_isTwice MX11_isTwice
  refine sm_join (fun (k19 : Int32 → JP) (k19' : Int → MP) => ∀ (x0 : Int32) (X0 : Int), x0.toInt = X0 → SM (k19 x0) (k19' X0)) ?_ (fun k19 k19' hk19 => ?_)
  · intro s0_19 s0_19' hs0_19
    subst hs0_19
    refine sm_ex (fun n23 => ?_)
    refine smFX11_isTwice_23 this p1 p2 hQj n23 _ _ rfl _ _ (show (nI 0).toInt = 0 by decide)
  refine sm_join (fun (k18 : JP) (k18' : MP) => SM k18 k18') ?_ (fun k18 k18' hk18 => ?_)
  · exact hk19 _ _ (show (nI 0).toInt = 0 by decide)
  refine sm_if (cI_le rfl (show (nI 0).toInt = 0 by decide)) ?_ ?_
  · exact hk18
  · refine sm_getA rfl (fun v5 => ?_)
    refine sm_aldI (by decide) (show (nI 7).toInt = 7 by decide) (fun v10 => ?_)
    refine sm_if (cI_le rfl (show (nI 0).toInt = 0 by decide)) ?_ ?_
    · exact hk18
    · exact hk19 _ _ (show (nI 1).toInt = 1 by decide)
theorem sm_X11_ofTwice : ∀ (x0 : Nat), ∀ (x1 : Int32) (X1 : Int), x1.toInt = X1 → ∀ (x2 : Int32) (X2 : Int), x2.toInt = X2 → ∀ (x3 : Int32) (X3 : Int), x3.toInt = X3 → ∀ (x4 : Int32 → JP) (X4 : Int → MP), (∀ (x0 : Int32) (X0 : Int), x0.toInt = X0 → SM (x4 x0) (X4 X0)) → SM (JX11_ofTwice x0 x1 x2 x3 x4) (MX11_ofTwice x0 X1 X2 X3 X4) := by
  intro this p1 p1' hp1 p2 p2' hp2 p3 p3' hp3 Qj Qj' hQj
  subst hp1
  subst hp2
  subst hp3
  unfold JX11_ofTwice MX11_ofTwice
  refine sm_join (fun (k15 : JP) (k15' : MP) => SM k15 k15') ?_ (fun k15 k15' hk15 => ?_)
  · exact hQj _ _ (show (nI 1000).toInt = 1000 by decide)
  refine sm_if (cI_eq rfl (show (nI 0).toInt = 0 by decide)) ?_ ?_
  · exact hk15
  · refine sm_obj ?_
    refine sm_X11_isTwice this _ _ rfl _ _ (tc_sub rfl (show (nI 1).toInt = 1 by decide)) _ _ ?_
    intro v9 v9' hv9
    subst hv9
    refine sm_if (cI_eq rfl (show (nI 0).toInt = 0 by decide)) ?_ ?_
    · exact hk15
    · refine sm_getA rfl (fun v22 => ?_)
      refine sm_X11_sumAt _ _ rfl _ _ rfl _ _ (tc_sub rfl (show (nI 1).toInt = 1 by decide)) _ _ ?_
      intro v30 v30' hv30
      subst hv30
      refine sm_aldI (by decide) rfl (fun v33 => ?_)
      refine sm_getA rfl (fun v35 => ?_)
      refine sm_aldI (by decide) (show (nI 7).toInt = 7 by decide) (fun v40 => ?_)
      exact hQj _ _ (tc_add rfl rfl)
theorem smFX11_sums_2 (this : Nat) (p1 : Int32) (p2 : Int32) {Qj : JP} {Qj' : MP} (hQj : SM Qj Qj') : ∀ n : Nat, ∀ (x0 : Int32) (X0 : Int), x0.toInt = X0 → SM (jit (FX11_sums_2 this p1 p2 Qj) (fun _ => jbot) n x0) (jit (GX11_sums_2 this p1.toInt p2.toInt Qj') (fun _ => mbot) n X0) := by
  intro n
  induction n with
  | zero =>
    intro x3_2 x3_2' hx3_2
    exact SM.bot
  | succ n ih =>
    intro x3_2 x3_2' hx3_2
    subst hx3_2
    show SM (FX11_sums_2 this p1 p2 Qj (jit (FX11_sums_2 this p1 p2 Qj) (fun _ => jbot) n) x3_2) (GX11_sums_2 this p1.toInt p2.toInt Qj' (jit (GX11_sums_2 this p1.toInt p2.toInt Qj') (fun _ => mbot) n) x3_2.toInt)
    generalize jit (FX11_sums_2 this p1 p2 Qj) (fun _ => jbot) n = rec2 at ih ⊢
    generalize jit (GX11_sums_2 this p1.toInt p2.toInt Qj') (fun _ => mbot) n = rec2' at ih ⊢
    have hrec2 := ih
    unfold FX11_sums_2 GX11_sums_2
    refine sm_obj ?_
    refine sm_X11_notes this _ _ rfl _ _ ?_
    intro v5 v5' hv5
    subst hv5
    refine sm_if (cI_lt rfl rfl) ?_ ?_
    · exact hQj
    · refine sm_join (fun (k48 : Int32 → JP) (k48' : Int → MP) => ∀ (x0 : Int32) (X0 : Int), x0.toInt = X0 → SM (k48 x0) (k48' X0)) ?_ (fun k48 k48' hk48 => ?_)
      · intro s0_48 s0_48' hs0_48
        subst hs0_48
        refine sm_getA rfl (fun v51 => ?_)
        refine sm_X11_sumAt _ _ rfl _ _ rfl _ _ rfl _ _ ?_
        intro v57 v57' hv57
        subst hv57
        refine sm_astI rfl (tc_min (show (nI 1000).toInt = 1000 by decide) rfl) ?_
        exact hrec2 _ _ (tc_add rfl (show (nI 1).toInt = 1 by decide))
      refine sm_if (cI_eq (tc_add rfl rfl) (show (nI 0).toInt = 0 by decide)) ?_ ?_
      · exact hk48 _ _ (show (nI 0).toInt = 0 by decide)
      · refine sm_obj ?_
        refine sm_X11_ofMove this _ _ rfl _ _ rfl _ _ rfl _ _ ?_
        intro v25 v25' hv25
        subst hv25
        refine sm_obj ?_
        refine sm_X11_ofLost this _ _ rfl _ _ rfl _ _ rfl _ _ ?_
        intro v32 v32' hv32
        subst hv32
        refine sm_obj ?_
        refine sm_X11_ofTwice this _ _ rfl _ _ rfl _ _ rfl _ _ ?_
        intro v39 v39' hv39
        subst hv39
        exact hk48 _ _ (tc_min rfl (tc_min rfl rfl))
theorem sm_X11_sums : ∀ (x0 : Nat), ∀ (x1 : Int32) (X1 : Int), x1.toInt = X1 → ∀ (x2 : Int32) (X2 : Int), x2.toInt = X2 → ∀ (x3 : JP) (X3 : MP), SM x3 X3 → SM (JX11_sums x0 x1 x2 x3) (MX11_sums x0 X1 X2 X3) := by
  intro this p1 p1' hp1 p2 p2' hp2 Qj Qj' hQj
  subst hp1
  subst hp2
  unfold JX11_sums MX11_sums
  refine sm_ex (fun n2 => ?_)
  refine smFX11_sums_2 this p1 p2 hQj n2 _ _ (show (nI 0).toInt = 0 by decide)
theorem smFX11_prices_46 (this : Nat) (p1 : Int32) (x2_12 : Int32) {k79 : Int32 → JP} {k79' : Int → MP} (hk79 : ∀ (x0 : Int32) (X0 : Int), x0.toInt = X0 → SM (k79 x0) (k79' X0)) : ∀ n : Nat, ∀ (x0 : Int32) (X0 : Int), x0.toInt = X0 → ∀ (x1 : Int32) (X1 : Int), x1.toInt = X1 → SM (jit (FX11_prices_46 this p1 x2_12 k79) (fun _ _ => jbot) n x0 x1) (jit (GX11_prices_46 this p1.toInt x2_12.toInt k79') (fun _ _ => mbot) n X0 X1) := by
  intro n
  induction n with
  | zero =>
    intro x3_46 x3_46' hx3_46 x4_46 x4_46' hx4_46
    exact SM.bot
  | succ n ih =>
    intro x3_46 x3_46' hx3_46 x4_46 x4_46' hx4_46
    subst hx3_46
    subst hx4_46
    show SM (FX11_prices_46 this p1 x2_12 k79 (jit (FX11_prices_46 this p1 x2_12 k79) (fun _ _ => jbot) n) x3_46 x4_46) (GX11_prices_46 this p1.toInt x2_12.toInt k79' (jit (GX11_prices_46 this p1.toInt x2_12.toInt k79') (fun _ _ => mbot) n) x3_46.toInt x4_46.toInt)
    generalize jit (FX11_prices_46 this p1 x2_12 k79) (fun _ _ => jbot) n = rec46 at ih ⊢
    generalize jit (GX11_prices_46 this p1.toInt x2_12.toInt k79') (fun _ _ => mbot) n = rec46' at ih ⊢
    have hrec46 := ih
    unfold FX11_prices_46 GX11_prices_46
    refine sm_obj ?_
    refine sm_X11_notes this _ _ rfl _ _ ?_
    intro v50 v50' hv50
    subst hv50
    refine sm_if (cI_lt rfl rfl) ?_ ?_
    · exact hk79 _ _ rfl
    · refine sm_getA rfl (fun v58 => ?_)
      refine sm_X11_sumAt _ _ rfl _ _ rfl _ _ rfl _ _ ?_
      intro v65 v65' hv65
      subst hv65
      refine sm_aldI (by decide) rfl (fun v68 => ?_)
      exact hrec46 _ _ (tc_min rfl rfl) _ _ (tc_add rfl (show (nI 1).toInt = 1 by decide))
theorem smFX11_prices_12 (this : Nat) (p1 : Int32) {Qj : JP} {Qj' : MP} (hQj : SM Qj Qj') : ∀ n : Nat, ∀ (x0 : Int32) (X0 : Int), x0.toInt = X0 → SM (jit (FX11_prices_12 this p1 Qj) (fun _ => jbot) n x0) (jit (GX11_prices_12 this p1.toInt Qj') (fun _ => mbot) n X0) := by
  intro n
  induction n with
  | zero =>
    intro x2_12 x2_12' hx2_12
    exact SM.bot
  | succ n ih =>
    intro x2_12 x2_12' hx2_12
    subst hx2_12
    show SM (FX11_prices_12 this p1 Qj (jit (FX11_prices_12 this p1 Qj) (fun _ => jbot) n) x2_12) (GX11_prices_12 this p1.toInt Qj' (jit (GX11_prices_12 this p1.toInt Qj') (fun _ => mbot) n) x2_12.toInt)
    generalize jit (FX11_prices_12 this p1 Qj) (fun _ => jbot) n = rec12 at ih ⊢
    generalize jit (GX11_prices_12 this p1.toInt Qj') (fun _ => mbot) n = rec12' at ih ⊢
    have hrec12 := ih
    unfold FX11_prices_12 GX11_prices_12
    refine sm_getA rfl (fun v14 => ?_)
    refine sm_aldI (by decide) (show (nI 1).toInt = 1 by decide) (fun v18 => ?_)
    refine sm_if (cI_le rfl rfl) ?_ ?_
    · exact hQj
    · refine sm_obj ?_
      refine sm_X11_isAsked this _ _ rfl _ _ ?_
      intro v24 v24' hv24
      subst hv24
      refine sm_join (fun (k113 : JP) (k113' : MP) => SM k113 k113') ?_ (fun k113 k113' hk113 => ?_)
      · exact hrec12 _ _ (tc_add rfl (show (nI 1).toInt = 1 by decide))
      refine sm_if (cI_eq rfl (show (nI 0).toInt = 0 by decide)) ?_ ?_
      · exact hk113
      · refine sm_obj ?_
        refine sm_X11_sums this _ _ rfl _ _ rfl _ _ ?_
        refine sm_ex (fun n46 => ?_)
        refine smFX11_prices_46 this p1 x2_12 ?_ n46 _ _ (show (nI 1000).toInt = 1000 by decide) _ _ (show (nI 0).toInt = 0 by decide)
        · intro y3_79 y3_79' hy3_79
          subst hy3_79
          refine sm_getI rfl (fun v81 => ?_)
          refine sm_putI rfl (tc_add rfl rfl) ?_
          refine sm_getI rfl (fun v91 => ?_)
          refine sm_getA rfl (fun v95 => ?_)
          refine sm_obj ?_
          refine sm_X11_notes this _ _ rfl _ _ ?_
          intro v102 v102' hv102
          subst hv102
          refine sm_X11_sumAt _ _ rfl _ _ rfl _ _ rfl _ _ ?_
          intro v105 v105' hv105
          subst hv105
          refine sm_aldI (by decide) rfl (fun v108 => ?_)
          refine sm_putI rfl (tc_add rfl rfl) ?_
          exact hk113
theorem sm_X11_prices : ∀ (x0 : Nat), ∀ (x1 : Int32) (X1 : Int), x1.toInt = X1 → ∀ (x2 : JP) (X2 : MP), SM x2 X2 → SM (JX11_prices x0 x1 x2) (MX11_prices x0 X1 X2) := by
  intro this p1 p1' hp1 Qj Qj' hQj
  subst hp1
  unfold JX11_prices MX11_prices
  refine sm_putI rfl (show (nI 0).toInt = 0 by decide) ?_
  refine sm_putI rfl (show (nI 0).toInt = 0 by decide) ?_
  refine sm_ex (fun n12 => ?_)
  refine smFX11_prices_12 this p1 hQj n12 _ _ (show (nI 0).toInt = 0 by decide)
theorem sm_X11_valueOf : ∀ (x0 : Nat), ∀ (x1 : Int32) (X1 : Int), x1.toInt = X1 → ∀ (x2 : Int32 → JP) (X2 : Int → MP), (∀ (x0 : Int32) (X0 : Int), x0.toInt = X0 → SM (x2 x0) (X2 X0)) → SM (JX11_valueOf x0 x1 x2) (MX11_valueOf x0 X1 X2) := by
  intro this p1 p1' hp1 Qj Qj' hQj
  subst hp1
  unfold JX11_valueOf MX11_valueOf
  refine sm_getA rfl (fun v1 => ?_)
  refine sm_aldI (by decide) (tc_add (show (nI 49).toInt = 49 by decide) (tc_mul (show (nI 14).toInt = 14 by decide) rfl)) (fun v11 => ?_)
  exact hQj _ _ rfl
theorem smFX11_holdsLine_11 (this : Nat) (p1 : Int32) {k258 : Int32 → JP} {k258' : Int → MP} (hk258 : ∀ (x0 : Int32) (X0 : Int), x0.toInt = X0 → SM (k258 x0) (k258' X0)) : ∀ n : Nat, ∀ (x0 : Int32) (X0 : Int), x0.toInt = X0 → ∀ (x1 : Int32) (X1 : Int), x1.toInt = X1 → SM (jit (FX11_holdsLine_11 this p1 k258) (fun _ _ => jbot) n x0 x1) (jit (GX11_holdsLine_11 this p1.toInt k258') (fun _ _ => mbot) n X0 X1) := by
  intro n
  induction n with
  | zero =>
    intro x2_11 x2_11' hx2_11 x3_11 x3_11' hx3_11
    exact SM.bot
  | succ n ih =>
    intro x2_11 x2_11' hx2_11 x3_11 x3_11' hx3_11
    subst hx2_11
    subst hx3_11
    show SM (FX11_holdsLine_11 this p1 k258 (jit (FX11_holdsLine_11 this p1 k258) (fun _ _ => jbot) n) x2_11 x3_11) (GX11_holdsLine_11 this p1.toInt k258' (jit (GX11_holdsLine_11 this p1.toInt k258') (fun _ _ => mbot) n) x2_11.toInt x3_11.toInt)
    generalize jit (FX11_holdsLine_11 this p1 k258) (fun _ _ => jbot) n = rec11 at ih ⊢
    generalize jit (GX11_holdsLine_11 this p1.toInt k258') (fun _ _ => mbot) n = rec11' at ih ⊢
    have hrec11 := ih
    unfold FX11_holdsLine_11 GX11_holdsLine_11
    refine sm_getA rfl (fun v13 => ?_)
    refine sm_aldI (by decide) (tc_add rfl (show (nI 3).toInt = 3 by decide)) (fun v19 => ?_)
    refine sm_if (cI_le rfl rfl) ?_ ?_
    · exact hk258 _ _ rfl
    · refine sm_getA rfl (fun v24 => ?_)
      refine sm_aldI (by decide) (tc_add (show (nI 484).toInt = 484 by decide) (tc_mul (show (nI 2).toInt = 2 by decide) rfl)) (fun v34 => ?_)
      refine sm_join (fun (k252 : Int32 → JP) (k252' : Int → MP) => ∀ (x0 : Int32) (X0 : Int), x0.toInt = X0 → SM (k252 x0) (k252' X0)) ?_ (fun k252 k252' hk252 => ?_)
      · intro x2_252 x2_252' hx2_252
        subst hx2_252
        exact hrec11 _ _ rfl _ _ (tc_add rfl (show (nI 1).toInt = 1 by decide))
      refine sm_if (cI_lt (show (nI 6).toInt = 6 by decide) rfl) ?_ ?_
      · refine sm_if (cI_eq rfl (show (nI 10).toInt = 10 by decide)) ?_ ?_
        · refine sm_getA rfl (fun v95 => ?_)
          refine sm_getA rfl (fun v103 => ?_)
          refine sm_aldI (by decide) (tc_sub rfl (show (nI 1).toInt = 1 by decide)) (fun v109 => ?_)
          refine sm_astI (tc_sub rfl (show (nI 1).toInt = 1 by decide)) (tc_sub (show (nI 1).toInt = 1 by decide) rfl) ?_
          exact hk252 _ _ rfl
        · refine sm_getA rfl (fun v119 => ?_)
          refine sm_aldI (by decide) (tc_sub (tc_add rfl (show ((-1) : Int32).toInt = (-1) by decide)) (show (nI 1).toInt = 1 by decide)) (fun v125 => ?_)
          refine sm_getA rfl (fun v129 => ?_)
          refine sm_aldI (by decide) (tc_add rfl (show ((-1) : Int32).toInt = (-1) by decide)) (fun v133 => ?_)
          refine sm_join (fun (k217 : Int32 → JP) (k217' : Int → MP) => ∀ (x0 : Int32) (X0 : Int), x0.toInt = X0 → SM (k217 x0) (k217' X0)) ?_ (fun k217 k217' hk217 => ?_)
          · intro s0_217 s0_217' hs0_217
            subst hs0_217
            refine sm_getA rfl (fun v220 => ?_)
            refine sm_join (fun (k251 : Int32 → JP) (k251' : Int → MP) => ∀ (x0 : Int32) (X0 : Int), x0.toInt = X0 → SM (k251 x0) (k251' X0)) ?_ (fun k251 k251' hk251 => ?_)
            · intro s2_251 s2_251' hs2_251
              subst hs2_251
              refine sm_astI (tc_sub (tc_add rfl (show ((-1) : Int32).toInt = (-1) by decide)) (show (nI 1).toInt = 1 by decide)) rfl ?_
              exact hk252 _ _ (tc_add rfl (show ((-1) : Int32).toInt = (-1) by decide))
            refine sm_if (cI_eq rfl (show (nI 7).toInt = 7 by decide)) ?_ ?_
            · exact hk251 _ _ (tc_add rfl rfl)
            · refine sm_if (cI_eq rfl (show (nI 0).toInt = 0 by decide)) ?_ ?_
              · exact hk251 _ _ (show (nI 0).toInt = 0 by decide)
              · exact hk251 _ _ (show (nI 1).toInt = 1 by decide)
          refine sm_if (cI_eq rfl (show (nI 8).toInt = 8 by decide)) ?_ ?_
          · refine sm_if (cI_le rfl rfl) ?_ ?_
            · exact hk217 _ _ (show (nI 0).toInt = 0 by decide)
            · exact hk217 _ _ (show (nI 1).toInt = 1 by decide)
          · refine sm_if (cI_eq rfl (show (nI 9).toInt = 9 by decide)) ?_ ?_
            · refine sm_if (cI_le rfl rfl) ?_ ?_
              · exact hk217 _ _ (show (nI 0).toInt = 0 by decide)
              · exact hk217 _ _ (show (nI 1).toInt = 1 by decide)
            · refine sm_if (cI_eq rfl (show (nI 11).toInt = 11 by decide)) ?_ ?_
              · refine sm_if (cI_eq (tc_add rfl rfl) (show (nI 2).toInt = 2 by decide)) ?_ ?_
                · exact hk217 _ _ (show (nI 1).toInt = 1 by decide)
                · exact hk217 _ _ (show (nI 0).toInt = 0 by decide)
              · refine sm_if (cI_le (tc_add rfl rfl) (show (nI 0).toInt = 0 by decide)) ?_ ?_
                · exact hk217 _ _ (show (nI 0).toInt = 0 by decide)
                · exact hk217 _ _ (show (nI 1).toInt = 1 by decide)
      · refine sm_getA rfl (fun v45 => ?_)
        refine sm_join (fun (k80 : Int32 → JP) (k80' : Int → MP) => ∀ (x0 : Int32) (X0 : Int), x0.toInt = X0 → SM (k80 x0) (k80' X0)) ?_ (fun k80 k80' hk80 => ?_)
        · intro s2_80 s2_80' hs2_80
          subst hs2_80
          refine sm_astI rfl rfl ?_
          exact hk252 _ _ (tc_add rfl (show (nI 1).toInt = 1 by decide))
        refine sm_if (cI_eq rfl (show (nI 6).toInt = 6 by decide)) ?_ ?_
        · refine sm_getA rfl (fun v57 => ?_)
          refine sm_aldI (by decide) (tc_add (tc_add (show (nI 484).toInt = 484 by decide) (tc_mul (show (nI 2).toInt = 2 by decide) rfl)) (show (nI 1).toInt = 1 by decide)) (fun v69 => ?_)
          exact hk80 _ _ rfl
        · refine sm_getA rfl (fun v74 => ?_)
          refine sm_aldI (by decide) rfl (fun v79 => ?_)
          exact hk80 _ _ rfl
theorem sm_X11_holdsLine : ∀ (x0 : Nat), ∀ (x1 : Int32) (X1 : Int), x1.toInt = X1 → ∀ (x2 : Int32 → JP) (X2 : Int → MP), (∀ (x0 : Int32) (X0 : Int), x0.toInt = X0 → SM (x2 x0) (X2 X0)) → SM (JX11_holdsLine x0 x1 x2) (MX11_holdsLine x0 X1 X2) := by
  intro this p1 p1' hp1 Qj Qj' hQj
  subst hp1
  unfold JX11_holdsLine MX11_holdsLine
  refine sm_getA rfl (fun v3 => ?_)
  refine sm_aldI (by decide) (tc_add rfl (show (nI 2).toInt = 2 by decide)) (fun v9 => ?_)
  refine sm_ex (fun n11 => ?_)
  refine smFX11_holdsLine_11 this p1 ?_ n11 _ _ (show (nI 0).toInt = 0 by decide) _ _ rfl
  · intro y2_258 y2_258' hy2_258
    subst hy2_258
    refine sm_join (fun (k272 : JP) (k272' : MP) => SM k272 k272') ?_ (fun k272 k272' hk272 => ?_)
    · exact hQj _ _ (show (nI 1).toInt = 1 by decide)
    refine sm_if (cI_eq rfl (show (nI 0).toInt = 0 by decide)) ?_ ?_
    · exact hk272
    · refine sm_getA rfl (fun v263 => ?_)
      refine sm_aldI (by decide) (show (nI 0).toInt = 0 by decide) (fun v267 => ?_)
      refine sm_if (cI_eq rfl (show (nI 1).toInt = 1 by decide)) ?_ ?_
      · exact hk272
      · exact hQj _ _ (show (nI 0).toInt = 0 by decide)
theorem smFX11_measured_4 (this : Nat) {Qj : Int32 → JP} {Qj' : Int → MP} (hQj : ∀ (x0 : Int32) (X0 : Int), x0.toInt = X0 → SM (Qj x0) (Qj' X0)) : ∀ n : Nat, ∀ (x0 : Int32) (X0 : Int), x0.toInt = X0 → ∀ (x1 : Int32) (X1 : Int), x1.toInt = X1 → SM (jit (FX11_measured_4 this Qj) (fun _ _ => jbot) n x0 x1) (jit (GX11_measured_4 this Qj') (fun _ _ => mbot) n X0 X1) := by
  intro n
  induction n with
  | zero =>
    intro x1_4 x1_4' hx1_4 x2_4 x2_4' hx2_4
    exact SM.bot
  | succ n ih =>
    intro x1_4 x1_4' hx1_4 x2_4 x2_4' hx2_4
    subst hx1_4
    subst hx2_4
    show SM (FX11_measured_4 this Qj (jit (FX11_measured_4 this Qj) (fun _ _ => jbot) n) x1_4 x2_4) (GX11_measured_4 this Qj' (jit (GX11_measured_4 this Qj') (fun _ _ => mbot) n) x1_4.toInt x2_4.toInt)
    generalize jit (FX11_measured_4 this Qj) (fun _ _ => jbot) n = rec4 at ih ⊢
    generalize jit (GX11_measured_4 this Qj') (fun _ _ => mbot) n = rec4' at ih ⊢
    have hrec4 := ih
    unfold FX11_measured_4 GX11_measured_4
    refine sm_getA rfl (fun v6 => ?_)
    refine sm_aldI (by decide) (show (nI 443).toInt = 443 by decide) (fun v12 => ?_)
    refine sm_if (cI_le rfl rfl) ?_ ?_
    · exact hQj _ _ rfl
    · refine sm_obj ?_
      refine sm_X11_holdsLine this _ _ (tc_add (show (nI 444).toInt = 444 by decide) (tc_mul (show (nI 4).toInt = 4 by decide) rfl)) _ _ ?_
      intro v26 v26' hv26
      subst hv26
      refine sm_join (fun (k70 : Int32 → JP) (k70' : Int → MP) => ∀ (x0 : Int32) (X0 : Int), x0.toInt = X0 → SM (k70 x0) (k70' X0)) ?_ (fun k70 k70' hk70 => ?_)
      · intro x1_70 x1_70' hx1_70
        subst hx1_70
        exact hrec4 _ _ rfl _ _ (tc_add rfl (show (nI 1).toInt = 1 by decide))
      refine sm_if (cI_eq rfl (show (nI 0).toInt = 0 by decide)) ?_ ?_
      · exact hk70 _ _ rfl
      · refine sm_getA rfl (fun v34 => ?_)
        refine sm_aldI (by decide) (tc_add (show (nI 444).toInt = 444 by decide) (tc_mul (show (nI 4).toInt = 4 by decide) rfl)) (fun v38 => ?_)
        refine sm_getA rfl (fun v40 => ?_)
        refine sm_aldI (by decide) (tc_add (tc_add (show (nI 444).toInt = 444 by decide) (tc_mul (show (nI 4).toInt = 4 by decide) rfl)) (show (nI 1).toInt = 1 by decide)) (fun v46 => ?_)
        refine sm_join (fun (k67 : Int32 → JP) (k67' : Int → MP) => ∀ (x0 : Int32) (X0 : Int), x0.toInt = X0 → SM (k67 x0) (k67' X0)) ?_ (fun k67 k67' hk67 => ?_)
        · intro s2_67 s2_67' hs2_67
          subst hs2_67
          exact hk70 _ _ (tc_add rfl (tc_mul rfl rfl))
        refine sm_if (cI_le (show (nI 0).toInt = 0 by decide) rfl) ?_ ?_
        · refine sm_getA rfl (fun v55 => ?_)
          refine sm_getA rfl (fun v59 => ?_)
          refine sm_aldI (by decide) (tc_add (tc_add (show (nI 444).toInt = 444 by decide) (tc_mul (show (nI 4).toInt = 4 by decide) rfl)) (show (nI 1).toInt = 1 by decide)) (fun v65 => ?_)
          refine sm_aldI (by decide) rfl (fun v66 => ?_)
          exact hk67 _ _ rfl
        · exact hk67 _ _ (show (nI 1).toInt = 1 by decide)
theorem sm_X11_measured : ∀ (x0 : Nat), ∀ (x1 : Int32 → JP) (X1 : Int → MP), (∀ (x0 : Int32) (X0 : Int), x0.toInt = X0 → SM (x1 x0) (X1 X0)) → SM (JX11_measured x0 x1) (MX11_measured x0 X1) := by
  intro this Qj Qj' hQj
  unfold JX11_measured MX11_measured
  refine sm_ex (fun n4 => ?_)
  refine smFX11_measured_4 this hQj n4 _ _ (show (nI 0).toInt = 0 by decide) _ _ (show (nI 0).toInt = 0 by decide)
theorem smFX11_measures_121 (this : Nat) (p1 : Int32) (v19 : Int32) (v39 : Int32) {k204 : JP} {k204' : MP} (hk204 : SM k204 k204') : ∀ n : Nat, ∀ (x0 : Int32) (X0 : Int), x0.toInt = X0 → SM (jit (FX11_measures_121 this p1 v19 v39 k204) (fun _ => jbot) n x0) (jit (GX11_measures_121 this p1.toInt v19.toInt v39.toInt k204') (fun _ => mbot) n X0) := by
  intro n
  induction n with
  | zero =>
    intro x6_121 x6_121' hx6_121
    exact SM.bot
  | succ n ih =>
    intro x6_121 x6_121' hx6_121
    subst hx6_121
    show SM (FX11_measures_121 this p1 v19 v39 k204 (jit (FX11_measures_121 this p1 v19 v39 k204) (fun _ => jbot) n) x6_121) (GX11_measures_121 this p1.toInt v19.toInt v39.toInt k204' (jit (GX11_measures_121 this p1.toInt v19.toInt v39.toInt k204') (fun _ => mbot) n) x6_121.toInt)
    generalize jit (FX11_measures_121 this p1 v19 v39 k204) (fun _ => jbot) n = rec121 at ih ⊢
    generalize jit (GX11_measures_121 this p1.toInt v19.toInt v39.toInt k204') (fun _ => mbot) n = rec121' at ih ⊢
    have hrec121 := ih
    unfold FX11_measures_121 GX11_measures_121
    refine sm_if (cI_le (show (nI 36).toInt = 36 by decide) rfl) ?_ ?_
    · exact hk204
    · refine sm_getA rfl (fun v129 => ?_)
      refine sm_aldI (by decide) (show (nI 3).toInt = 3 by decide) (fun v134 => ?_)
      refine sm_obj ?_
      refine sm_X11_at this _ _ rfl _ _ rfl _ _ ?_
      intro v139 v139' hv139
      subst hv139
      refine sm_join (fun (k168 : Int32 → JP) (k168' : Int → MP) => ∀ (x0 : Int32) (X0 : Int), x0.toInt = X0 → SM (k168 x0) (k168' X0)) ?_ (fun k168 k168' hk168 => ?_)
      · intro s3_168 s3_168' hs3_168
        subst hs3_168
        refine sm_astI (show (nI 3).toInt = 3 by decide) (tc_add rfl rfl) ?_
        refine sm_getA rfl (fun v171 => ?_)
        refine sm_aldI (by decide) (tc_add (tc_add (tc_mul (show (nI 1296).toInt = 1296 by decide) rfl) (tc_mul (show (nI 36).toInt = 36 by decide) rfl)) (tc_rem rfl (show (nI 36).toInt = 36 by decide))) (fun v187 => ?_)
        refine sm_join (fun (k198 : JP) (k198' : MP) => SM k198 k198') ?_ (fun k198 k198' hk198 => ?_)
        · exact hrec121 _ _ (tc_add rfl (show (nI 1).toInt = 1 by decide))
        refine sm_if (cI_eq rfl (show (nI 0).toInt = 0 by decide)) ?_ ?_
        · exact hk198
        · refine sm_getA rfl (fun v192 => ?_)
          refine sm_astI (show (nI 5).toInt = 5 by decide) (show (nI 0).toInt = 0 by decide) ?_
          exact hk198
      refine sm_join (fun (k167 : JP) (k167' : MP) => SM k167 k167') ?_ (fun k167 k167' hk167 => ?_)
      · exact hk168 _ _ (show (nI 0).toInt = 0 by decide)
      refine sm_if (cI_lt rfl (show (nI 0).toInt = 0 by decide)) ?_ ?_
      · exact hk167
      · refine sm_obj ?_
        refine sm_X11_at this _ _ rfl _ _ rfl _ _ ?_
        intro v149 v149' hv149
        subst hv149
        refine sm_X11_sideOf _ _ rfl _ _ ?_
        intro v152 v152' hv152
        subst hv152
        refine sm_X11_sideOf _ _ rfl _ _ ?_
        intro v157 v157' hv157
        subst hv157
        refine sm_if (cI_eq rfl rfl) ?_ ?_
        · exact hk168 _ _ (show (nI 1).toInt = 1 by decide)
        · exact hk167
theorem sm_X11_measures : ∀ (x0 : Nat), ∀ (x1 : Int32) (X1 : Int), x1.toInt = X1 → ∀ (x2 : JP) (X2 : MP), SM x2 X2 → SM (JX11_measures x0 x1 x2) (MX11_measures x0 X1 X2) := by
  intro this p1 p1' hp1 Qj Qj' hQj
  subst hp1
  unfold JX11_measures MX11_measures
  refine sm_if (cI_eq rfl (show (nI 0).toInt = 0 by decide)) ?_ ?_
  · refine sm_getA rfl (fun v5 => ?_)
    refine sm_astI (show (nI 0).toInt = 0 by decide) (show (nI 0).toInt = 0 by decide) ?_
    exact hQj
  · refine sm_getA rfl (fun v13 => ?_)
    refine sm_aldI (by decide) (tc_sub rfl (show (nI 1).toInt = 1 by decide)) (fun v19 => ?_)
    refine sm_obj ?_
    refine sm_X11_at this _ _ (tc_sub rfl (show (nI 1).toInt = 1 by decide)) _ _ (tc_rem rfl (show (nI 36).toInt = 36 by decide)) _ _ ?_
    intro v31 v31' hv31
    subst hv31
    refine sm_obj ?_
    refine sm_X11_at this _ _ rfl _ _ (tc_rem rfl (show (nI 36).toInt = 36 by decide)) _ _ ?_
    intro v39 v39' hv39
    subst hv39
    refine sm_getA rfl (fun v45 => ?_)
    refine sm_join (fun (k66 : Int32 → JP) (k66' : Int → MP) => ∀ (x0 : Int32) (X0 : Int), x0.toInt = X0 → SM (k66 x0) (k66' X0)) ?_ (fun k66 k66' hk66 => ?_)
    · intro s2_66 s2_66' hs2_66
      subst hs2_66
      refine sm_astI (show (nI 0).toInt = 0 by decide) rfl ?_
      refine sm_getA rfl (fun v68 => ?_)
      refine sm_obj ?_
      refine sm_X11_valueOf this _ _ (tc_div rfl (show (nI 2).toInt = 2 by decide)) _ _ ?_
      intro v77 v77' hv77
      subst hv77
      refine sm_astI (show (nI 1).toInt = 1 by decide) rfl ?_
      refine sm_getA rfl (fun v82 => ?_)
      refine sm_astI (show (nI 2).toInt = 2 by decide) rfl ?_
      refine sm_getA rfl (fun v89 => ?_)
      refine sm_join (fun (k103 : Int32 → JP) (k103' : Int → MP) => ∀ (x0 : Int32) (X0 : Int), x0.toInt = X0 → SM (k103 x0) (k103' X0)) ?_ (fun k103 k103' hk103 => ?_)
      · intro s2_103 s2_103' hs2_103
        subst hs2_103
        refine sm_astI (show (nI 4).toInt = 4 by decide) rfl ?_
        refine sm_getA rfl (fun v105 => ?_)
        refine sm_astI (show (nI 5).toInt = 5 by decide) (show (nI 1).toInt = 1 by decide) ?_
        refine sm_getA rfl (fun v112 => ?_)
        refine sm_astI (show (nI 3).toInt = 3 by decide) (show (nI 0).toInt = 0 by decide) ?_
        refine sm_ex (fun n121 => ?_)
        refine smFX11_measures_121 this p1 v19 v39 ?_ n121 _ _ (show (nI 0).toInt = 0 by decide)
        · refine sm_getA rfl (fun v205 => ?_)
          refine sm_getA rfl (fun v210 => ?_)
          refine sm_aldI (by decide) (tc_sub rfl (show (nI 1).toInt = 1 by decide)) (fun v216 => ?_)
          refine sm_getA rfl (fun v218 => ?_)
          refine sm_aldI (by decide) (show (nI 4).toInt = 4 by decide) (fun v222 => ?_)
          refine sm_join (fun (k235 : Int32 → JP) (k235' : Int → MP) => ∀ (x0 : Int32) (X0 : Int), x0.toInt = X0 → SM (k235 x0) (k235' X0)) ?_ (fun k235 k235' hk235 => ?_)
          · intro s3_235 s3_235' hs3_235
            subst hs3_235
            refine sm_astI rfl (tc_add rfl rfl) ?_
            exact hQj
          refine sm_if (cI_eq rfl (show (nI 1).toInt = 1 by decide)) ?_ ?_
          · refine sm_obj ?_
            refine sm_X11_measured this _ _ ?_
            intro v228 v228' hv228
            subst hv228
            exact hk235 _ _ rfl
          · exact hk235 _ _ (show (nI 0).toInt = 0 by decide)
      refine sm_if (cI_le (show (nI 0).toInt = 0 by decide) rfl) ?_ ?_
      · exact hk103 _ _ (show (nI 1).toInt = 1 by decide)
      · exact hk103 _ _ (show (nI 0).toInt = 0 by decide)
    refine sm_if (cI_le (show (nI 0).toInt = 0 by decide) rfl) ?_ ?_
    · refine sm_obj ?_
      refine sm_X11_valueOf this _ _ (tc_div rfl (show (nI 2).toInt = 2 by decide)) _ _ ?_
      intro v63 v63' hv63
      subst hv63
      exact hk66 _ _ rfl
    · exact hk66 _ _ (show (nI 0).toInt = 0 by decide)
theorem smFX11_isBarred_4 (this : Nat) (p1 : Int32) {Qj : Int32 → JP} {Qj' : Int → MP} (hQj : ∀ (x0 : Int32) (X0 : Int), x0.toInt = X0 → SM (Qj x0) (Qj' X0)) : ∀ n : Nat, ∀ (x0 : Int32) (X0 : Int), x0.toInt = X0 → ∀ (x1 : Int32) (X1 : Int), x1.toInt = X1 → SM (jit (FX11_isBarred_4 this p1 Qj) (fun _ _ => jbot) n x0 x1) (jit (GX11_isBarred_4 this p1.toInt Qj') (fun _ _ => mbot) n X0 X1) := by
  intro n
  induction n with
  | zero =>
    intro x2_4 x2_4' hx2_4 x3_4 x3_4' hx3_4
    exact SM.bot
  | succ n ih =>
    intro x2_4 x2_4' hx2_4 x3_4 x3_4' hx3_4
    subst hx2_4
    subst hx3_4
    show SM (FX11_isBarred_4 this p1 Qj (jit (FX11_isBarred_4 this p1 Qj) (fun _ _ => jbot) n) x2_4 x3_4) (GX11_isBarred_4 this p1.toInt Qj' (jit (GX11_isBarred_4 this p1.toInt Qj') (fun _ _ => mbot) n) x2_4.toInt x3_4.toInt)
    generalize jit (FX11_isBarred_4 this p1 Qj) (fun _ _ => jbot) n = rec4 at ih ⊢
    generalize jit (GX11_isBarred_4 this p1.toInt Qj') (fun _ _ => mbot) n = rec4' at ih ⊢
    have hrec4 := ih
    unfold FX11_isBarred_4 GX11_isBarred_4
    refine sm_getA rfl (fun v6 => ?_)
    refine sm_aldI (by decide) (show (nI 2).toInt = 2 by decide) (fun v10 => ?_)
    refine sm_if (cI_le rfl rfl) ?_ ?_
    · refine sm_and (fun h => h.imp (cI_eq rfl (show (nI 0).toInt = 0 by decide)).mpr (cI_eq rfl (show (nI 1).toInt = 1 by decide)).mpr) ?_
      exact hQj _ _ rfl
    · refine sm_getI rfl (fun v15 => ?_)
      refine sm_if (cI_eq rfl (show (nI 0).toInt = 0 by decide)) ?_ ?_
      · refine sm_join (fun (k76 : Int32 → JP) (k76' : Int → MP) => ∀ (x0 : Int32) (X0 : Int), x0.toInt = X0 → SM (k76 x0) (k76' X0)) ?_ (fun k76 k76' hk76 => ?_)
        · intro s0_76 s0_76' hs0_76
          subst hs0_76
          exact hrec4 _ _ rfl _ _ (tc_add rfl (show (nI 1).toInt = 1 by decide))
        refine sm_join (fun (k71 : JP) (k71' : MP) => SM k71 k71') ?_ (fun k71 k71' hk71 => ?_)
        · exact hk76 _ _ (show (nI 1).toInt = 1 by decide)
        refine sm_if (cI_eq rfl (show (nI 0).toInt = 0 by decide)) ?_ ?_
        · refine sm_getA rfl (fun v35 => ?_)
          refine sm_aldI (by decide) (tc_add (show (nI 413).toInt = 413 by decide) (tc_mul (show (nI 3).toInt = 3 by decide) rfl)) (fun v40 => ?_)
          refine sm_join (fun (k75 : JP) (k75' : MP) => SM k75 k75') ?_ (fun k75 k75' hk75 => ?_)
          · exact hk76 _ _ (show (nI 0).toInt = 0 by decide)
          refine sm_if (cI_eq rfl rfl) ?_ ?_
          · refine sm_getA rfl (fun v48 => ?_)
            refine sm_aldI (by decide) (tc_add (tc_add (show (nI 413).toInt = 413 by decide) (tc_mul (show (nI 3).toInt = 3 by decide) rfl)) (show (nI 1).toInt = 1 by decide)) (fun v55 => ?_)
            refine sm_obj ?_
            refine sm_X11_at this _ _ rfl _ _ rfl _ _ ?_
            intro v56 v56' hv56
            subst hv56
            refine sm_getA rfl (fun v60 => ?_)
            refine sm_aldI (by decide) (tc_add (tc_add (show (nI 413).toInt = 413 by decide) (tc_mul (show (nI 3).toInt = 3 by decide) rfl)) (show (nI 2).toInt = 2 by decide)) (fun v67 => ?_)
            refine sm_if (cI_eq rfl rfl) ?_ ?_
            · exact hk75
            · exact hk71
          · exact hk75
        · exact hk71
      · refine sm_and (fun h => h.imp (cI_eq rfl (show (nI 0).toInt = 0 by decide)).mpr (cI_eq rfl (show (nI 1).toInt = 1 by decide)).mpr) ?_
        exact hQj _ _ rfl
theorem sm_X11_isBarred : ∀ (x0 : Nat), ∀ (x1 : Int32) (X1 : Int), x1.toInt = X1 → ∀ (x2 : Int32 → JP) (X2 : Int → MP), (∀ (x0 : Int32) (X0 : Int), x0.toInt = X0 → SM (x2 x0) (X2 X0)) → SM (JX11_isBarred x0 x1 x2) (MX11_isBarred x0 X1 X2) := by
  intro this p1 p1' hp1 Qj Qj' hQj
  subst hp1
  unfold JX11_isBarred MX11_isBarred
  refine sm_ex (fun n4 => ?_)
  refine smFX11_isBarred_4 this p1 hQj n4 _ _ (show (nI 0).toInt = 0 by decide) _ _ (show (nI 0).toInt = 0 by decide)
theorem smFX11_isLongEnough_34 (this : Nat) (p1 : Int32) {Qj : Int32 → JP} {Qj' : Int → MP} (hQj : ∀ (x0 : Int32) (X0 : Int), x0.toInt = X0 → SM (Qj x0) (Qj' X0)) : ∀ n : Nat, ∀ (x0 : Int32) (X0 : Int), x0.toInt = X0 → ∀ (x1 : Int32) (X1 : Int), x1.toInt = X1 → SM (jit (FX11_isLongEnough_34 this p1 Qj) (fun _ _ => jbot) n x0 x1) (jit (GX11_isLongEnough_34 this p1.toInt Qj') (fun _ _ => mbot) n X0 X1) := by
  intro n
  induction n with
  | zero =>
    intro x2_34 x2_34' hx2_34 x3_34 x3_34' hx3_34
    exact SM.bot
  | succ n ih =>
    intro x2_34 x2_34' hx2_34 x3_34 x3_34' hx3_34
    subst hx2_34
    subst hx3_34
    show SM (FX11_isLongEnough_34 this p1 Qj (jit (FX11_isLongEnough_34 this p1 Qj) (fun _ _ => jbot) n) x2_34 x3_34) (GX11_isLongEnough_34 this p1.toInt Qj' (jit (GX11_isLongEnough_34 this p1.toInt Qj') (fun _ _ => mbot) n) x2_34.toInt x3_34.toInt)
    generalize jit (FX11_isLongEnough_34 this p1 Qj) (fun _ _ => jbot) n = rec34 at ih ⊢
    generalize jit (GX11_isLongEnough_34 this p1.toInt Qj') (fun _ _ => mbot) n = rec34' at ih ⊢
    have hrec34 := ih
    unfold FX11_isLongEnough_34 GX11_isLongEnough_34
    refine sm_getA rfl (fun v36 => ?_)
    refine sm_aldI (by decide) (show (nI 2).toInt = 2 by decide) (fun v40 => ?_)
    refine sm_if (cI_le rfl rfl) ?_ ?_
    · refine sm_and (fun h => h.imp (cI_eq rfl (show (nI 0).toInt = 0 by decide)).mpr (cI_eq rfl (show (nI 1).toInt = 1 by decide)).mpr) ?_
      exact hQj _ _ rfl
    · refine sm_getI rfl (fun v45 => ?_)
      refine sm_if (cI_eq rfl (show (nI 0).toInt = 0 by decide)) ?_ ?_
      · refine sm_join (fun (k76 : Int32 → JP) (k76' : Int → MP) => ∀ (x0 : Int32) (X0 : Int), x0.toInt = X0 → SM (k76 x0) (k76' X0)) ?_ (fun k76 k76' hk76 => ?_)
        · intro s0_76 s0_76' hs0_76
          subst hs0_76
          exact hrec34 _ _ rfl _ _ (tc_add rfl (show (nI 1).toInt = 1 by decide))
        refine sm_join (fun (k75 : JP) (k75' : MP) => SM k75 k75') ?_ (fun k75 k75' hk75 => ?_)
        · exact hk76 _ _ (show (nI 0).toInt = 0 by decide)
        refine sm_if (cI_eq rfl (show (nI 0).toInt = 0 by decide)) ?_ ?_
        · exact hk75
        · refine sm_getA rfl (fun v56 => ?_)
          refine sm_aldI (by decide) (tc_add (show (nI 413).toInt = 413 by decide) (tc_mul (show (nI 3).toInt = 3 by decide) rfl)) (fun v66 => ?_)
          refine sm_if (cI_lt rfl rfl) ?_ ?_
          · exact hk75
          · exact hk76 _ _ (show (nI 1).toInt = 1 by decide)
      · refine sm_and (fun h => h.imp (cI_eq rfl (show (nI 0).toInt = 0 by decide)).mpr (cI_eq rfl (show (nI 1).toInt = 1 by decide)).mpr) ?_
        exact hQj _ _ rfl
theorem sm_X11_isLongEnough : ∀ (x0 : Nat), ∀ (x1 : Int32) (X1 : Int), x1.toInt = X1 → ∀ (x2 : Int32 → JP) (X2 : Int → MP), (∀ (x0 : Int32) (X0 : Int), x0.toInt = X0 → SM (x2 x0) (X2 X0)) → SM (JX11_isLongEnough x0 x1 x2) (MX11_isLongEnough x0 X1 X2) := by
  intro this p1 p1' hp1 Qj Qj' hQj
  subst hp1
  unfold JX11_isLongEnough MX11_isLongEnough
  refine sm_getI rfl (fun v1 => ?_)
  refine sm_join (fun (k31 : Int32 → JP) (k31' : Int → MP) => ∀ (x0 : Int32) (X0 : Int), x0.toInt = X0 → SM (k31 x0) (k31' X0)) ?_ (fun k31 k31' hk31 => ?_)
  · intro s0_31 s0_31' hs0_31
    subst hs0_31
    refine sm_ex (fun n34 => ?_)
    refine smFX11_isLongEnough_34 this p1 hQj n34 _ _ rfl _ _ (show (nI 0).toInt = 0 by decide)
  refine sm_join (fun (k26 : JP) (k26' : MP) => SM k26 k26') ?_ (fun k26 k26' hk26 => ?_)
  · exact hk31 _ _ (show (nI 1).toInt = 1 by decide)
  refine sm_if (cI_eq rfl (show (nI 0).toInt = 0 by decide)) ?_ ?_
  · refine sm_getA rfl (fun v8 => ?_)
    refine sm_aldI (by decide) (show (nI 3).toInt = 3 by decide) (fun v12 => ?_)
    refine sm_if (cI_lt rfl (show (nI 0).toInt = 0 by decide)) ?_ ?_
    · exact hk26
    · refine sm_getA rfl (fun v17 => ?_)
      refine sm_aldI (by decide) (show (nI 3).toInt = 3 by decide) (fun v21 => ?_)
      refine sm_if (cI_eq rfl rfl) ?_ ?_
      · exact hk26
      · exact hk31 _ _ (show (nI 0).toInt = 0 by decide)
  · exact hk26
theorem smFX11_takes_2 (this : Nat) (p1 : Nat) (p2 : Int32) {Qj : Int32 → JP} {Qj' : Int → MP} (hQj : ∀ (x0 : Int32) (X0 : Int), x0.toInt = X0 → SM (Qj x0) (Qj' X0)) : ∀ n : Nat, ∀ (x0 : Int32) (X0 : Int), x0.toInt = X0 → SM (jit (FX11_takes_2 this p1 p2 Qj) (fun _ => jbot) n x0) (jit (GX11_takes_2 this p1 p2.toInt Qj') (fun _ => mbot) n X0) := by
  intro n
  induction n with
  | zero =>
    intro x3_2 x3_2' hx3_2
    exact SM.bot
  | succ n ih =>
    intro x3_2 x3_2' hx3_2
    subst hx3_2
    show SM (FX11_takes_2 this p1 p2 Qj (jit (FX11_takes_2 this p1 p2 Qj) (fun _ => jbot) n) x3_2) (GX11_takes_2 this p1 p2.toInt Qj' (jit (GX11_takes_2 this p1 p2.toInt Qj') (fun _ => mbot) n) x3_2.toInt)
    generalize jit (FX11_takes_2 this p1 p2 Qj) (fun _ => jbot) n = rec2 at ih ⊢
    generalize jit (GX11_takes_2 this p1 p2.toInt Qj') (fun _ => mbot) n = rec2' at ih ⊢
    have hrec2 := ih
    unfold FX11_takes_2 GX11_takes_2
    refine sm_if (cI_le rfl rfl) ?_ ?_
    · exact hQj _ _ rfl
    · refine sm_getA rfl (fun v10 => ?_)
      refine sm_aldI (by decide) rfl (fun v14 => ?_)
      refine sm_astI rfl rfl ?_
      exact hrec2 _ _ (tc_add rfl (show (nI 1).toInt = 1 by decide))
theorem sm_X11_takes : ∀ (x0 : Nat), ∀ (x1 : Nat), ∀ (x2 : Int32) (X2 : Int), x2.toInt = X2 → ∀ (x3 : Int32 → JP) (X3 : Int → MP), (∀ (x0 : Int32) (X0 : Int), x0.toInt = X0 → SM (x3 x0) (X3 X0)) → SM (JX11_takes x0 x1 x2 x3) (MX11_takes x0 x1 X2 X3) := by
  intro this p1 p2 p2' hp2 Qj Qj' hQj
  subst hp2
  unfold JX11_takes MX11_takes
  refine sm_ex (fun n2 => ?_)
  refine smFX11_takes_2 this p1 p2 hQj n2 _ _ (show (nI 0).toInt = 0 by decide)
theorem sm_X11_meets : ∀ (x0 : Nat), ∀ (x1 : Int32) (X1 : Int), x1.toInt = X1 → ∀ (x2 : Int32) (X2 : Int), x2.toInt = X2 → ∀ (x3 : JP) (X3 : MP), SM x3 X3 → SM (JX11_meets x0 x1 x2 x3) (MX11_meets x0 X1 X2 X3) := by
  intro this p1 p1' hp1 p2 p2' hp2 Qj Qj' hQj
  subst hp1
  subst hp2
  unfold JX11_meets MX11_meets
  refine sm_getI rfl (fun v1 => ?_)
  refine sm_if (cI_lt rfl rfl) ?_ ?_
  · exact hQj
  · refine sm_obj ?_
    refine sm_X11_isBarred this _ _ rfl _ _ ?_
    intro v10 v10' hv10
    subst hv10
    refine sm_if (cI_eq rfl (show (nI 0).toInt = 0 by decide)) ?_ ?_
    · refine sm_obj ?_
      refine sm_X11_isLongEnough this _ _ rfl _ _ ?_
      intro v18 v18' hv18
      subst hv18
      refine sm_if (cI_eq rfl (show (nI 0).toInt = 0 by decide)) ?_ ?_
      · exact hQj
      · refine sm_getA rfl (fun v26 => ?_)
        refine sm_getI rfl (fun v30 => ?_)
        refine sm_aldL rfl (fun v34 => ?_)
        refine sm_astL rfl (tl_add rfl (show (lN 1).toInt = 1 by decide)) ?_
        refine sm_getI rfl (fun v39 => ?_)
        refine sm_join (fun (k75 : JP) (k75' : MP) => SM k75 k75') ?_ (fun k75 k75' hk75 => ?_)
        · refine sm_getI rfl (fun v77 => ?_)
          refine sm_putI rfl (tc_add rfl (show (nI 1).toInt = 1 by decide)) ?_
          refine sm_getI rfl (fun v86 => ?_)
          refine sm_join (fun (k106 : JP) (k106' : MP) => SM k106 k106') ?_ (fun k106 k106' hk106 => ?_)
          · refine sm_getI rfl (fun v107 => ?_)
            refine sm_join (fun (k127 : JP) (k127' : MP) => SM k127 k127') ?_ (fun k127 k127' hk127 => ?_)
            · refine sm_getI rfl (fun v128 => ?_)
              refine sm_if (cI_lt (show (nI 200).toInt = 200 by decide) rfl) ?_ ?_
              · exact hQj
              · refine sm_getI rfl (fun v138 => ?_)
                refine sm_join (fun (k159 : JP) (k159' : MP) => SM k159 k159') ?_ (fun k159 k159' hk159 => ?_)
                · refine sm_getA rfl (fun v162 => ?_)
                  refine sm_obj ?_
                  refine sm_X11_takes this v162 _ _ rfl _ _ ?_
                  intro v166 v166' hv166
                  subst hv166
                  refine sm_putI rfl rfl ?_
                  refine sm_getA rfl (fun v174 => ?_)
                  refine sm_aldI (by decide) rfl (fun v178 => ?_)
                  refine sm_putI rfl rfl ?_
                  exact hQj
                refine sm_if (cI_le rfl (show (nI 1).toInt = 1 by decide)) ?_ ?_
                · exact hk159
                · refine sm_getA rfl (fun v146 => ?_)
                  refine sm_aldI (by decide) rfl (fun v150 => ?_)
                  refine sm_getI rfl (fun v152 => ?_)
                  refine sm_if (cI_lt rfl rfl) ?_ ?_
                  · exact hk159
                  · exact hQj
            refine sm_if (cI_eq rfl (show (nI 2).toInt = 2 by decide)) ?_ ?_
            · refine sm_getA rfl (fun v117 => ?_)
              refine sm_obj ?_
              refine sm_X11_takes this v117 _ _ rfl _ _ ?_
              intro v121 v121' hv121
              subst hv121
              refine sm_putI rfl rfl ?_
              exact hk127
            · exact hk127
          refine sm_if (cI_eq rfl (show (nI 1).toInt = 1 by decide)) ?_ ?_
          · refine sm_getA rfl (fun v96 => ?_)
            refine sm_obj ?_
            refine sm_X11_takes this v96 _ _ rfl _ _ ?_
            intro v100 v100' hv100
            subst hv100
            refine sm_putI rfl rfl ?_
            exact hk106
          · exact hk106
        refine sm_if (cI_le rfl rfl) ?_ ?_
        · exact hk75
        · refine sm_getA rfl (fun v47 => ?_)
          refine sm_getI rfl (fun v51 => ?_)
          refine sm_aldI (by decide) rfl (fun v54 => ?_)
          refine sm_getI rfl (fun v56 => ?_)
          refine sm_if (cI_eq rfl rfl) ?_ ?_
          · refine sm_getA rfl (fun v63 => ?_)
            refine sm_getI rfl (fun v67 => ?_)
            refine sm_aldL rfl (fun v71 => ?_)
            refine sm_astL rfl (tl_add rfl (show (lN 1).toInt = 1 by decide)) ?_
            exact hk75
          · exact hk75
    · exact hQj
theorem sm_X11_goesOn : ∀ (x0 : Nat), ∀ (x1 : Int32) (X1 : Int), x1.toInt = X1 → ∀ (x2 : Int32 → JP) (X2 : Int → MP), (∀ (x0 : Int32) (X0 : Int), x0.toInt = X0 → SM (x2 x0) (X2 X0)) → SM (JX11_goesOn x0 x1 x2) (MX11_goesOn x0 X1 X2) := by
  intro this p1 p1' hp1 Qj Qj' hQj
  subst hp1
  unfold JX11_goesOn MX11_goesOn
  refine sm_join (fun (k35 : JP) (k35' : MP) => SM k35 k35') ?_ (fun k35 k35' hk35 => ?_)
  · exact hQj _ _ (show (nI 0).toInt = 0 by decide)
  refine sm_if (cI_le (show (nI 30).toInt = 30 by decide) rfl) ?_ ?_
  · exact hk35
  · refine sm_getI rfl (fun v7 => ?_)
    refine sm_join (fun (k23 : JP) (k23' : MP) => SM k23 k23') ?_ (fun k23 k23' hk23 => ?_)
    · refine sm_obj ?_
      refine sm_X11_isBarred this _ _ rfl _ _ ?_
      intro v25 v25' hv25
      subst hv25
      refine sm_if (cI_eq rfl (show (nI 0).toInt = 0 by decide)) ?_ ?_
      · exact hQj _ _ (show (nI 1).toInt = 1 by decide)
      · exact hk35
    refine sm_if (cI_eq rfl (show (nI 0).toInt = 0 by decide)) ?_ ?_
    · refine sm_getA rfl (fun v14 => ?_)
      refine sm_aldI (by decide) (show (nI 3).toInt = 3 by decide) (fun v18 => ?_)
      refine sm_if (cI_eq rfl rfl) ?_ ?_
      · exact hk35
      · exact hk23
    · exact hk23
theorem sm_X11_lays : ∀ (x0 : Nat), ∀ (x1 : Int32) (X1 : Int), x1.toInt = X1 → ∀ (x2 : Int32) (X2 : Int), x2.toInt = X2 → ∀ (x3 : JP) (X3 : MP), SM x3 X3 → SM (JX11_lays x0 x1 x2 x3) (MX11_lays x0 X1 X2 X3) := by
  intro this p1 p1' hp1 p2 p2' hp2 Qj Qj' hQj
  subst hp1
  subst hp2
  unfold JX11_lays MX11_lays
  refine sm_getI rfl (fun v2 => ?_)
  refine sm_putI rfl (tc_add rfl (show (nI 1).toInt = 1 by decide)) ?_
  refine sm_getI rfl (fun v12 => ?_)
  refine sm_join (fun (k33 : Int32 → JP) (k33' : Int → MP) => ∀ (x0 : Int32) (X0 : Int), x0.toInt = X0 → SM (k33 x0) (k33' X0)) ?_ (fun k33 k33' hk33 => ?_)
  · intro s1_33 s1_33' hs1_33
    subst hs1_33
    refine sm_putZ rfl rfl ?_
    refine sm_getI rfl (fun v38 => ?_)
    refine sm_putI rfl (tc_max rfl rfl) ?_
    refine sm_obj ?_
    refine sm_X11_finds this _ _ rfl _ _ (tc_rem rfl (show (nI 2).toInt = 2 by decide)) _ _ ?_
    refine sm_obj ?_
    refine sm_X11_measures this _ _ rfl _ _ ?_
    refine sm_obj ?_
    refine sm_X11_meets this _ _ rfl _ _ rfl _ _ ?_
    refine sm_getA rfl (fun v68 => ?_)
    refine sm_obj ?_
    refine sm_X11_goesOn this _ _ rfl _ _ ?_
    intro v74 v74' hv74
    subst hv74
    refine sm_if (cI_eq rfl (show (nI 0).toInt = 0 by decide)) ?_ ?_
    · refine sm_astI rfl (show (nI 1296).toInt = 1296 by decide) ?_
      exact hQj
    · refine sm_astI rfl (show (nI 0).toInt = 0 by decide) ?_
      exact hQj
  refine sm_join (fun (k28 : JP) (k28' : MP) => SM k28 k28') ?_ (fun k28 k28' hk28 => ?_)
  · exact hk33 _ _ (show (nI 1).toInt = 1 by decide)
  refine sm_if (cI_eq rfl (show (nI 0).toInt = 0 by decide)) ?_ ?_
  · refine sm_getI rfl (fun v19 => ?_)
    refine sm_if (cI_le rfl (show (nI 8000).toInt = 8000 by decide)) ?_ ?_
    · exact hk33 _ _ (show (nI 0).toInt = 0 by decide)
    · exact hk28
  · exact hk28
theorem sm_X11_fits : ∀ (x0 : Int32) (X0 : Int), x0.toInt = X0 → ∀ (x1 : Int32) (X1 : Int), x1.toInt = X1 → ∀ (x2 : Int32) (X2 : Int), x2.toInt = X2 → ∀ (x3 : Int32) (X3 : Int), x3.toInt = X3 → ∀ (x4 : Int32) (X4 : Int), x4.toInt = X4 → ∀ (x5 : Int32) (X5 : Int), x5.toInt = X5 → ∀ (x6 : Int32) (X6 : Int), x6.toInt = X6 → ∀ (x7 : Int32 → JP) (X7 : Int → MP), (∀ (x0 : Int32) (X0 : Int), x0.toInt = X0 → SM (x7 x0) (X7 X0)) → SM (JX11_fits x0 x1 x2 x3 x4 x5 x6 x7) (MX11_fits X0 X1 X2 X3 X4 X5 X6 X7) := by
  intro p0 p0' hp0 p1 p1' hp1 p2 p2' hp2 p3 p3' hp3 p4 p4' hp4 p5 p5' hp5 p6 p6' hp6 Qj Qj' hQj
  subst hp0
  subst hp1
  subst hp2
  subst hp3
  subst hp4
  subst hp5
  subst hp6
  unfold JX11_fits MX11_fits
  refine sm_join (fun (k11 : Int32 → JP) (k11' : Int → MP) => ∀ (x0 : Int32) (X0 : Int), x0.toInt = X0 → SM (k11 x0) (k11' X0)) ?_ (fun k11 k11' hk11 => ?_)
  · intro s0_11 s0_11' hs0_11
    subst hs0_11
    refine sm_join (fun (k25 : Int32 → JP) (k25' : Int → MP) => ∀ (x0 : Int32) (X0 : Int), x0.toInt = X0 → SM (k25 x0) (k25' X0)) ?_ (fun k25 k25' hk25 => ?_)
    · intro s0_25 s0_25' hs0_25
      subst hs0_25
      refine sm_if (cI_eq rfl (show (nI 0).toInt = 0 by decide)) ?_ ?_
      · refine sm_join (fun (k86 : JP) (k86' : MP) => SM k86 k86') ?_ (fun k86 k86' hk86 => ?_)
        · exact hQj _ _ (show (nI 0).toInt = 0 by decide)
        refine sm_if (cI_eq rfl (show (nI 0).toInt = 0 by decide)) ?_ ?_
        · exact hk86
        · refine sm_if (cI_eq rfl (show (nI 0).toInt = 0 by decide)) ?_ ?_
          · exact hk86
          · refine sm_if (cI_eq rfl (show (nI 0).toInt = 0 by decide)) ?_ ?_
            · exact hk86
            · refine sm_if (cI_eq rfl (show (nI 0).toInt = 0 by decide)) ?_ ?_
              · exact hk86
              · exact hQj _ _ (show (nI 1).toInt = 1 by decide)
      · refine sm_if (cI_eq rfl (show (nI 1).toInt = 1 by decide)) ?_ ?_
        · refine sm_join (fun (k110 : JP) (k110' : MP) => SM k110 k110') ?_ (fun k110 k110' hk110 => ?_)
          · exact hQj _ _ (show (nI 0).toInt = 0 by decide)
          refine sm_if (cI_eq rfl (show (nI 0).toInt = 0 by decide)) ?_ ?_
          · refine sm_if (cI_eq rfl (show (nI 0).toInt = 0 by decide)) ?_ ?_
            · exact hk110
            · refine sm_if (cI_eq rfl (show (nI 0).toInt = 0 by decide)) ?_ ?_
              · exact hk110
              · refine sm_if (cI_eq rfl (show (nI 0).toInt = 0 by decide)) ?_ ?_
                · exact hk110
                · exact hQj _ _ (show (nI 1).toInt = 1 by decide)
          · exact hk110
        · refine sm_if (cI_eq rfl (show (nI 2).toInt = 2 by decide)) ?_ ?_
          · refine sm_join (fun (k140 : JP) (k140' : MP) => SM k140 k140') ?_ (fun k140 k140' hk140 => ?_)
            · exact hQj _ _ (show (nI 0).toInt = 0 by decide)
            refine sm_if (cI_eq rfl (show (nI 0).toInt = 0 by decide)) ?_ ?_
            · exact hk140
            · refine sm_if (cI_eq rfl (show (nI 0).toInt = 0 by decide)) ?_ ?_
              · exact hk140
              · refine sm_if (cI_eq (tc_abs (tc_sub rfl rfl)) (show (nI 1).toInt = 1 by decide)) ?_ ?_
                · refine sm_if (cI_eq rfl (show (nI 0).toInt = 0 by decide)) ?_ ?_
                  · exact hk140
                  · exact hQj _ _ (show (nI 1).toInt = 1 by decide)
                · exact hk140
          · refine sm_if (cI_eq rfl (show (nI 3).toInt = 3 by decide)) ?_ ?_
            · refine sm_join (fun (k171 : JP) (k171' : MP) => SM k171 k171') ?_ (fun k171 k171' hk171 => ?_)
              · exact hQj _ _ (show (nI 0).toInt = 0 by decide)
              refine sm_if (cI_eq rfl (show (nI 0).toInt = 0 by decide)) ?_ ?_
              · exact hk171
              · refine sm_if (cI_eq rfl (show (nI 0).toInt = 0 by decide)) ?_ ?_
                · exact hk171
                · refine sm_if (cI_eq rfl (show (nI 0).toInt = 0 by decide)) ?_ ?_
                  · exact hk171
                  · refine sm_if (cI_eq (tc_abs (tc_sub rfl rfl)) (show (nI 1).toInt = 1 by decide)) ?_ ?_
                    · exact hQj _ _ (show (nI 1).toInt = 1 by decide)
                    · exact hk171
            · refine sm_if (cI_eq rfl (show (nI 4).toInt = 4 by decide)) ?_ ?_
              · refine sm_join (fun (k204 : JP) (k204' : MP) => SM k204 k204') ?_ (fun k204 k204' hk204 => ?_)
                · exact hQj _ _ (show (nI 0).toInt = 0 by decide)
                refine sm_if (cI_eq rfl (show (nI 0).toInt = 0 by decide)) ?_ ?_
                · exact hk204
                · refine sm_if (cI_eq rfl (show (nI 0).toInt = 0 by decide)) ?_ ?_
                  · exact hk204
                  · refine sm_if (cI_eq rfl (show (nI 0).toInt = 0 by decide)) ?_ ?_
                    · exact hk204
                    · refine sm_if (cI_eq rfl (show (nI 0).toInt = 0 by decide)) ?_ ?_
                      · refine sm_if (cI_eq (tc_sub (show (nI 5).toInt = 5 by decide) rfl) rfl) ?_ ?_
                        · exact hQj _ _ (show (nI 1).toInt = 1 by decide)
                        · exact hk204
                      · exact hk204
              · refine sm_join (fun (k228 : JP) (k228' : MP) => SM k228 k228') ?_ (fun k228 k228' hk228 => ?_)
                · exact hQj _ _ (show (nI 0).toInt = 0 by decide)
                refine sm_if (cI_eq rfl (show (nI 0).toInt = 0 by decide)) ?_ ?_
                · exact hk228
                · refine sm_if (cI_eq rfl (show (nI 0).toInt = 0 by decide)) ?_ ?_
                  · refine sm_if (cI_eq rfl (show (nI 0).toInt = 0 by decide)) ?_ ?_
                    · exact hk228
                    · refine sm_if (cI_eq rfl (show (nI 0).toInt = 0 by decide)) ?_ ?_
                      · exact hk228
                      · exact hQj _ _ (show (nI 1).toInt = 1 by decide)
                  · exact hk228
    refine sm_if (cI_eq rfl rfl) ?_ ?_
    · exact hk25 _ _ (show (nI 1).toInt = 1 by decide)
    · exact hk25 _ _ (show (nI 0).toInt = 0 by decide)
  refine sm_if (cI_eq rfl rfl) ?_ ?_
  · exact hk11 _ _ (show (nI 1).toInt = 1 by decide)
  · exact hk11 _ _ (show (nI 0).toInt = 0 by decide)
theorem smFX11_tries_130 (this : Nat) (p2 : Int32) (p3 : Int32) (v5 : Int32) (s0_61 : Int32) (s0_82 : Int32) (s0_117 : Int32) {k237 : Int32 → Int32 → JP} {k237' : Int → Int → MP} (hk237 : ∀ (x0 : Int32) (X0 : Int), x0.toInt = X0 → ∀ (x1 : Int32) (X1 : Int), x1.toInt = X1 → SM (k237 x0 x1) (k237' X0 X1)) : ∀ n : Nat, ∀ (x0 : Int32) (X0 : Int), x0.toInt = X0 → ∀ (x1 : Int32) (X1 : Int), x1.toInt = X1 → ∀ (x2 : Int32) (X2 : Int), x2.toInt = X2 → SM (jit (FX11_tries_130 this p2 p3 v5 s0_61 s0_82 s0_117 k237) (fun _ _ _ => jbot) n x0 x1 x2) (jit (GX11_tries_130 this p2.toInt p3.toInt v5.toInt s0_61.toInt s0_82.toInt s0_117.toInt k237') (fun _ _ _ => mbot) n X0 X1 X2) := by
  intro n
  induction n with
  | zero =>
    intro x10_130 x10_130' hx10_130 x11_130 x11_130' hx11_130 x12_130 x12_130' hx12_130
    exact SM.bot
  | succ n ih =>
    intro x10_130 x10_130' hx10_130 x11_130 x11_130' hx11_130 x12_130 x12_130' hx12_130
    subst hx10_130
    subst hx11_130
    subst hx12_130
    show SM (FX11_tries_130 this p2 p3 v5 s0_61 s0_82 s0_117 k237 (jit (FX11_tries_130 this p2 p3 v5 s0_61 s0_82 s0_117 k237) (fun _ _ _ => jbot) n) x10_130 x11_130 x12_130) (GX11_tries_130 this p2.toInt p3.toInt v5.toInt s0_61.toInt s0_82.toInt s0_117.toInt k237' (jit (GX11_tries_130 this p2.toInt p3.toInt v5.toInt s0_61.toInt s0_82.toInt s0_117.toInt k237') (fun _ _ _ => mbot) n) x10_130.toInt x11_130.toInt x12_130.toInt)
    generalize jit (FX11_tries_130 this p2 p3 v5 s0_61 s0_82 s0_117 k237) (fun _ _ _ => jbot) n = rec130 at ih ⊢
    generalize jit (GX11_tries_130 this p2.toInt p3.toInt v5.toInt s0_61.toInt s0_82.toInt s0_117.toInt k237') (fun _ _ _ => mbot) n = rec130' at ih ⊢
    have hrec130 := ih
    unfold FX11_tries_130 GX11_tries_130
    refine sm_if (cI_le (show (nI 6).toInt = 6 by decide) rfl) ?_ ?_
    · exact hk237 _ _ rfl _ _ rfl
    · refine sm_join (fun (k231 : Int32 → Int32 → JP) (k231' : Int → Int → MP) => ∀ (x0 : Int32) (X0 : Int), x0.toInt = X0 → ∀ (x1 : Int32) (X1 : Int), x1.toInt = X1 → SM (k231 x0 x1) (k231' X0 X1)) ?_ (fun k231 k231' hk231 => ?_)
      · intro x10_231 x10_231' hx10_231 x11_231 x11_231' hx11_231
        subst hx10_231
        subst hx11_231
        exact hrec130 _ _ rfl _ _ rfl _ _ (tc_add rfl (show (nI 1).toInt = 1 by decide))
      refine sm_join (fun (k152 : JP) (k152' : MP) => SM k152 k152') ?_ (fun k152 k152' hk152 => ?_)
      · refine sm_obj ?_
        refine sm_X11_ofNote this _ _ rfl _ _ rfl _ _ (show (nI 2).toInt = 2 by decide) _ _ ?_
        intro v162 v162' hv162
        subst hv162
        refine sm_obj ?_
        refine sm_X11_ofNote this _ _ rfl _ _ rfl _ _ (show (nI 3).toInt = 3 by decide) _ _ ?_
        intro v169 v169' hv169
        subst hv169
        refine sm_X11_fits _ _ rfl _ _ rfl _ _ rfl _ _ rfl _ _ rfl _ _ (tc_rem (tc_rem rfl (show (nI 36).toInt = 36 by decide)) (show (nI 6).toInt = 6 by decide)) _ _ rfl _ _ ?_
        intro v179 v179' hv179
        subst hv179
        refine sm_if (cI_eq rfl (show (nI 0).toInt = 0 by decide)) ?_ ?_
        · exact hk231 _ _ rfl _ _ rfl
        · refine sm_join (fun (k204 : Int32 → JP) (k204' : Int → MP) => ∀ (x0 : Int32) (X0 : Int), x0.toInt = X0 → SM (k204 x0) (k204' X0)) ?_ (fun k204 k204' hk204 => ?_)
          · intro s0_204 s0_204' hs0_204
            subst hs0_204
            refine sm_join (fun (k220 : Int32 → JP) (k220' : Int → MP) => ∀ (x0 : Int32) (X0 : Int), x0.toInt = X0 → SM (k220 x0) (k220' X0)) ?_ (fun k220 k220' hk220 => ?_)
            · intro s0_220 s0_220' hs0_220
              subst hs0_220
              exact hk231 _ _ (tc_min rfl rfl) _ _ rfl
            refine sm_if (cI_le rfl rfl) ?_ ?_
            · exact hk220 _ _ rfl
            · exact hk220 _ _ rfl
          refine sm_if (cI_eq rfl (show (nI 0).toInt = 0 by decide)) ?_ ?_
          · exact hk204 _ _ (show (nI 0).toInt = 0 by decide)
          · refine sm_getA rfl (fun v198 => ?_)
            refine sm_aldI (by decide) rfl (fun v203 => ?_)
            exact hk204 _ _ rfl
      refine sm_if (cI_le rfl (show (nI 0).toInt = 0 by decide)) ?_ ?_
      · exact hk152
      · refine sm_getA rfl (fun v143 => ?_)
        refine sm_aldI (by decide) rfl (fun v148 => ?_)
        refine sm_if (cI_eq rfl (show (nI 0).toInt = 0 by decide)) ?_ ?_
        · exact hk231 _ _ rfl _ _ rfl
        · exact hk152
theorem sm_X11_tries : ∀ (x0 : Nat), ∀ (x1 : Int32) (X1 : Int), x1.toInt = X1 → ∀ (x2 : Int32) (X2 : Int), x2.toInt = X2 → ∀ (x3 : Int32) (X3 : Int), x3.toInt = X3 → ∀ (x4 : JP) (X4 : MP), SM x4 X4 → SM (JX11_tries x0 x1 x2 x3 x4) (MX11_tries x0 X1 X2 X3 X4) := by
  intro this p1 p1' hp1 p2 p2' hp2 p3 p3' hp3 Qj Qj' hQj
  subst hp1
  subst hp2
  subst hp3
  unfold JX11_tries MX11_tries
  refine sm_getA rfl (fun v1 => ?_)
  refine sm_aldI (by decide) rfl (fun v5 => ?_)
  refine sm_obj ?_
  refine sm_X11_at this _ _ rfl _ _ (tc_div rfl (show (nI 36).toInt = 36 by decide)) _ _ ?_
  intro v15 v15' hv15
  subst hv15
  refine sm_getA rfl (fun v28 => ?_)
  refine sm_aldI (by decide) rfl (fun v32 => ?_)
  refine sm_join (fun (k61 : Int32 → JP) (k61' : Int → MP) => ∀ (x0 : Int32) (X0 : Int), x0.toInt = X0 → SM (k61 x0) (k61' X0)) ?_ (fun k61 k61' hk61 => ?_)
  · intro s0_61 s0_61' hs0_61
    subst hs0_61
    refine sm_obj ?_
    refine sm_X11_ofNote this _ _ rfl _ _ rfl _ _ (show (nI 0).toInt = 0 by decide) _ _ ?_
    intro v67 v67' hv67
    subst hv67
    refine sm_join (fun (k82 : Int32 → JP) (k82' : Int → MP) => ∀ (x0 : Int32) (X0 : Int), x0.toInt = X0 → SM (k82 x0) (k82' X0)) ?_ (fun k82 k82' hk82 => ?_)
    · intro s0_82 s0_82' hs0_82
      subst hs0_82
      refine sm_obj ?_
      refine sm_X11_ofNote this _ _ rfl _ _ rfl _ _ (show (nI 1).toInt = 1 by decide) _ _ ?_
      intro v88 v88' hv88
      subst hv88
      refine sm_join (fun (k117 : Int32 → JP) (k117' : Int → MP) => ∀ (x0 : Int32) (X0 : Int), x0.toInt = X0 → SM (k117 x0) (k117' X0)) ?_ (fun k117 k117' hk117 => ?_)
      · intro s0_117 s0_117' hs0_117
        subst hs0_117
        refine sm_ex (fun n130 => ?_)
        refine smFX11_tries_130 this p2 p3 v5 s0_61 s0_82 s0_117 ?_ n130 _ _ (show (nI 1000).toInt = 1000 by decide) _ _ (show (nI 0).toInt = 0 by decide) _ _ (show (nI 0).toInt = 0 by decide)
        · intro y10_237 y10_237' hy10_237 y11_237 y11_237' hy11_237
          subst hy10_237
          subst hy11_237
          refine sm_getA rfl (fun v238 => ?_)
          refine sm_X11_fitAt _ _ rfl _ _ rfl _ _ rfl _ _ ?_
          intro v244 v244' hv244
          subst hv244
          refine sm_astI rfl rfl ?_
          refine sm_getA rfl (fun v251 => ?_)
          refine sm_X11_fitAt _ _ rfl _ _ rfl _ _ rfl _ _ ?_
          intro v257 v257' hv257
          subst hv257
          refine sm_astI rfl rfl ?_
          exact hQj
      refine sm_join (fun (k112 : JP) (k112' : MP) => SM k112 k112') ?_ (fun k112 k112' hk112 => ?_)
      · exact hk117 _ _ (show (nI 1).toInt = 1 by decide)
      refine sm_if (cI_lt rfl (show (nI 0).toInt = 0 by decide)) ?_ ?_
      · exact hk112
      · refine sm_obj ?_
        refine sm_X11_ofNote this _ _ rfl _ _ rfl _ _ (show (nI 1).toInt = 1 by decide) _ _ ?_
        intro v98 v98' hv98
        subst hv98
        refine sm_if (cI_eq rfl (tc_rem (tc_div rfl (show (nI 36).toInt = 36 by decide)) (show (nI 6).toInt = 6 by decide))) ?_ ?_
        · exact hk112
        · exact hk117 _ _ (show (nI 0).toInt = 0 by decide)
    refine sm_if (cI_eq rfl (tc_div rfl (show (nI 2).toInt = 2 by decide))) ?_ ?_
    · exact hk82 _ _ (show (nI 1).toInt = 1 by decide)
    · exact hk82 _ _ (show (nI 0).toInt = 0 by decide)
  refine sm_join (fun (k56 : JP) (k56' : MP) => SM k56 k56') ?_ (fun k56 k56' hk56 => ?_)
  · exact hk61 _ _ (tc_div (tc_rem rfl (show (nI 36).toInt = 36 by decide)) (show (nI 6).toInt = 6 by decide))
  refine sm_if (cI_eq rfl (show (nI 1).toInt = 1 by decide)) ?_ ?_
  · refine sm_X11_sideOf _ _ rfl _ _ ?_
    intro v39 v39' hv39
    subst hv39
    refine sm_if (cI_eq rfl (show (nI 1).toInt = 1 by decide)) ?_ ?_
    · exact hk61 _ _ (tc_sub (show (nI 5).toInt = 5 by decide) (tc_div (tc_rem rfl (show (nI 36).toInt = 36 by decide)) (show (nI 6).toInt = 6 by decide)))
    · exact hk56
  · exact hk56
theorem smFX11_laysAll_156 (this : Nat) (x2_58 : Int32) (x4_142 : Int32) {k191 : JP} {k191' : MP} (hk191 : SM k191 k191') : ∀ n : Nat, ∀ (x0 : Int32) (X0 : Int), x0.toInt = X0 → SM (jit (FX11_laysAll_156 this x2_58 x4_142 k191) (fun _ => jbot) n x0) (jit (GX11_laysAll_156 this x2_58.toInt x4_142.toInt k191') (fun _ => mbot) n X0) := by
  intro n
  induction n with
  | zero =>
    intro x5_156 x5_156' hx5_156
    exact SM.bot
  | succ n ih =>
    intro x5_156 x5_156' hx5_156
    subst hx5_156
    show SM (FX11_laysAll_156 this x2_58 x4_142 k191 (jit (FX11_laysAll_156 this x2_58 x4_142 k191) (fun _ => jbot) n) x5_156) (GX11_laysAll_156 this x2_58.toInt x4_142.toInt k191' (jit (GX11_laysAll_156 this x2_58.toInt x4_142.toInt k191') (fun _ => mbot) n) x5_156.toInt)
    generalize jit (FX11_laysAll_156 this x2_58 x4_142 k191) (fun _ => jbot) n = rec156 at ih ⊢
    generalize jit (GX11_laysAll_156 this x2_58.toInt x4_142.toInt k191') (fun _ => mbot) n = rec156' at ih ⊢
    have hrec156 := ih
    unfold FX11_laysAll_156 GX11_laysAll_156
    refine sm_obj ?_
    refine sm_X11_notes this _ _ rfl _ _ ?_
    intro v161 v161' hv161
    subst hv161
    refine sm_if (cI_le rfl rfl) ?_ ?_
    · exact hk191
    · refine sm_obj ?_
      refine sm_X11_isAsked this _ _ rfl _ _ ?_
      intro v170 v170' hv170
      subst hv170
      refine sm_if (cI_eq rfl (show (nI 0).toInt = 0 by decide)) ?_ ?_
      · exact hk191
      · refine sm_obj ?_
        refine sm_X11_tries this _ _ rfl _ _ rfl _ _ rfl _ _ ?_
        exact hrec156 _ _ (tc_add rfl (show (nI 1).toInt = 1 by decide))
theorem smFX11_laysAll_142 (this : Nat) (x2_58 : Int32) {k197 : JP} {k197' : MP} (hk197 : SM k197 k197') : ∀ n : Nat, ∀ (x0 : Int32) (X0 : Int), x0.toInt = X0 → SM (jit (FX11_laysAll_142 this x2_58 k197) (fun _ => jbot) n x0) (jit (GX11_laysAll_142 this x2_58.toInt k197') (fun _ => mbot) n X0) := by
  intro n
  induction n with
  | zero =>
    intro x4_142 x4_142' hx4_142
    exact SM.bot
  | succ n ih =>
    intro x4_142 x4_142' hx4_142
    subst hx4_142
    show SM (FX11_laysAll_142 this x2_58 k197 (jit (FX11_laysAll_142 this x2_58 k197) (fun _ => jbot) n) x4_142) (GX11_laysAll_142 this x2_58.toInt k197' (jit (GX11_laysAll_142 this x2_58.toInt k197') (fun _ => mbot) n) x4_142.toInt)
    generalize jit (FX11_laysAll_142 this x2_58 k197) (fun _ => jbot) n = rec142 at ih ⊢
    generalize jit (GX11_laysAll_142 this x2_58.toInt k197') (fun _ => mbot) n = rec142' at ih ⊢
    have hrec142 := ih
    unfold FX11_laysAll_142 GX11_laysAll_142
    refine sm_getA rfl (fun v145 => ?_)
    refine sm_aldI (by decide) (show (nI 1).toInt = 1 by decide) (fun v149 => ?_)
    refine sm_if (cI_le rfl rfl) ?_ ?_
    · exact hk197
    · refine sm_ex (fun n156 => ?_)
      refine smFX11_laysAll_156 this x2_58 x4_142 ?_ n156 _ _ (show (nI 0).toInt = 0 by decide)
      · exact hrec142 _ _ (tc_add rfl (show (nI 1).toInt = 1 by decide))
theorem smFX11_laysAll_76 (this : Nat) (x2_58 : Int32) {k104 : Int32 → JP} {k104' : Int → MP} (hk104 : ∀ (x0 : Int32) (X0 : Int), x0.toInt = X0 → SM (k104 x0) (k104' X0)) : ∀ n : Nat, ∀ (x0 : Int32) (X0 : Int), x0.toInt = X0 → SM (jit (FX11_laysAll_76 this x2_58 k104) (fun _ => jbot) n x0) (jit (GX11_laysAll_76 this x2_58.toInt k104') (fun _ => mbot) n X0) := by
  intro n
  induction n with
  | zero =>
    intro x3_76 x3_76' hx3_76
    exact SM.bot
  | succ n ih =>
    intro x3_76 x3_76' hx3_76
    subst hx3_76
    show SM (FX11_laysAll_76 this x2_58 k104 (jit (FX11_laysAll_76 this x2_58 k104) (fun _ => jbot) n) x3_76) (GX11_laysAll_76 this x2_58.toInt k104' (jit (GX11_laysAll_76 this x2_58.toInt k104') (fun _ => mbot) n) x3_76.toInt)
    generalize jit (FX11_laysAll_76 this x2_58 k104) (fun _ => jbot) n = rec76 at ih ⊢
    generalize jit (GX11_laysAll_76 this x2_58.toInt k104') (fun _ => mbot) n = rec76' at ih ⊢
    have hrec76 := ih
    unfold FX11_laysAll_76 GX11_laysAll_76
    refine sm_if (cI_le (show (nI 1296).toInt = 1296 by decide) rfl) ?_ ?_
    · exact hk104 _ _ rfl
    · refine sm_getA rfl (fun v84 => ?_)
      refine sm_aldI (by decide) (tc_add (tc_mul (show (nI 1296).toInt = 1296 by decide) rfl) rfl) (fun v94 => ?_)
      refine sm_if (cI_eq rfl (show (nI 0).toInt = 0 by decide)) ?_ ?_
      · exact hrec76 _ _ (tc_add rfl (show (nI 1).toInt = 1 by decide))
      · exact hk104 _ _ rfl
theorem smFX11_laysAll_58 (this : Nat) (p1 : Int32) {Qj : JP} {Qj' : MP} (hQj : SM Qj Qj') : ∀ n : Nat, ∀ (x0 : Int32) (X0 : Int), x0.toInt = X0 → SM (jit (FX11_laysAll_58 this p1 Qj) (fun _ => jbot) n x0) (jit (GX11_laysAll_58 this p1.toInt Qj') (fun _ => mbot) n X0) := by
  intro n
  induction n with
  | zero =>
    intro x2_58 x2_58' hx2_58
    exact SM.bot
  | succ n ih =>
    intro x2_58 x2_58' hx2_58
    subst hx2_58
    show SM (FX11_laysAll_58 this p1 Qj (jit (FX11_laysAll_58 this p1 Qj) (fun _ => jbot) n) x2_58) (GX11_laysAll_58 this p1.toInt Qj' (jit (GX11_laysAll_58 this p1.toInt Qj') (fun _ => mbot) n) x2_58.toInt)
    generalize jit (FX11_laysAll_58 this p1 Qj) (fun _ => jbot) n = rec58 at ih ⊢
    generalize jit (GX11_laysAll_58 this p1.toInt Qj') (fun _ => mbot) n = rec58' at ih ⊢
    have hrec58 := ih
    unfold FX11_laysAll_58 GX11_laysAll_58
    refine sm_if (cI_lt rfl (show (nI 0).toInt = 0 by decide)) ?_ ?_
    · exact hQj
    · refine sm_getI rfl (fun v63 => ?_)
      refine sm_if (cI_eq rfl (show (nI 0).toInt = 0 by decide)) ?_ ?_
      · refine sm_getA rfl (fun v70 => ?_)
        refine sm_aldI (by decide) rfl (fun v74 => ?_)
        refine sm_ex (fun n76 => ?_)
        refine smFX11_laysAll_76 this x2_58 ?_ n76 _ _ rfl
        · intro y3_104 y3_104' hy3_104
          subst hy3_104
          refine sm_if (cI_eq rfl (show (nI 1296).toInt = 1296 by decide)) ?_ ?_
          · exact hrec58 _ _ (tc_add rfl (show ((-1) : Int32).toInt = (-1) by decide))
          · refine sm_getA rfl (fun v118 => ?_)
            refine sm_astI rfl (tc_add rfl (show (nI 1).toInt = 1 by decide)) ?_
            refine sm_getA rfl (fun v127 => ?_)
            refine sm_astI rfl rfl ?_
            refine sm_obj ?_
            refine sm_X11_makes this _ _ rfl _ _ rfl _ _ ?_
            refine sm_ex (fun n142 => ?_)
            refine smFX11_laysAll_142 this x2_58 ?_ n142 _ _ (show (nI 0).toInt = 0 by decide)
            · refine sm_obj ?_
              refine sm_X11_prices this _ _ (tc_add rfl (show (nI 1).toInt = 1 by decide)) _ _ ?_
              refine sm_getI rfl (fun v205 => ?_)
              refine sm_if (cI_le rfl rfl) ?_ ?_
              · refine sm_obj ?_
                refine sm_X11_lays this _ _ (tc_add rfl (show (nI 1).toInt = 1 by decide)) _ _ rfl _ _ ?_
                exact hrec58 _ _ (tc_add rfl (show (nI 1).toInt = 1 by decide))
              · exact hrec58 _ _ rfl
      · exact hQj
theorem smFX11_laysAll_2 (this : Nat) {k31 : JP} {k31' : MP} (hk31 : SM k31 k31') : ∀ n : Nat, ∀ (x0 : Int32) (X0 : Int), x0.toInt = X0 → SM (jit (FX11_laysAll_2 this k31) (fun _ => jbot) n x0) (jit (GX11_laysAll_2 this k31') (fun _ => mbot) n X0) := by
  intro n
  induction n with
  | zero =>
    intro x2_2 x2_2' hx2_2
    exact SM.bot
  | succ n ih =>
    intro x2_2 x2_2' hx2_2
    subst hx2_2
    show SM (FX11_laysAll_2 this k31 (jit (FX11_laysAll_2 this k31) (fun _ => jbot) n) x2_2) (GX11_laysAll_2 this k31' (jit (GX11_laysAll_2 this k31') (fun _ => mbot) n) x2_2.toInt)
    generalize jit (FX11_laysAll_2 this k31) (fun _ => jbot) n = rec2 at ih ⊢
    generalize jit (GX11_laysAll_2 this k31') (fun _ => mbot) n = rec2' at ih ⊢
    have hrec2 := ih
    unfold FX11_laysAll_2 GX11_laysAll_2
    refine sm_getA rfl (fun v4 => ?_)
    refine sm_alen (fun v7 => ?_)
    refine sm_if (cI_le rfl rfl) ?_ ?_
    · exact hk31
    · refine sm_getA rfl (fun v12 => ?_)
      refine sm_astL rfl (show (lN 0).toInt = 0 by decide) ?_
      refine sm_getA rfl (fun v19 => ?_)
      refine sm_astL rfl (show (lN 0).toInt = 0 by decide) ?_
      exact hrec2 _ _ (tc_add rfl (show (nI 1).toInt = 1 by decide))
theorem sm_X11_laysAll : ∀ (x0 : Nat), ∀ (x1 : Int32) (X1 : Int), x1.toInt = X1 → ∀ (x2 : JP) (X2 : MP), SM x2 X2 → SM (JX11_laysAll x0 x1 x2) (MX11_laysAll x0 X1 X2) := by
  intro this p1 p1' hp1 Qj Qj' hQj
  subst hp1
  unfold JX11_laysAll MX11_laysAll
  refine sm_ex (fun n2 => ?_)
  refine smFX11_laysAll_2 this ?_ n2 _ _ (show (nI 0).toInt = 0 by decide)
  · refine sm_putI rfl (show (nI 0).toInt = 0 by decide) ?_
    refine sm_putI rfl (show (nI 0).toInt = 0 by decide) ?_
    refine sm_obj ?_
    refine sm_X11_begins this _ _ ?_
    refine sm_obj ?_
    refine sm_X11_prices this _ _ (show (nI 0).toInt = 0 by decide) _ _ ?_
    refine sm_obj ?_
    refine sm_X11_lays this _ _ (show (nI 0).toInt = 0 by decide) _ _ rfl _ _ ?_
    refine sm_ex (fun n58 => ?_)
    refine smFX11_laysAll_58 this p1 hQj n58 _ _ (show (nI 0).toInt = 0 by decide)
theorem smFX11_asks_23 (this : Nat) {Qj : Int32 → JP} {Qj' : Int → MP} (hQj : ∀ (x0 : Int32) (X0 : Int), x0.toInt = X0 → SM (Qj x0) (Qj' X0)) : ∀ n : Nat, ∀ (x0 : Int32) (X0 : Int), x0.toInt = X0 → SM (jit (FX11_asks_23 this Qj) (fun _ => jbot) n x0) (jit (GX11_asks_23 this Qj') (fun _ => mbot) n X0) := by
  intro n
  induction n with
  | zero =>
    intro x1_23 x1_23' hx1_23
    exact SM.bot
  | succ n ih =>
    intro x1_23 x1_23' hx1_23
    subst hx1_23
    show SM (FX11_asks_23 this Qj (jit (FX11_asks_23 this Qj) (fun _ => jbot) n) x1_23) (GX11_asks_23 this Qj' (jit (GX11_asks_23 this Qj') (fun _ => mbot) n) x1_23.toInt)
    generalize jit (FX11_asks_23 this Qj) (fun _ => jbot) n = rec23 at ih ⊢
    generalize jit (GX11_asks_23 this Qj') (fun _ => mbot) n = rec23' at ih ⊢
    have hrec23 := ih
    unfold FX11_asks_23 GX11_asks_23
    refine sm_if (cI_lt (show (nI 20).toInt = 20 by decide) rfl) ?_ ?_
    · exact hQj _ _ (show ((-1) : Int32).toInt = (-1) by decide)
    · refine sm_obj ?_
      refine sm_X11_laysAll this _ _ rfl _ _ ?_
      refine sm_getI rfl (fun v35 => ?_)
      refine sm_if (cI_eq rfl (show (nI 0).toInt = 0 by decide)) ?_ ?_
      · refine sm_getI rfl (fun v45 => ?_)
        refine sm_if (cI_le rfl (show (nI 0).toInt = 0 by decide)) ?_ ?_
        · exact hrec23 _ _ (tc_add rfl (show (nI 1).toInt = 1 by decide))
        · exact hQj _ _ rfl
      · exact hQj _ _ (show ((-2) : Int32).toInt = (-2) by decide)
theorem sm_X11_asks : ∀ (x0 : Nat), ∀ (x1 : Int32 → JP) (X1 : Int → MP), (∀ (x0 : Int32) (X0 : Int), x0.toInt = X0 → SM (x1 x0) (X1 X0)) → SM (JX11_asks x0 x1) (MX11_asks x0 X1) := by
  intro this Qj Qj' hQj
  unfold JX11_asks MX11_asks
  refine sm_putI rfl (show (nI 0).toInt = 0 by decide) ?_
  refine sm_putZ rfl (show (nI 0).toInt = 0 by decide) ?_
  refine sm_putZ rfl (show (nI 0).toInt = 0 by decide) ?_
  refine sm_putI rfl (show (nI 30).toInt = 30 by decide) ?_
  refine sm_ex (fun n23 => ?_)
  refine smFX11_asks_23 this hQj n23 _ _ (show (nI 0).toInt = 0 by decide)
theorem sm_X11_asksWhole : ∀ (x0 : Nat), ∀ (x1 : Int32 → JP) (X1 : Int → MP), (∀ (x0 : Int32) (X0 : Int), x0.toInt = X0 → SM (x1 x0) (X1 X0)) → SM (JX11_asksWhole x0 x1) (MX11_asksWhole x0 X1) := by
  intro this Qj Qj' hQj
  unfold JX11_asksWhole MX11_asksWhole
  refine sm_obj ?_
  refine sm_X11_asksAll this _ _ ?_
  refine sm_obj ?_
  refine sm_X11_asks this _ _ ?_
  intro v5 v5' hv5
  subst hv5
  exact hQj _ _ rfl
theorem sm_X11_least : ∀ (x0 : Nat), ∀ (x1 : Int32 → JP) (X1 : Int → MP), (∀ (x0 : Int32) (X0 : Int), x0.toInt = X0 → SM (x1 x0) (X1 X0)) → SM (JX11_least x0 x1) (MX11_least x0 X1) := by
  intro this Qj Qj' hQj
  unfold JX11_least MX11_least
  refine sm_putI rfl (show (nI 0).toInt = 0 by decide) ?_
  refine sm_obj ?_
  refine sm_X11_asksWhole this _ _ ?_
  intro v6 v6' hv6
  subst hv6
  exact hQj _ _ rfl
theorem sm_X1_many : ∀ (x0 : Nat), ∀ (x1 : Int32 → JP) (X1 : Int → MP), (∀ (x0 : Int32) (X0 : Int), x0.toInt = X0 → SM (x1 x0) (X1 X0)) → SM (JX1_many x0 x1) (MX1_many x0 X1) := by
  intro this Qj Qj' hQj
  unfold JX1_many MX1_many
  refine sm_obj ?_
  refine sm_X1_reads this _ _ ?_
  intro v1 v1' hv1
  subst hv1
  refine sm_if (cI_le (show (nI 0).toInt = 0 by decide) rfl) ?_ ?_
  · refine sm_getA rfl (fun v15 => ?_)
    refine sm_getI rfl (fun v18 => ?_)
    exact hQj _ _ rfl
  · refine sm_getI rfl (fun v8 => ?_)
    exact hQj _ _ rfl
theorem sm_X11_many : ∀ (x0 : Nat), ∀ (x1 : Int32 → JP) (X1 : Int → MP), (∀ (x0 : Int32) (X0 : Int), x0.toInt = X0 → SM (x1 x0) (X1 X0)) → SM (JX11_many x0 x1) (MX11_many x0 X1) := by
  intro this Qj Qj' hQj
  unfold JX11_many MX11_many
  refine sm_putI rfl (show (nI 0).toInt = 0 by decide) ?_
  refine sm_obj ?_
  refine sm_X11_asksWhole this _ _ ?_
  intro v6 v6' hv6
  subst hv6
  refine sm_if (cI_le (show (nI 0).toInt = 0 by decide) rfl) ?_ ?_
  · refine sm_getI rfl (fun v19 => ?_)
    exact hQj _ _ rfl
  · exact hQj _ _ rfl
theorem sm_X1_read : ∀ (x0 : Nat), ∀ (x1 : Nat), ∀ (x2 : Nat), ∀ (x3 : Int32) (X3 : Int), x3.toInt = X3 → ∀ (x4 : Nat → Nat → JP) (X4 : Nat → Nat → MP), (∀ z q, SM (x4 z q) (X4 z q)) → ∀ (x5 : Int32 → JP) (X5 : Int → MP), (∀ (x0 : Int32) (X0 : Int), x0.toInt = X0 → SM (x5 x0) (X5 X0)) → SM (JX1_read x0 x1 x2 x3 x4 x5) (MX1_read x0 x1 x2 X3 X4 X5) := by
  intro bc bs this p1 p1' hp1 Ex Ex' hEx Qj Qj' hQj
  subst hp1
  unfold JX1_read MX1_read
  refine sm_join (fun (k10 : Int32 → JP) (k10' : Int → MP) => ∀ (x0 : Int32) (X0 : Int), x0.toInt = X0 → SM (k10 x0) (k10' X0)) ?_ (fun k10 k10' hk10 => ?_)
  · intro s0_10 s0_10' hs0_10
    subst hs0_10
    refine sm_bud (fun mc10 ms10 => ?_)
    refine sm_X1_must mc10 ms10 _ _ rfl _ _ hEx _ _ ?_
    refine sm_obj ?_
    refine sm_X1_reads this _ _ ?_
    intro v14 v14' hv14
    subst hv14
    refine sm_if (cI_le (show (nI 0).toInt = 0 by decide) rfl) ?_ ?_
    · refine sm_if (cI_eq rfl (show ((-1) : Int32).toInt = (-1) by decide)) ?_ ?_
      · refine sm_getA rfl (fun v31 => ?_)
        refine sm_getI rfl (fun v34 => ?_)
        exact hQj _ _ rfl
      · refine sm_getA rfl (fun v42 => ?_)
        refine sm_getI rfl (fun v45 => ?_)
        refine sm_if (cI_le rfl rfl) ?_ ?_
        · exact hQj _ _ (show ((-3) : Int32).toInt = (-3) by decide)
        · refine sm_getA rfl (fun v52 => ?_)
          refine sm_getA rfl (fun v55 => ?_)
          refine sm_aldI (by decide) rfl (fun v59 => ?_)
          exact hQj _ _ rfl
    · refine sm_getI rfl (fun v21 => ?_)
      exact hQj _ _ rfl
  refine sm_if (cI_lt rfl (show ((-1) : Int32).toInt = (-1) by decide)) ?_ ?_
  · exact hk10 _ _ (show (nI 0).toInt = 0 by decide)
  · exact hk10 _ _ (show (nI 1).toInt = 1 by decide)
theorem sm_X0_read : ∀ (x0 : Nat), ∀ (x1 : Nat), ∀ (x2 : Nat), ∀ (x3 : Int32) (X3 : Int), x3.toInt = X3 → ∀ (x4 : Nat), ∀ (x5 : Int32 → JP) (X5 : Int → MP), (∀ (x0 : Int32) (X0 : Int), x0.toInt = X0 → SM (x5 x0) (X5 X0)) → SM (JX0_read x0 x1 x2 x3 x4 x5) (MX0_read x0 x1 x2 X3 x4 X5) := by
  intro bc bs p0 p1 p1' hp1 p2 Qj Qj' hQj
  subst hp1
  unfold JX0_read MX0_read
  refine sm_bud (fun mc4 ms4 => ?_)
  refine sm_obj ?_
  refine sm_X1_read mc4 ms4 p0 _ _ rfl _ _ (fun xx4 xq4 => ?_) _ _ ?_
  · refine sm_if Iff.rfl ?_ ?_
    · exact hQj _ _ (show (nI 1).toInt = 1 by decide)
    · exact SM.bot
  intro v4 v4' hv4
  subst hv4
  refine sm_astL (show (nI 0).toInt = 0 by decide) (tc_i2l rfl) ?_
  exact hQj _ _ (show (nI 0).toInt = 0 by decide)
theorem sm_X11_read : ∀ (x0 : Nat), ∀ (x1 : Int32) (X1 : Int), x1.toInt = X1 → ∀ (x2 : Int32 → JP) (X2 : Int → MP), (∀ (x0 : Int32) (X0 : Int), x0.toInt = X0 → SM (x2 x0) (X2 X0)) → SM (JX11_read x0 x1 x2) (MX11_read x0 X1 X2) := by
  intro this p1 p1' hp1 Qj Qj' hQj
  subst hp1
  unfold JX11_read MX11_read
  refine sm_putI rfl (show (nI 0).toInt = 0 by decide) ?_
  refine sm_join (fun (k16 : Int32 → JP) (k16' : Int → MP) => ∀ (x0 : Int32) (X0 : Int), x0.toInt = X0 → SM (k16 x0) (k16' X0)) ?_ (fun k16 k16' hk16 => ?_)
  · intro s1_16 s1_16' hs1_16
    subst hs1_16
    refine sm_obj ?_
    refine sm_X11_throwsIf this _ _ rfl _ _ (show (nI 1).toInt = 1 by decide) _ _ ?_
    intro v17 v17' hv17
    subst hv17
    refine sm_if (cI_eq rfl (show (nI 0).toInt = 0 by decide)) ?_ ?_
    · refine sm_obj ?_
      refine sm_X11_asksWhole this _ _ ?_
      intro v26 v26' hv26
      subst hv26
      refine sm_if (cI_le (show (nI 0).toInt = 0 by decide) rfl) ?_ ?_
      · refine sm_if (cI_le (show (nI 0).toInt = 0 by decide) rfl) ?_ ?_
        · refine sm_getI rfl (fun v51 => ?_)
          refine sm_if (cI_le rfl rfl) ?_ ?_
          · exact hQj _ _ (show ((-3) : Int32).toInt = (-3) by decide)
          · refine sm_getA rfl (fun v58 => ?_)
            refine sm_aldI (by decide) rfl (fun v62 => ?_)
            exact hQj _ _ rfl
        · refine sm_getI rfl (fun v43 => ?_)
          exact hQj _ _ rfl
      · exact hQj _ _ rfl
    · exact hQj _ _ (show (nI 0).toInt = 0 by decide)
  refine sm_if (cI_le (show ((-1) : Int32).toInt = (-1) by decide) rfl) ?_ ?_
  · exact hk16 _ _ (show (nI 0).toInt = 0 by decide)
  · exact hk16 _ _ (show (nI 1).toInt = 1 by decide)
theorem sm_X1_readNext : ∀ (x0 : Nat), ∀ (x1 : Nat), ∀ (x2 : Nat), ∀ (x3 : Int32) (X3 : Int), x3.toInt = X3 → ∀ (x4 : Nat → Nat → JP) (X4 : Nat → Nat → MP), (∀ z q, SM (x4 z q) (X4 z q)) → ∀ (x5 : Int32 → JP) (X5 : Int → MP), (∀ (x0 : Int32) (X0 : Int), x0.toInt = X0 → SM (x5 x0) (X5 X0)) → SM (JX1_readNext x0 x1 x2 x3 x4 x5) (MX1_readNext x0 x1 x2 X3 X4 X5) := by
  intro bc bs this p1 p1' hp1 Ex Ex' hEx Qj Qj' hQj
  subst hp1
  unfold JX1_readNext MX1_readNext
  refine sm_join (fun (k10 : Int32 → JP) (k10' : Int → MP) => ∀ (x0 : Int32) (X0 : Int), x0.toInt = X0 → SM (k10 x0) (k10' X0)) ?_ (fun k10 k10' hk10 => ?_)
  · intro s0_10 s0_10' hs0_10
    subst hs0_10
    refine sm_bud (fun mc10 ms10 => ?_)
    refine sm_X1_must mc10 ms10 _ _ rfl _ _ hEx _ _ ?_
    refine sm_obj ?_
    refine sm_X1_reads this _ _ ?_
    intro v14 v14' hv14
    subst hv14
    refine sm_if (cI_le (show (nI 0).toInt = 0 by decide) rfl) ?_ ?_
    · refine sm_getA rfl (fun v26 => ?_)
      refine sm_getI rfl (fun v29 => ?_)
      refine sm_if (cI_le (show (nI 2).toInt = 2 by decide) rfl) ?_ ?_
      · refine sm_if (cI_eq rfl (show ((-1) : Int32).toInt = (-1) by decide)) ?_ ?_
        · refine sm_getA rfl (fun v45 => ?_)
          refine sm_getI rfl (fun v48 => ?_)
          exact hQj _ _ rfl
        · refine sm_getA rfl (fun v56 => ?_)
          refine sm_getI rfl (fun v59 => ?_)
          refine sm_if (cI_le rfl rfl) ?_ ?_
          · exact hQj _ _ (show ((-3) : Int32).toInt = (-3) by decide)
          · refine sm_getA rfl (fun v66 => ?_)
            refine sm_getA rfl (fun v69 => ?_)
            refine sm_aldI (by decide) rfl (fun v73 => ?_)
            exact hQj _ _ rfl
      · exact hQj _ _ (show ((-3) : Int32).toInt = (-3) by decide)
    · refine sm_getI rfl (fun v21 => ?_)
      exact hQj _ _ rfl
  refine sm_if (cI_lt rfl (show ((-1) : Int32).toInt = (-1) by decide)) ?_ ?_
  · exact hk10 _ _ (show (nI 0).toInt = 0 by decide)
  · exact hk10 _ _ (show (nI 1).toInt = 1 by decide)
theorem sm_X0_readNext : ∀ (x0 : Nat), ∀ (x1 : Nat), ∀ (x2 : Nat), ∀ (x3 : Int32) (X3 : Int), x3.toInt = X3 → ∀ (x4 : Nat), ∀ (x5 : Int32 → JP) (X5 : Int → MP), (∀ (x0 : Int32) (X0 : Int), x0.toInt = X0 → SM (x5 x0) (X5 X0)) → SM (JX0_readNext x0 x1 x2 x3 x4 x5) (MX0_readNext x0 x1 x2 X3 x4 X5) := by
  intro bc bs p0 p1 p1' hp1 p2 Qj Qj' hQj
  subst hp1
  unfold JX0_readNext MX0_readNext
  refine sm_bud (fun mc4 ms4 => ?_)
  refine sm_obj ?_
  refine sm_X1_readNext mc4 ms4 p0 _ _ rfl _ _ (fun xx4 xq4 => ?_) _ _ ?_
  · refine sm_if Iff.rfl ?_ ?_
    · exact hQj _ _ (show (nI 1).toInt = 1 by decide)
    · exact SM.bot
  intro v4 v4' hv4
  subst hv4
  refine sm_astL (show (nI 0).toInt = 0 by decide) (tc_i2l rfl) ?_
  exact hQj _ _ (show (nI 0).toInt = 0 by decide)
theorem sm_X11_readNext : ∀ (x0 : Nat), ∀ (x1 : Int32) (X1 : Int), x1.toInt = X1 → ∀ (x2 : Int32 → JP) (X2 : Int → MP), (∀ (x0 : Int32) (X0 : Int), x0.toInt = X0 → SM (x2 x0) (X2 X0)) → SM (JX11_readNext x0 x1 x2) (MX11_readNext x0 X1 X2) := by
  intro this p1 p1' hp1 Qj Qj' hQj
  subst hp1
  unfold JX11_readNext MX11_readNext
  refine sm_putI rfl (show (nI 0).toInt = 0 by decide) ?_
  refine sm_join (fun (k16 : Int32 → JP) (k16' : Int → MP) => ∀ (x0 : Int32) (X0 : Int), x0.toInt = X0 → SM (k16 x0) (k16' X0)) ?_ (fun k16 k16' hk16 => ?_)
  · intro s1_16 s1_16' hs1_16
    subst hs1_16
    refine sm_obj ?_
    refine sm_X11_throwsIf this _ _ rfl _ _ (show (nI 1).toInt = 1 by decide) _ _ ?_
    intro v17 v17' hv17
    subst hv17
    refine sm_if (cI_eq rfl (show (nI 0).toInt = 0 by decide)) ?_ ?_
    · refine sm_obj ?_
      refine sm_X11_asksWhole this _ _ ?_
      intro v26 v26' hv26
      subst hv26
      refine sm_if (cI_le (show (nI 0).toInt = 0 by decide) rfl) ?_ ?_
      · refine sm_getI rfl (fun v39 => ?_)
        refine sm_if (cI_le (show (nI 2).toInt = 2 by decide) rfl) ?_ ?_
        · refine sm_if (cI_le (show (nI 0).toInt = 0 by decide) rfl) ?_ ?_
          · refine sm_getI rfl (fun v64 => ?_)
            refine sm_if (cI_le rfl rfl) ?_ ?_
            · exact hQj _ _ (show ((-3) : Int32).toInt = (-3) by decide)
            · refine sm_getA rfl (fun v71 => ?_)
              refine sm_aldI (by decide) rfl (fun v75 => ?_)
              exact hQj _ _ rfl
          · refine sm_getI rfl (fun v56 => ?_)
            exact hQj _ _ rfl
        · exact hQj _ _ (show ((-3) : Int32).toInt = (-3) by decide)
      · exact hQj _ _ rfl
    · exact hQj _ _ (show (nI 0).toInt = 0 by decide)
  refine sm_if (cI_le (show ((-1) : Int32).toInt = (-1) by decide) rfl) ?_ ?_
  · exact hk16 _ _ (show (nI 0).toInt = 0 by decide)
  · exact hk16 _ _ (show (nI 1).toInt = 1 by decide)
theorem sm_X1_slip : ∀ (x0 : Nat), ∀ (x1 : Nat), ∀ (x2 : Nat), ∀ (x3 : Int32) (X3 : Int), x3.toInt = X3 → ∀ (x4 : Int32) (X4 : Int), x4.toInt = X4 → ∀ (x5 : Nat → Nat → JP) (X5 : Nat → Nat → MP), (∀ z q, SM (x5 z q) (X5 z q)) → ∀ (x6 : Int32 → JP) (X6 : Int → MP), (∀ (x0 : Int32) (X0 : Int), x0.toInt = X0 → SM (x6 x0) (X6 X0)) → SM (JX1_slip x0 x1 x2 x3 x4 x5 x6) (MX1_slip x0 x1 x2 X3 X4 X5 X6) := by
  intro bc bs this p1 p1' hp1 p2 p2' hp2 Ex Ex' hEx Qj Qj' hQj
  subst hp1
  subst hp2
  unfold JX1_slip MX1_slip
  refine sm_bud (fun mc3 ms3 => ?_)
  refine sm_obj ?_
  refine sm_X1_isNote mc3 ms3 this _ _ rfl _ _ rfl _ _ hEx _ _ ?_
  refine sm_obj ?_
  refine sm_X1_reads this _ _ ?_
  intro v7 v7' hv7
  subst hv7
  refine sm_if (cI_le (show (nI 0).toInt = 0 by decide) rfl) ?_ ?_
  · refine sm_getA rfl (fun v21 => ?_)
    refine sm_aldA (by decide) rfl (fun v25 => ?_)
    refine sm_aldI (by decide) rfl (fun v27 => ?_)
    exact hQj _ _ rfl
  · refine sm_getI rfl (fun v14 => ?_)
    exact hQj _ _ rfl
theorem sm_X0_slip : ∀ (x0 : Nat), ∀ (x1 : Nat), ∀ (x2 : Nat), ∀ (x3 : Int32) (X3 : Int), x3.toInt = X3 → ∀ (x4 : Int32) (X4 : Int), x4.toInt = X4 → ∀ (x5 : Nat), ∀ (x6 : Int32 → JP) (X6 : Int → MP), (∀ (x0 : Int32) (X0 : Int), x0.toInt = X0 → SM (x6 x0) (X6 X0)) → SM (JX0_slip x0 x1 x2 x3 x4 x5 x6) (MX0_slip x0 x1 x2 X3 X4 x5 X6) := by
  intro bc bs p0 p1 p1' hp1 p2 p2' hp2 p3 Qj Qj' hQj
  subst hp1
  subst hp2
  unfold JX0_slip MX0_slip
  refine sm_bud (fun mc5 ms5 => ?_)
  refine sm_obj ?_
  refine sm_X1_slip mc5 ms5 p0 _ _ rfl _ _ rfl _ _ (fun xx5 xq5 => ?_) _ _ ?_
  · refine sm_if Iff.rfl ?_ ?_
    · exact hQj _ _ (show (nI 1).toInt = 1 by decide)
    · exact SM.bot
  intro v5 v5' hv5
  subst hv5
  refine sm_astL (show (nI 0).toInt = 0 by decide) (tc_i2l rfl) ?_
  exact hQj _ _ (show (nI 0).toInt = 0 by decide)
theorem smFX11_follows_92 (this : Nat) (p1 : Int32) {Qj : JP} {Qj' : MP} (hQj : SM Qj Qj') : ∀ n : Nat, ∀ (x0 : Int32) (X0 : Int), x0.toInt = X0 → ∀ (x1 : Int32) (X1 : Int), x1.toInt = X1 → SM (jit (FX11_follows_92 this p1 Qj) (fun _ _ => jbot) n x0 x1) (jit (GX11_follows_92 this p1.toInt Qj') (fun _ _ => mbot) n X0 X1) := by
  intro n
  induction n with
  | zero =>
    intro x2_92 x2_92' hx2_92 x3_92 x3_92' hx3_92
    exact SM.bot
  | succ n ih =>
    intro x2_92 x2_92' hx2_92 x3_92 x3_92' hx3_92
    subst hx2_92
    subst hx3_92
    show SM (FX11_follows_92 this p1 Qj (jit (FX11_follows_92 this p1 Qj) (fun _ _ => jbot) n) x2_92 x3_92) (GX11_follows_92 this p1.toInt Qj' (jit (GX11_follows_92 this p1.toInt Qj') (fun _ _ => mbot) n) x2_92.toInt x3_92.toInt)
    generalize jit (FX11_follows_92 this p1 Qj) (fun _ _ => jbot) n = rec92 at ih ⊢
    generalize jit (GX11_follows_92 this p1.toInt Qj') (fun _ _ => mbot) n = rec92' at ih ⊢
    have hrec92 := ih
    unfold FX11_follows_92 GX11_follows_92
    refine sm_if (cI_le (tc_add rfl rfl) (show (nI 0).toInt = 0 by decide)) ?_ ?_
    · exact hQj
    · refine sm_getA rfl (fun v99 => ?_)
      refine sm_X11_sumAt _ _ rfl _ _ rfl _ _ rfl _ _ ?_
      intro v105 v105' hv105
      subst hv105
      refine sm_aldI (by decide) rfl (fun v108 => ?_)
      refine sm_obj ?_
      refine sm_X11_ofMove this _ _ rfl _ _ rfl _ _ rfl _ _ ?_
      intro v117 v117' hv117
      subst hv117
      refine sm_join (fun (k192 : Int32 → Int32 → JP) (k192' : Int → Int → MP) => ∀ (x0 : Int32) (X0 : Int), x0.toInt = X0 → ∀ (x1 : Int32) (X1 : Int), x1.toInt = X1 → SM (k192 x0 x1) (k192' X0 X1)) ?_ (fun k192 k192' hk192 => ?_)
      · intro x2_192 x2_192' hx2_192 x3_192 x3_192' hx3_192
        subst hx2_192
        subst hx3_192
        exact hrec92 _ _ rfl _ _ rfl
      refine sm_if (cI_eq rfl rfl) ?_ ?_
      · refine sm_getA rfl (fun v130 => ?_)
        refine sm_getA rfl (fun v135 => ?_)
        refine sm_X11_fitAt _ _ (tc_add rfl (show ((-1) : Int32).toInt = (-1) by decide)) _ _ rfl _ _ (tc_add rfl (show ((-1) : Int32).toInt = (-1) by decide)) _ _ ?_
        intro v141 v141' hv141
        subst hv141
        refine sm_aldI (by decide) rfl (fun v144 => ?_)
        refine sm_astI (tc_add rfl (show ((-1) : Int32).toInt = (-1) by decide)) rfl ?_
        refine sm_getA rfl (fun v147 => ?_)
        refine sm_astI (tc_add rfl (show ((-1) : Int32).toInt = (-1) by decide)) (tc_add rfl (show ((-1) : Int32).toInt = (-1) by decide)) ?_
        exact hk192 _ _ (tc_add rfl (show ((-1) : Int32).toInt = (-1) by decide)) _ _ (tc_add rfl (show ((-1) : Int32).toInt = (-1) by decide))
      · refine sm_obj ?_
        refine sm_X11_ofLost this _ _ rfl _ _ rfl _ _ rfl _ _ ?_
        intro v162 v162' hv162
        subst hv162
        refine sm_if (cI_eq rfl rfl) ?_ ?_
        · refine sm_getA rfl (fun v172 => ?_)
          refine sm_astI (tc_add rfl (show ((-1) : Int32).toInt = (-1) by decide)) (show ((-1) : Int32).toInt = (-1) by decide) ?_
          exact hk192 _ _ (tc_add rfl (show ((-1) : Int32).toInt = (-1) by decide)) _ _ rfl
        · refine sm_getA rfl (fun v185 => ?_)
          refine sm_astI (tc_add rfl (show ((-1) : Int32).toInt = (-1) by decide)) (show (nI 7).toInt = 7 by decide) ?_
          exact hk192 _ _ rfl _ _ (tc_add rfl (show ((-1) : Int32).toInt = (-1) by decide))
theorem smFX11_follows_45 (this : Nat) (p1 : Int32) (x2_12 : Int32) {k67 : JP} {k67' : MP} (hk67 : SM k67 k67') : ∀ n : Nat, ∀ (x0 : Int32) (X0 : Int), x0.toInt = X0 → SM (jit (FX11_follows_45 this p1 x2_12 k67) (fun _ => jbot) n x0) (jit (GX11_follows_45 this p1.toInt x2_12.toInt k67') (fun _ => mbot) n X0) := by
  intro n
  induction n with
  | zero =>
    intro x3_45 x3_45' hx3_45
    exact SM.bot
  | succ n ih =>
    intro x3_45 x3_45' hx3_45
    subst hx3_45
    show SM (FX11_follows_45 this p1 x2_12 k67 (jit (FX11_follows_45 this p1 x2_12 k67) (fun _ => jbot) n) x3_45) (GX11_follows_45 this p1.toInt x2_12.toInt k67' (jit (GX11_follows_45 this p1.toInt x2_12.toInt k67') (fun _ => mbot) n) x3_45.toInt)
    generalize jit (FX11_follows_45 this p1 x2_12 k67) (fun _ => jbot) n = rec45 at ih ⊢
    generalize jit (GX11_follows_45 this p1.toInt x2_12.toInt k67') (fun _ => mbot) n = rec45' at ih ⊢
    have hrec45 := ih
    unfold FX11_follows_45 GX11_follows_45
    refine sm_obj ?_
    refine sm_X11_notes this _ _ rfl _ _ ?_
    intro v48 v48' hv48
    subst hv48
    refine sm_if (cI_le rfl rfl) ?_ ?_
    · exact hk67
    · refine sm_obj ?_
      refine sm_X11_tries this _ _ rfl _ _ rfl _ _ rfl _ _ ?_
      exact hrec45 _ _ (tc_add rfl (show (nI 1).toInt = 1 by decide))
theorem smFX11_follows_12 (this : Nat) (p1 : Int32) {k81 : JP} {k81' : MP} (hk81 : SM k81 k81') : ∀ n : Nat, ∀ (x0 : Int32) (X0 : Int), x0.toInt = X0 → SM (jit (FX11_follows_12 this p1 k81) (fun _ => jbot) n x0) (jit (GX11_follows_12 this p1.toInt k81') (fun _ => mbot) n X0) := by
  intro n
  induction n with
  | zero =>
    intro x2_12 x2_12' hx2_12
    exact SM.bot
  | succ n ih =>
    intro x2_12 x2_12' hx2_12
    subst hx2_12
    show SM (FX11_follows_12 this p1 k81 (jit (FX11_follows_12 this p1 k81) (fun _ => jbot) n) x2_12) (GX11_follows_12 this p1.toInt k81' (jit (GX11_follows_12 this p1.toInt k81') (fun _ => mbot) n) x2_12.toInt)
    generalize jit (FX11_follows_12 this p1 k81) (fun _ => jbot) n = rec12 at ih ⊢
    generalize jit (GX11_follows_12 this p1.toInt k81') (fun _ => mbot) n = rec12' at ih ⊢
    have hrec12 := ih
    unfold FX11_follows_12 GX11_follows_12
    refine sm_getI rfl (fun v14 => ?_)
    refine sm_if (cI_le rfl rfl) ?_ ?_
    · exact hk81
    · refine sm_getA rfl (fun v21 => ?_)
      refine sm_getA rfl (fun v26 => ?_)
      refine sm_aldI (by decide) rfl (fun v30 => ?_)
      refine sm_astI rfl rfl ?_
      refine sm_getA rfl (fun v35 => ?_)
      refine sm_aldI (by decide) rfl (fun v39 => ?_)
      refine sm_obj ?_
      refine sm_X11_makes this _ _ rfl _ _ rfl _ _ ?_
      refine sm_ex (fun n45 => ?_)
      refine smFX11_follows_45 this p1 x2_12 ?_ n45 _ _ (show (nI 0).toInt = 0 by decide)
      · refine sm_obj ?_
        refine sm_X11_sums this _ _ rfl _ _ (tc_add rfl (show (nI 1).toInt = 1 by decide)) _ _ ?_
        exact hrec12 _ _ (tc_add rfl (show (nI 1).toInt = 1 by decide))
theorem sm_X11_follows : ∀ (x0 : Nat), ∀ (x1 : Int32) (X1 : Int), x1.toInt = X1 → ∀ (x2 : JP) (X2 : MP), SM x2 X2 → SM (JX11_follows x0 x1 x2) (MX11_follows x0 X1 X2) := by
  intro this p1 p1' hp1 Qj Qj' hQj
  subst hp1
  unfold JX11_follows MX11_follows
  refine sm_obj ?_
  refine sm_X11_begins this _ _ ?_
  refine sm_obj ?_
  refine sm_X11_sums this _ _ rfl _ _ (show (nI 0).toInt = 0 by decide) _ _ ?_
  refine sm_ex (fun n12 => ?_)
  refine smFX11_follows_12 this p1 ?_ n12 _ _ (show (nI 0).toInt = 0 by decide)
  · refine sm_getI rfl (fun v82 => ?_)
    refine sm_obj ?_
    refine sm_X11_notes this _ _ rfl _ _ ?_
    intro v88 v88' hv88
    subst hv88
    refine sm_ex (fun n92 => ?_)
    refine smFX11_follows_92 this p1 hQj n92 _ _ rfl _ _ rfl
theorem sm_X11_slip : ∀ (x0 : Nat), ∀ (x1 : Int32) (X1 : Int), x1.toInt = X1 → ∀ (x2 : Int32) (X2 : Int), x2.toInt = X2 → ∀ (x3 : Int32 → JP) (X3 : Int → MP), (∀ (x0 : Int32) (X0 : Int), x0.toInt = X0 → SM (x3 x0) (X3 X0)) → SM (JX11_slip x0 x1 x2 x3) (MX11_slip x0 X1 X2 X3) := by
  intro this p1 p1' hp1 p2 p2' hp2 Qj Qj' hQj
  subst hp1
  subst hp2
  unfold JX11_slip MX11_slip
  refine sm_putI rfl (show (nI 0).toInt = 0 by decide) ?_
  refine sm_obj ?_
  refine sm_X11_noNote this _ _ rfl _ _ rfl _ _ ?_
  intro v9 v9' hv9
  subst hv9
  refine sm_obj ?_
  refine sm_X11_throwsIf this _ _ rfl _ _ (show (nI 1).toInt = 1 by decide) _ _ ?_
  intro v13 v13' hv13
  subst hv13
  refine sm_if (cI_eq rfl (show (nI 0).toInt = 0 by decide)) ?_ ?_
  · refine sm_obj ?_
    refine sm_X11_asksWhole this _ _ ?_
    intro v22 v22' hv22
    subst hv22
    refine sm_if (cI_le (show (nI 0).toInt = 0 by decide) rfl) ?_ ?_
    · refine sm_obj ?_
      refine sm_X11_follows this _ _ rfl _ _ ?_
      refine sm_getA rfl (fun v38 => ?_)
      refine sm_aldI (by decide) rfl (fun v42 => ?_)
      exact hQj _ _ rfl
    · exact hQj _ _ rfl
  · exact hQj _ _ (show (nI 0).toInt = 0 by decide)
theorem smFX1_slips_41 (this : Nat) (p1 : Int32) (p2 : Int32) {Qj : Int32 → JP} {Qj' : Int → MP} (hQj : ∀ (x0 : Int32) (X0 : Int), x0.toInt = X0 → SM (Qj x0) (Qj' X0)) (v2 : Nat) : ∀ n : Nat, ∀ (x0 : Int32) (X0 : Int), x0.toInt = X0 → ∀ (x1 : Int32) (X1 : Int), x1.toInt = X1 → SM (jit (FX1_slips_41 this p1 p2 Qj v2) (fun _ _ => jbot) n x0 x1) (jit (GX1_slips_41 this p1.toInt p2.toInt Qj' v2) (fun _ _ => mbot) n X0 X1) := by
  intro n
  induction n with
  | zero =>
    intro x4_41 x4_41' hx4_41 x5_41 x5_41' hx5_41
    exact SM.bot
  | succ n ih =>
    intro x4_41 x4_41' hx4_41 x5_41 x5_41' hx5_41
    subst hx4_41
    subst hx5_41
    show SM (FX1_slips_41 this p1 p2 Qj v2 (jit (FX1_slips_41 this p1 p2 Qj v2) (fun _ _ => jbot) n) x4_41 x5_41) (GX1_slips_41 this p1.toInt p2.toInt Qj' v2 (jit (GX1_slips_41 this p1.toInt p2.toInt Qj' v2) (fun _ _ => mbot) n) x4_41.toInt x5_41.toInt)
    generalize jit (FX1_slips_41 this p1 p2 Qj v2) (fun _ _ => jbot) n = rec41 at ih ⊢
    generalize jit (GX1_slips_41 this p1.toInt p2.toInt Qj' v2) (fun _ _ => mbot) n = rec41' at ih ⊢
    have hrec41 := ih
    unfold FX1_slips_41 GX1_slips_41
    refine sm_getI rfl (fun v44 => ?_)
    refine sm_if (cI_le rfl rfl) ?_ ?_
    · exact hQj _ _ rfl
    · refine sm_getA rfl (fun v53 => ?_)
      refine sm_aldA (by decide) rfl (fun v57 => ?_)
      refine sm_aldI (by decide) rfl (fun v60 => ?_)
      refine sm_join (fun (k70 : Int32 → JP) (k70' : Int → MP) => ∀ (x0 : Int32) (X0 : Int), x0.toInt = X0 → SM (k70 x0) (k70' X0)) ?_ (fun k70 k70' hk70 => ?_)
      · intro s1_70 s1_70' hs1_70
        subst hs1_70
        exact hrec41 _ _ (tc_add rfl rfl) _ _ (tc_add rfl (show (nI 1).toInt = 1 by decide))
      refine sm_if (cI_eq rfl rfl) ?_ ?_
      · exact hk70 _ _ (show (nI 1).toInt = 1 by decide)
      · exact hk70 _ _ (show (nI 0).toInt = 0 by decide)
theorem sm_X1_slips : ∀ (x0 : Nat), ∀ (x1 : Nat), ∀ (x2 : Nat), ∀ (x3 : Int32) (X3 : Int), x3.toInt = X3 → ∀ (x4 : Int32) (X4 : Int), x4.toInt = X4 → ∀ (x5 : Nat → Nat → JP) (X5 : Nat → Nat → MP), (∀ z q, SM (x5 z q) (X5 z q)) → ∀ (x6 : Int32 → JP) (X6 : Int → MP), (∀ (x0 : Int32) (X0 : Int), x0.toInt = X0 → SM (x6 x0) (X6 X0)) → SM (JX1_slips x0 x1 x2 x3 x4 x5 x6) (MX1_slips x0 x1 x2 X3 X4 X5 X6) := by
  intro bc bs this p1 p1' hp1 p2 p2' hp2 Ex Ex' hEx Qj Qj' hQj
  subst hp1
  subst hp2
  unfold JX1_slips MX1_slips
  refine sm_bud (fun mc2 ms2 => ?_)
  refine sm_obj ?_
  refine sm_X1_bookAt mc2 ms2 this _ _ rfl _ _ hEx _ _ ?_
  intro v2
  refine sm_bud (fun mc7 ms7 => ?_)
  refine sm_X1_isSlip mc7 ms7 _ _ rfl _ _ hEx _ _ ?_
  refine sm_obj ?_
  refine sm_X1_reads this _ _ ?_
  intro v11 v11' hv11
  subst hv11
  refine sm_if (cI_le (show (nI 0).toInt = 0 by decide) rfl) ?_ ?_
  · refine sm_if (cI_eq rfl (show (nI 6).toInt = 6 by decide)) ?_ ?_
    · refine sm_getA rfl (fun v29 => ?_)
      refine sm_aldI (by decide) rfl (fun v33 => ?_)
      exact hQj _ _ rfl
    · refine sm_ex (fun n41 => ?_)
      refine smFX1_slips_41 this p1 p2 hQj v2 n41 _ _ (show (nI 0).toInt = 0 by decide) _ _ (show (nI 0).toInt = 0 by decide)
  · refine sm_getI rfl (fun v18 => ?_)
    exact hQj _ _ rfl
theorem sm_X0_slips : ∀ (x0 : Nat), ∀ (x1 : Nat), ∀ (x2 : Nat), ∀ (x3 : Int32) (X3 : Int), x3.toInt = X3 → ∀ (x4 : Int32) (X4 : Int), x4.toInt = X4 → ∀ (x5 : Nat), ∀ (x6 : Int32 → JP) (X6 : Int → MP), (∀ (x0 : Int32) (X0 : Int), x0.toInt = X0 → SM (x6 x0) (X6 X0)) → SM (JX0_slips x0 x1 x2 x3 x4 x5 x6) (MX0_slips x0 x1 x2 X3 X4 x5 X6) := by
  intro bc bs p0 p1 p1' hp1 p2 p2' hp2 p3 Qj Qj' hQj
  subst hp1
  subst hp2
  unfold JX0_slips MX0_slips
  refine sm_bud (fun mc5 ms5 => ?_)
  refine sm_obj ?_
  refine sm_X1_slips mc5 ms5 p0 _ _ rfl _ _ rfl _ _ (fun xx5 xq5 => ?_) _ _ ?_
  · refine sm_if Iff.rfl ?_ ?_
    · exact hQj _ _ (show (nI 1).toInt = 1 by decide)
    · exact SM.bot
  intro v5 v5' hv5
  subst hv5
  refine sm_astL (show (nI 0).toInt = 0 by decide) (tc_i2l rfl) ?_
  exact hQj _ _ (show (nI 0).toInt = 0 by decide)
theorem smFX11_slips_100 (this : Nat) (p2 : Int32) {Qj : Int32 → JP} {Qj' : Int → MP} (hQj : ∀ (x0 : Int32) (X0 : Int), x0.toInt = X0 → SM (Qj x0) (Qj' X0)) : ∀ n : Nat, ∀ (x0 : Int32) (X0 : Int), x0.toInt = X0 → ∀ (x1 : Int32) (X1 : Int), x1.toInt = X1 → SM (jit (FX11_slips_100 this p2 Qj) (fun _ _ => jbot) n x0 x1) (jit (GX11_slips_100 this p2.toInt Qj') (fun _ _ => mbot) n X0 X1) := by
  intro n
  induction n with
  | zero =>
    intro x4_100 x4_100' hx4_100 x5_100 x5_100' hx5_100
    exact SM.bot
  | succ n ih =>
    intro x4_100 x4_100' hx4_100 x5_100 x5_100' hx5_100
    subst hx4_100
    subst hx5_100
    show SM (FX11_slips_100 this p2 Qj (jit (FX11_slips_100 this p2 Qj) (fun _ _ => jbot) n) x4_100 x5_100) (GX11_slips_100 this p2.toInt Qj' (jit (GX11_slips_100 this p2.toInt Qj') (fun _ _ => mbot) n) x4_100.toInt x5_100.toInt)
    generalize jit (FX11_slips_100 this p2 Qj) (fun _ _ => jbot) n = rec100 at ih ⊢
    generalize jit (GX11_slips_100 this p2.toInt Qj') (fun _ _ => mbot) n = rec100' at ih ⊢
    have hrec100 := ih
    unfold FX11_slips_100 GX11_slips_100
    refine sm_getI rfl (fun v103 => ?_)
    refine sm_if (cI_le rfl rfl) ?_ ?_
    · exact hQj _ _ rfl
    · refine sm_if (cI_eq rfl (show (nI 6).toInt = 6 by decide)) ?_ ?_
      · refine sm_getA rfl (fun v118 => ?_)
        refine sm_aldI (by decide) rfl (fun v123 => ?_)
        refine sm_join (fun (k132 : Int32 → JP) (k132' : Int → MP) => ∀ (x0 : Int32) (X0 : Int), x0.toInt = X0 → SM (k132 x0) (k132' X0)) ?_ (fun k132 k132' hk132 => ?_)
        · intro s1_132 s1_132' hs1_132
          subst hs1_132
          exact hrec100 _ _ (tc_add rfl rfl) _ _ (tc_add rfl (show (nI 1).toInt = 1 by decide))
        refine sm_if (cI_le (show (nI 0).toInt = 0 by decide) rfl) ?_ ?_
        · exact hk132 _ _ (show (nI 0).toInt = 0 by decide)
        · exact hk132 _ _ (show (nI 1).toInt = 1 by decide)
      · exact hQj _ _ rfl
theorem smFX11_slips_60 (this : Nat) (p1 : Int32) (p2 : Int32) {k97 : Int32 → JP} {k97' : Int → MP} (hk97 : ∀ (x0 : Int32) (X0 : Int), x0.toInt = X0 → SM (k97 x0) (k97' X0)) : ∀ n : Nat, ∀ (x0 : Int32) (X0 : Int), x0.toInt = X0 → ∀ (x1 : Int32) (X1 : Int), x1.toInt = X1 → SM (jit (FX11_slips_60 this p1 p2 k97) (fun _ _ => jbot) n x0 x1) (jit (GX11_slips_60 this p1.toInt p2.toInt k97') (fun _ _ => mbot) n X0 X1) := by
  intro n
  induction n with
  | zero =>
    intro x4_60 x4_60' hx4_60 x5_60 x5_60' hx5_60
    exact SM.bot
  | succ n ih =>
    intro x4_60 x4_60' hx4_60 x5_60 x5_60' hx5_60
    subst hx4_60
    subst hx5_60
    show SM (FX11_slips_60 this p1 p2 k97 (jit (FX11_slips_60 this p1 p2 k97) (fun _ _ => jbot) n) x4_60 x5_60) (GX11_slips_60 this p1.toInt p2.toInt k97' (jit (GX11_slips_60 this p1.toInt p2.toInt k97') (fun _ _ => mbot) n) x4_60.toInt x5_60.toInt)
    generalize jit (FX11_slips_60 this p1 p2 k97) (fun _ _ => jbot) n = rec60 at ih ⊢
    generalize jit (GX11_slips_60 this p1.toInt p2.toInt k97') (fun _ _ => mbot) n = rec60' at ih ⊢
    have hrec60 := ih
    unfold FX11_slips_60 GX11_slips_60
    refine sm_obj ?_
    refine sm_X11_notes this _ _ rfl _ _ ?_
    intro v64 v64' hv64
    subst hv64
    refine sm_if (cI_le rfl rfl) ?_ ?_
    · exact hk97 _ _ rfl
    · refine sm_getA rfl (fun v73 => ?_)
      refine sm_aldI (by decide) rfl (fun v78 => ?_)
      refine sm_join (fun (k88 : Int32 → JP) (k88' : Int → MP) => ∀ (x0 : Int32) (X0 : Int), x0.toInt = X0 → SM (k88 x0) (k88' X0)) ?_ (fun k88 k88' hk88 => ?_)
      · intro s1_88 s1_88' hs1_88
        subst hs1_88
        exact hrec60 _ _ (tc_add rfl rfl) _ _ (tc_add rfl (show (nI 1).toInt = 1 by decide))
      refine sm_if (cI_eq rfl rfl) ?_ ?_
      · exact hk88 _ _ (show (nI 1).toInt = 1 by decide)
      · exact hk88 _ _ (show (nI 0).toInt = 0 by decide)
theorem sm_X11_slips : ∀ (x0 : Nat), ∀ (x1 : Int32) (X1 : Int), x1.toInt = X1 → ∀ (x2 : Int32) (X2 : Int), x2.toInt = X2 → ∀ (x3 : Int32 → JP) (X3 : Int → MP), (∀ (x0 : Int32) (X0 : Int), x0.toInt = X0 → SM (x3 x0) (X3 X0)) → SM (JX11_slips x0 x1 x2 x3) (MX11_slips x0 X1 X2 X3) := by
  intro this p1 p1' hp1 p2 p2' hp2 Qj Qj' hQj
  subst hp1
  subst hp2
  unfold JX11_slips MX11_slips
  refine sm_putI rfl (show (nI 0).toInt = 0 by decide) ?_
  refine sm_obj ?_
  refine sm_X11_noBook this _ _ rfl _ _ ?_
  intro v8 v8' hv8
  subst hv8
  refine sm_join (fun (k29 : Int32 → JP) (k29' : Int → MP) => ∀ (x0 : Int32) (X0 : Int), x0.toInt = X0 → SM (k29 x0) (k29' X0)) ?_ (fun k29 k29' hk29 => ?_)
  · intro s1_29 s1_29' hs1_29
    subst hs1_29
    refine sm_obj ?_
    refine sm_X11_throwsIf this _ _ rfl _ _ (show (nI 1).toInt = 1 by decide) _ _ ?_
    intro v30 v30' hv30
    subst hv30
    refine sm_if (cI_eq rfl (show (nI 0).toInt = 0 by decide)) ?_ ?_
    · refine sm_obj ?_
      refine sm_X11_asksWhole this _ _ ?_
      intro v39 v39' hv39
      subst hv39
      refine sm_if (cI_le (show (nI 0).toInt = 0 by decide) rfl) ?_ ?_
      · refine sm_obj ?_
        refine sm_X11_follows this _ _ rfl _ _ ?_
        refine sm_ex (fun n60 => ?_)
        refine smFX11_slips_60 this p1 p2 ?_ n60 _ _ (show (nI 0).toInt = 0 by decide) _ _ (show (nI 0).toInt = 0 by decide)
        · intro y4_97 y4_97' hy4_97
          subst hy4_97
          refine sm_ex (fun n100 => ?_)
          refine smFX11_slips_100 this p2 hQj n100 _ _ rfl _ _ (show (nI 0).toInt = 0 by decide)
      · exact hQj _ _ rfl
    · exact hQj _ _ (show (nI 0).toInt = 0 by decide)
  refine sm_join (fun (k24 : JP) (k24' : MP) => SM k24 k24') ?_ (fun k24 k24' hk24 => ?_)
  · exact hk29 _ _ (show (nI 1).toInt = 1 by decide)
  refine sm_if (cI_eq rfl (show (nI 0).toInt = 0 by decide)) ?_ ?_
  · refine sm_X11_in _ _ rfl _ _ (show (nI 1).toInt = 1 by decide) _ _ (show (nI 7).toInt = 7 by decide) _ _ ?_
    intro v18 v18' hv18
    subst hv18
    refine sm_if (cI_eq rfl (show (nI 0).toInt = 0 by decide)) ?_ ?_
    · exact hk24
    · exact hk29 _ _ (show (nI 0).toInt = 0 by decide)
  · exact hk24
theorem sm_X10_lets : ∀ (x0 : Nat), ∀ (x1 : Int32) (X1 : Int), x1.toInt = X1 → ∀ (x2 : Int32 → JP) (X2 : Int → MP), (∀ (x0 : Int32) (X0 : Int), x0.toInt = X0 → SM (x2 x0) (X2 X0)) → SM (JX10_lets x0 x1 x2) (MX10_lets x0 X1 X2) := by
  intro this p1 p1' hp1 Qj Qj' hQj
  subst hp1
  unfold JX10_lets MX10_lets
  refine sm_obj ?_
  refine sm_X10_begins this _ _ (tc_shl (show (nI 1).toInt = 1 by decide) rfl) _ _ (show (nI 1).toInt = 1 by decide) _ _ ?_
  refine sm_obj ?_
  refine sm_X10_walks this _ _ (show (nI 0).toInt = 0 by decide) _ _ ?_
  refine sm_getI rfl (fun v14 => ?_)
  refine sm_if (cI_eq rfl (show (nI 0).toInt = 0 by decide)) ?_ ?_
  · refine sm_getI rfl (fun v26 => ?_)
    exact hQj _ _ rfl
  · exact hQj _ _ (show ((-2) : Int32).toInt = (-2) by decide)
theorem sm_X1_breaks : ∀ (x0 : Nat), ∀ (x1 : Nat), ∀ (x2 : Nat), ∀ (x3 : Int32) (X3 : Int), x3.toInt = X3 → ∀ (x4 : Nat → Nat → JP) (X4 : Nat → Nat → MP), (∀ z q, SM (x4 z q) (X4 z q)) → ∀ (x5 : Int32 → JP) (X5 : Int → MP), (∀ (x0 : Int32) (X0 : Int), x0.toInt = X0 → SM (x5 x0) (X5 X0)) → SM (JX1_breaks x0 x1 x2 x3 x4 x5) (MX1_breaks x0 x1 x2 X3 X4 X5) := by
  intro bc bs this p1 p1' hp1 Ex Ex' hEx Qj Qj' hQj
  subst hp1
  unfold JX1_breaks MX1_breaks
  refine sm_bud (fun mc2 ms2 => ?_)
  refine sm_obj ?_
  refine sm_X1_bookAt mc2 ms2 this _ _ rfl _ _ hEx _ _ ?_
  intro v2
  refine sm_getA rfl (fun v7 => ?_)
  refine sm_obj ?_
  refine sm_X10_lets v7 _ _ rfl _ _ ?_
  intro v11 v11' hv11
  subst hv11
  refine sm_getI rfl (fun v17 => ?_)
  refine sm_if (cI_eq rfl rfl) ?_ ?_
  · exact hQj _ _ (show ((-3) : Int32).toInt = (-3) by decide)
  · exact hQj _ _ rfl
theorem sm_X0_breaks : ∀ (x0 : Nat), ∀ (x1 : Nat), ∀ (x2 : Nat), ∀ (x3 : Int32) (X3 : Int), x3.toInt = X3 → ∀ (x4 : Nat), ∀ (x5 : Int32 → JP) (X5 : Int → MP), (∀ (x0 : Int32) (X0 : Int), x0.toInt = X0 → SM (x5 x0) (X5 X0)) → SM (JX0_breaks x0 x1 x2 x3 x4 x5) (MX0_breaks x0 x1 x2 X3 x4 X5) := by
  intro bc bs p0 p1 p1' hp1 p2 Qj Qj' hQj
  subst hp1
  unfold JX0_breaks MX0_breaks
  refine sm_bud (fun mc4 ms4 => ?_)
  refine sm_obj ?_
  refine sm_X1_breaks mc4 ms4 p0 _ _ rfl _ _ (fun xx4 xq4 => ?_) _ _ ?_
  · refine sm_if Iff.rfl ?_ ?_
    · exact hQj _ _ (show (nI 1).toInt = 1 by decide)
    · exact SM.bot
  intro v4 v4' hv4
  subst hv4
  refine sm_astL (show (nI 0).toInt = 0 by decide) (tc_i2l rfl) ?_
  exact hQj _ _ (show (nI 0).toInt = 0 by decide)
theorem smFX11_breaks_33 (this : Nat) {k52 : JP} {k52' : MP} (hk52 : SM k52 k52') : ∀ n : Nat, ∀ (x0 : Int32) (X0 : Int), x0.toInt = X0 → SM (jit (FX11_breaks_33 this k52) (fun _ => jbot) n x0) (jit (GX11_breaks_33 this k52') (fun _ => mbot) n X0) := by
  intro n
  induction n with
  | zero =>
    intro x2_33 x2_33' hx2_33
    exact SM.bot
  | succ n ih =>
    intro x2_33 x2_33' hx2_33
    subst hx2_33
    show SM (FX11_breaks_33 this k52 (jit (FX11_breaks_33 this k52) (fun _ => jbot) n) x2_33) (GX11_breaks_33 this k52' (jit (GX11_breaks_33 this k52') (fun _ => mbot) n) x2_33.toInt)
    generalize jit (FX11_breaks_33 this k52) (fun _ => jbot) n = rec33 at ih ⊢
    generalize jit (GX11_breaks_33 this k52') (fun _ => mbot) n = rec33' at ih ⊢
    have hrec33 := ih
    unfold FX11_breaks_33 GX11_breaks_33
    refine sm_if (cI_le (show (nI 8).toInt = 8 by decide) rfl) ?_ ?_
    · exact hk52
    · refine sm_getA rfl (fun v40 => ?_)
      refine sm_astI rfl (show (nI 0).toInt = 0 by decide) ?_
      exact hrec33 _ _ (tc_add rfl (show (nI 1).toInt = 1 by decide))
theorem sm_X11_breaks : ∀ (x0 : Nat), ∀ (x1 : Int32) (X1 : Int), x1.toInt = X1 → ∀ (x2 : Int32 → JP) (X2 : Int → MP), (∀ (x0 : Int32) (X0 : Int), x0.toInt = X0 → SM (x2 x0) (X2 X0)) → SM (JX11_breaks x0 x1 x2) (MX11_breaks x0 X1 X2) := by
  intro this p1 p1' hp1 Qj Qj' hQj
  subst hp1
  unfold JX11_breaks MX11_breaks
  refine sm_putI rfl (show (nI 0).toInt = 0 by decide) ?_
  refine sm_obj ?_
  refine sm_X11_noBook this _ _ rfl _ _ ?_
  intro v8 v8' hv8
  subst hv8
  refine sm_obj ?_
  refine sm_X11_throwsIf this _ _ rfl _ _ (show (nI 1).toInt = 1 by decide) _ _ ?_
  intro v12 v12' hv12
  subst hv12
  refine sm_if (cI_eq rfl (show (nI 0).toInt = 0 by decide)) ?_ ?_
  · refine sm_obj ?_
    refine sm_X11_asksAll this _ _ ?_
    refine sm_putI rfl (tc_shl (show (nI 1).toInt = 1 by decide) rfl) ?_
    refine sm_ex (fun n33 => ?_)
    refine smFX11_breaks_33 this ?_ n33 _ _ (show (nI 0).toInt = 0 by decide)
    · refine sm_putI rfl (show (nI 0).toInt = 0 by decide) ?_
      refine sm_putZ rfl (show (nI 0).toInt = 0 by decide) ?_
      refine sm_putZ rfl (show (nI 1).toInt = 1 by decide) ?_
      refine sm_putI rfl (show (nI 30).toInt = 30 by decide) ?_
      refine sm_obj ?_
      refine sm_X11_laysAll this _ _ (show (nI 0).toInt = 0 by decide) _ _ ?_
      refine sm_getI rfl (fun v79 => ?_)
      refine sm_if (cI_eq rfl (show (nI 0).toInt = 0 by decide)) ?_ ?_
      · refine sm_getI rfl (fun v91 => ?_)
        refine sm_obj ?_
        refine sm_X11_notes this _ _ rfl _ _ ?_
        intro v96 v96' hv96
        subst hv96
        refine sm_if (cI_eq rfl rfl) ?_ ?_
        · exact hQj _ _ (show ((-3) : Int32).toInt = (-3) by decide)
        · refine sm_getI rfl (fun v108 => ?_)
          exact hQj _ _ rfl
      · exact hQj _ _ (show ((-2) : Int32).toInt = (-2) by decide)
  · exact hQj _ _ (show (nI 0).toInt = 0 by decide)
theorem smFX1_brief_117 (this : Nat) {Qj : Int32 → JP} {Qj' : Int → MP} (hQj : ∀ (x0 : Int32) (X0 : Int), x0.toInt = X0 → SM (Qj x0) (Qj' X0)) (v97 : Int32) (v109 : Int32) : ∀ n : Nat, ∀ (x0 : Int32) (X0 : Int), x0.toInt = X0 → ∀ (x1 : Int32) (X1 : Int), x1.toInt = X1 → SM (jit (FX1_brief_117 this Qj v97 v109) (fun _ _ => jbot) n x0 x1) (jit (GX1_brief_117 this Qj' v97.toInt v109.toInt) (fun _ _ => mbot) n X0 X1) := by
  intro n
  induction n with
  | zero =>
    intro x4_117 x4_117' hx4_117 x5_117 x5_117' hx5_117
    exact SM.bot
  | succ n ih =>
    intro x4_117 x4_117' hx4_117 x5_117 x5_117' hx5_117
    subst hx4_117
    subst hx5_117
    show SM (FX1_brief_117 this Qj v97 v109 (jit (FX1_brief_117 this Qj v97 v109) (fun _ _ => jbot) n) x4_117 x5_117) (GX1_brief_117 this Qj' v97.toInt v109.toInt (jit (GX1_brief_117 this Qj' v97.toInt v109.toInt) (fun _ _ => mbot) n) x4_117.toInt x5_117.toInt)
    generalize jit (FX1_brief_117 this Qj v97 v109) (fun _ _ => jbot) n = rec117 at ih ⊢
    generalize jit (GX1_brief_117 this Qj' v97.toInt v109.toInt) (fun _ _ => mbot) n = rec117' at ih ⊢
    have hrec117 := ih
    unfold FX1_brief_117 GX1_brief_117
    refine sm_if (cI_le rfl rfl) ?_ ?_
    · exact hQj _ _ rfl
    · refine sm_getA rfl (fun v126 => ?_)
      refine sm_aldI (by decide) rfl (fun v131 => ?_)
      refine sm_join (fun (k180 : Int32 → JP) (k180' : Int → MP) => ∀ (x0 : Int32) (X0 : Int), x0.toInt = X0 → SM (k180 x0) (k180' X0)) ?_ (fun k180 k180' hk180 => ?_)
      · intro s1_180 s1_180' hs1_180
        subst hs1_180
        exact hrec117 _ _ (tc_add rfl rfl) _ _ (tc_add rfl (show (nI 1).toInt = 1 by decide))
      refine sm_join (fun (k179 : JP) (k179' : MP) => SM k179 k179') ?_ (fun k179 k179' hk179 => ?_)
      · exact hk180 _ _ (show (nI 0).toInt = 0 by decide)
      refine sm_if (cI_eq (tc_rem rfl (show (nI 36).toInt = 36 by decide)) (tc_rem rfl (show (nI 36).toInt = 36 by decide))) ?_ ?_
      · refine sm_getA rfl (fun v143 => ?_)
        refine sm_getA rfl (fun v146 => ?_)
        refine sm_getA rfl (fun v150 => ?_)
        refine sm_aldI (by decide) rfl (fun v155 => ?_)
        refine sm_aldI (by decide) (tc_div rfl (show (nI 36).toInt = 36 by decide)) (fun v159 => ?_)
        refine sm_getA rfl (fun v161 => ?_)
        refine sm_getA rfl (fun v164 => ?_)
        refine sm_aldI (by decide) (tc_div rfl (show (nI 36).toInt = 36 by decide)) (fun v171 => ?_)
        refine sm_if (cI_eq rfl rfl) ?_ ?_
        · exact hk180 _ _ (show (nI 1).toInt = 1 by decide)
        · exact hk179
      · exact hk179
theorem smFX1_brief_54 (this : Nat) (p1 : Int32) {k82 : JP} {k82' : MP} (hk82 : SM k82 k82') : ∀ n : Nat, ∀ (x0 : Int32) (X0 : Int), x0.toInt = X0 → SM (jit (FX1_brief_54 this p1 k82) (fun _ => jbot) n x0) (jit (GX1_brief_54 this p1.toInt k82') (fun _ => mbot) n X0) := by
  intro n
  induction n with
  | zero =>
    intro x2_54 x2_54' hx2_54
    exact SM.bot
  | succ n ih =>
    intro x2_54 x2_54' hx2_54
    subst hx2_54
    show SM (FX1_brief_54 this p1 k82 (jit (FX1_brief_54 this p1 k82) (fun _ => jbot) n) x2_54) (GX1_brief_54 this p1.toInt k82' (jit (GX1_brief_54 this p1.toInt k82') (fun _ => mbot) n) x2_54.toInt)
    generalize jit (FX1_brief_54 this p1 k82) (fun _ => jbot) n = rec54 at ih ⊢
    generalize jit (GX1_brief_54 this p1.toInt k82') (fun _ => mbot) n = rec54' at ih ⊢
    have hrec54 := ih
    unfold FX1_brief_54 GX1_brief_54
    refine sm_if (cI_le rfl rfl) ?_ ?_
    · exact hk82
    · refine sm_getA rfl (fun v60 => ?_)
      refine sm_getA rfl (fun v64 => ?_)
      refine sm_getA rfl (fun v67 => ?_)
      refine sm_aldI (by decide) rfl (fun v71 => ?_)
      refine sm_obj ?_
      refine sm_X8_goes v60 _ _ rfl _ _ ?_
      intro v72 v72' hv72
      subst hv72
      exact hrec54 _ _ (tc_add rfl (show (nI 1).toInt = 1 by decide))
theorem sm_X1_brief : ∀ (x0 : Nat), ∀ (x1 : Nat), ∀ (x2 : Nat), ∀ (x3 : Int32) (X3 : Int), x3.toInt = X3 → ∀ (x4 : Nat → Nat → JP) (X4 : Nat → Nat → MP), (∀ z q, SM (x4 z q) (X4 z q)) → ∀ (x5 : Int32 → JP) (X5 : Int → MP), (∀ (x0 : Int32) (X0 : Int), x0.toInt = X0 → SM (x5 x0) (X5 X0)) → SM (JX1_brief x0 x1 x2 x3 x4 x5) (MX1_brief x0 x1 x2 X3 X4 X5) := by
  intro bc bs this p1 p1' hp1 Ex Ex' hEx Qj Qj' hQj
  subst hp1
  unfold JX1_brief MX1_brief
  refine sm_join (fun (k9 : Int32 → JP) (k9' : Int → MP) => ∀ (x0 : Int32) (X0 : Int), x0.toInt = X0 → SM (k9 x0) (k9' X0)) ?_ (fun k9 k9' hk9 => ?_)
  · intro s0_9 s0_9' hs0_9
    subst hs0_9
    refine sm_bud (fun mc9 ms9 => ?_)
    refine sm_X1_must mc9 ms9 _ _ rfl _ _ hEx _ _ ?_
    refine sm_obj ?_
    refine sm_X1_reads this _ _ ?_
    intro v13 v13' hv13
    subst hv13
    refine sm_if (cI_le (show (nI 0).toInt = 0 by decide) rfl) ?_ ?_
    · refine sm_getA rfl (fun v26 => ?_)
      refine sm_getI rfl (fun v29 => ?_)
      refine sm_if (cI_lt rfl rfl) ?_ ?_
      · refine sm_getA rfl (fun v39 => ?_)
        refine sm_getA rfl (fun v43 => ?_)
        refine sm_getA rfl (fun v46 => ?_)
        refine sm_obj ?_
        refine sm_X8_be v39 v46 _ _ ?_
        refine sm_ex (fun n54 => ?_)
        refine smFX1_brief_54 this p1 ?_ n54 _ _ (show (nI 0).toInt = 0 by decide)
        · refine sm_getA rfl (fun v83 => ?_)
          refine sm_getA rfl (fun v87 => ?_)
          refine sm_getA rfl (fun v94 => ?_)
          refine sm_obj ?_
          refine sm_X10_gathers v83 v87 _ _ (tc_rem rfl (show (nI 2).toInt = 2 by decide)) v94 _ _ ?_
          intro v97 v97' hv97
          subst hv97
          refine sm_getA rfl (fun v102 => ?_)
          refine sm_getA rfl (fun v105 => ?_)
          refine sm_aldI (by decide) rfl (fun v109 => ?_)
          refine sm_ex (fun n117 => ?_)
          refine smFX1_brief_117 this hQj v97 v109 n117 _ _ (show (nI 0).toInt = 0 by decide) _ _ (show (nI 0).toInt = 0 by decide)
      · exact hQj _ _ (show ((-3) : Int32).toInt = (-3) by decide)
    · refine sm_getI rfl (fun v20 => ?_)
      exact hQj _ _ rfl
  refine sm_if (cI_lt rfl (show (nI 0).toInt = 0 by decide)) ?_ ?_
  · exact hk9 _ _ (show (nI 0).toInt = 0 by decide)
  · exact hk9 _ _ (show (nI 1).toInt = 1 by decide)
theorem sm_X0_brief : ∀ (x0 : Nat), ∀ (x1 : Nat), ∀ (x2 : Nat), ∀ (x3 : Int32) (X3 : Int), x3.toInt = X3 → ∀ (x4 : Nat), ∀ (x5 : Int32 → JP) (X5 : Int → MP), (∀ (x0 : Int32) (X0 : Int), x0.toInt = X0 → SM (x5 x0) (X5 X0)) → SM (JX0_brief x0 x1 x2 x3 x4 x5) (MX0_brief x0 x1 x2 X3 x4 X5) := by
  intro bc bs p0 p1 p1' hp1 p2 Qj Qj' hQj
  subst hp1
  unfold JX0_brief MX0_brief
  refine sm_bud (fun mc4 ms4 => ?_)
  refine sm_obj ?_
  refine sm_X1_brief mc4 ms4 p0 _ _ rfl _ _ (fun xx4 xq4 => ?_) _ _ ?_
  · refine sm_if Iff.rfl ?_ ?_
    · exact hQj _ _ (show (nI 1).toInt = 1 by decide)
    · exact SM.bot
  intro v4 v4' hv4
  subst hv4
  refine sm_astL (show (nI 0).toInt = 0 by decide) (tc_i2l rfl) ?_
  exact hQj _ _ (show (nI 0).toInt = 0 by decide)
theorem smFX11_brief_105 (this : Nat) (p1 : Int32) {Qj : Int32 → JP} {Qj' : Int → MP} (hQj : ∀ (x0 : Int32) (X0 : Int), x0.toInt = X0 → SM (Qj x0) (Qj' X0)) (v93 : Int32) : ∀ n : Nat, ∀ (x0 : Int32) (X0 : Int), x0.toInt = X0 → ∀ (x1 : Int32) (X1 : Int), x1.toInt = X1 → SM (jit (FX11_brief_105 this p1 Qj v93) (fun _ _ => jbot) n x0 x1) (jit (GX11_brief_105 this p1.toInt Qj' v93.toInt) (fun _ _ => mbot) n X0 X1) := by
  intro n
  induction n with
  | zero =>
    intro x4_105 x4_105' hx4_105 x5_105 x5_105' hx5_105
    exact SM.bot
  | succ n ih =>
    intro x4_105 x4_105' hx4_105 x5_105 x5_105' hx5_105
    subst hx4_105
    subst hx5_105
    show SM (FX11_brief_105 this p1 Qj v93 (jit (FX11_brief_105 this p1 Qj v93) (fun _ _ => jbot) n) x4_105 x5_105) (GX11_brief_105 this p1.toInt Qj' v93.toInt (jit (GX11_brief_105 this p1.toInt Qj' v93.toInt) (fun _ _ => mbot) n) x4_105.toInt x5_105.toInt)
    generalize jit (FX11_brief_105 this p1 Qj v93) (fun _ _ => jbot) n = rec105 at ih ⊢
    generalize jit (GX11_brief_105 this p1.toInt Qj' v93.toInt) (fun _ _ => mbot) n = rec105' at ih ⊢
    have hrec105 := ih
    unfold FX11_brief_105 GX11_brief_105
    refine sm_if (cI_le (show (nI 36).toInt = 36 by decide) rfl) ?_ ?_
    · exact hQj _ _ rfl
    · refine sm_getA rfl (fun v115 => ?_)
      refine sm_getA rfl (fun v130 => ?_)
      refine sm_aldI (by decide) rfl (fun v134 => ?_)
      refine sm_aldI (by decide) (tc_add (tc_add (tc_mul (show (nI 1296).toInt = 1296 by decide) rfl) (tc_mul (show (nI 36).toInt = 36 by decide) rfl)) (tc_rem rfl (show (nI 36).toInt = 36 by decide))) (fun v139 => ?_)
      refine sm_join (fun (k161 : Int32 → JP) (k161' : Int → MP) => ∀ (x0 : Int32) (X0 : Int), x0.toInt = X0 → SM (k161 x0) (k161' X0)) ?_ (fun k161 k161' hk161 => ?_)
      · intro s1_161 s1_161' hs1_161
        subst hs1_161
        exact hrec105 _ _ (tc_add rfl rfl) _ _ (tc_add rfl (show (nI 1).toInt = 1 by decide))
      refine sm_join (fun (k160 : JP) (k160' : MP) => SM k160 k160') ?_ (fun k160 k160' hk160 => ?_)
      · exact hk161 _ _ (show (nI 0).toInt = 0 by decide)
      refine sm_if (cI_eq rfl (show (nI 0).toInt = 0 by decide)) ?_ ?_
      · exact hk160
      · refine sm_obj ?_
        refine sm_X11_at this _ _ rfl _ _ rfl _ _ ?_
        intro v147 v147' hv147
        subst hv147
        refine sm_if (cI_eq (tc_div rfl (show (nI 2).toInt = 2 by decide)) (tc_div rfl (show (nI 2).toInt = 2 by decide))) ?_ ?_
        · exact hk161 _ _ (show (nI 1).toInt = 1 by decide)
        · exact hk160
theorem smFX11_brief_52 (this : Nat) (p1 : Int32) {k74 : JP} {k74' : MP} (hk74 : SM k74 k74') : ∀ n : Nat, ∀ (x0 : Int32) (X0 : Int), x0.toInt = X0 → SM (jit (FX11_brief_52 this p1 k74) (fun _ => jbot) n x0) (jit (GX11_brief_52 this p1.toInt k74') (fun _ => mbot) n X0) := by
  intro n
  induction n with
  | zero =>
    intro x3_52 x3_52' hx3_52
    exact SM.bot
  | succ n ih =>
    intro x3_52 x3_52' hx3_52
    subst hx3_52
    show SM (FX11_brief_52 this p1 k74 (jit (FX11_brief_52 this p1 k74) (fun _ => jbot) n) x3_52) (GX11_brief_52 this p1.toInt k74' (jit (GX11_brief_52 this p1.toInt k74') (fun _ => mbot) n) x3_52.toInt)
    generalize jit (FX11_brief_52 this p1 k74) (fun _ => jbot) n = rec52 at ih ⊢
    generalize jit (GX11_brief_52 this p1.toInt k74') (fun _ => mbot) n = rec52' at ih ⊢
    have hrec52 := ih
    unfold FX11_brief_52 GX11_brief_52
    refine sm_if (cI_le rfl rfl) ?_ ?_
    · exact hk74
    · refine sm_getA rfl (fun v60 => ?_)
      refine sm_aldI (by decide) rfl (fun v64 => ?_)
      refine sm_obj ?_
      refine sm_X11_makes this _ _ rfl _ _ rfl _ _ ?_
      exact hrec52 _ _ (tc_add rfl (show (nI 1).toInt = 1 by decide))
theorem sm_X11_brief : ∀ (x0 : Nat), ∀ (x1 : Int32) (X1 : Int), x1.toInt = X1 → ∀ (x2 : Int32 → JP) (X2 : Int → MP), (∀ (x0 : Int32) (X0 : Int), x0.toInt = X0 → SM (x2 x0) (X2 X0)) → SM (JX11_brief x0 x1 x2) (MX11_brief x0 X1 X2) := by
  intro this p1 p1' hp1 Qj Qj' hQj
  subst hp1
  unfold JX11_brief MX11_brief
  refine sm_putI rfl (show (nI 0).toInt = 0 by decide) ?_
  refine sm_join (fun (k15 : Int32 → JP) (k15' : Int → MP) => ∀ (x0 : Int32) (X0 : Int), x0.toInt = X0 → SM (k15 x0) (k15' X0)) ?_ (fun k15 k15' hk15 => ?_)
  · intro s1_15 s1_15' hs1_15
    subst hs1_15
    refine sm_obj ?_
    refine sm_X11_throwsIf this _ _ rfl _ _ (show (nI 1).toInt = 1 by decide) _ _ ?_
    intro v16 v16' hv16
    subst hv16
    refine sm_if (cI_eq rfl (show (nI 0).toInt = 0 by decide)) ?_ ?_
    · refine sm_obj ?_
      refine sm_X11_asksWhole this _ _ ?_
      intro v25 v25' hv25
      subst hv25
      refine sm_if (cI_le (show (nI 0).toInt = 0 by decide) rfl) ?_ ?_
      · refine sm_getI rfl (fun v37 => ?_)
        refine sm_if (cI_lt rfl rfl) ?_ ?_
        · refine sm_obj ?_
          refine sm_X11_begins this _ _ ?_
          refine sm_ex (fun n52 => ?_)
          refine smFX11_brief_52 this p1 ?_ n52 _ _ (show (nI 0).toInt = 0 by decide)
          · refine sm_obj ?_
            refine sm_X11_finds this _ _ rfl _ _ (tc_rem rfl (show (nI 2).toInt = 2 by decide)) _ _ ?_
            refine sm_getA rfl (fun v85 => ?_)
            refine sm_aldI (by decide) rfl (fun v89 => ?_)
            refine sm_obj ?_
            refine sm_X11_at this _ _ rfl _ _ (tc_div rfl (show (nI 36).toInt = 36 by decide)) _ _ ?_
            intro v93 v93' hv93
            subst hv93
            refine sm_ex (fun n105 => ?_)
            refine smFX11_brief_105 this p1 hQj v93 n105 _ _ (show (nI 0).toInt = 0 by decide) _ _ (show (nI 0).toInt = 0 by decide)
        · exact hQj _ _ (show ((-3) : Int32).toInt = (-3) by decide)
      · exact hQj _ _ rfl
    · exact hQj _ _ (show (nI 0).toInt = 0 by decide)
  refine sm_if (cI_le (show (nI 0).toInt = 0 by decide) rfl) ?_ ?_
  · exact hk15 _ _ (show (nI 0).toInt = 0 by decide)
  · exact hk15 _ _ (show (nI 1).toInt = 1 by decide)
theorem smFX1_part_28 (this : Nat) {Qj : Int32 → JP} {Qj' : Int → MP} (hQj : ∀ (x0 : Int32) (X0 : Int), x0.toInt = X0 → SM (Qj x0) (Qj' X0)) : ∀ n : Nat, ∀ (x0 : Int32) (X0 : Int), x0.toInt = X0 → SM (jit (FX1_part_28 this Qj) (fun _ => jbot) n x0) (jit (GX1_part_28 this Qj') (fun _ => mbot) n X0) := by
  intro n
  induction n with
  | zero =>
    intro x1_28 x1_28' hx1_28
    exact SM.bot
  | succ n ih =>
    intro x1_28 x1_28' hx1_28
    subst hx1_28
    show SM (FX1_part_28 this Qj (jit (FX1_part_28 this Qj) (fun _ => jbot) n) x1_28) (GX1_part_28 this Qj' (jit (GX1_part_28 this Qj') (fun _ => mbot) n) x1_28.toInt)
    generalize jit (FX1_part_28 this Qj) (fun _ => jbot) n = rec28 at ih ⊢
    generalize jit (GX1_part_28 this Qj') (fun _ => mbot) n = rec28' at ih ⊢
    have hrec28 := ih
    unfold FX1_part_28 GX1_part_28
    refine sm_getA rfl (fun v30 => ?_)
    refine sm_getI rfl (fun v33 => ?_)
    refine sm_if (cI_le rfl rfl) ?_ ?_
    · exact hQj _ _ rfl
    · refine sm_getA rfl (fun v41 => ?_)
      refine sm_getI rfl (fun v44 => ?_)
      refine sm_if (cI_le rfl rfl) ?_ ?_
      · exact hQj _ _ rfl
      · refine sm_getA rfl (fun v51 => ?_)
        refine sm_getA rfl (fun v54 => ?_)
        refine sm_aldI (by decide) rfl (fun v58 => ?_)
        refine sm_getA rfl (fun v60 => ?_)
        refine sm_getA rfl (fun v63 => ?_)
        refine sm_aldI (by decide) rfl (fun v67 => ?_)
        refine sm_if (cI_eq rfl rfl) ?_ ?_
        · exact hrec28 _ _ (tc_add rfl (show (nI 1).toInt = 1 by decide))
        · exact hQj _ _ rfl
theorem sm_X1_part : ∀ (x0 : Nat), ∀ (x1 : Int32 → JP) (X1 : Int → MP), (∀ (x0 : Int32) (X0 : Int), x0.toInt = X0 → SM (x1 x0) (X1 X0)) → SM (JX1_part x0 x1) (MX1_part x0 X1) := by
  intro this Qj Qj' hQj
  unfold JX1_part MX1_part
  refine sm_obj ?_
  refine sm_X1_reads this _ _ ?_
  intro v1 v1' hv1
  subst hv1
  refine sm_if (cI_le (show (nI 0).toInt = 0 by decide) rfl) ?_ ?_
  · refine sm_getA rfl (fun v13 => ?_)
    refine sm_getI rfl (fun v16 => ?_)
    refine sm_if (cI_le (show (nI 2).toInt = 2 by decide) rfl) ?_ ?_
    · refine sm_ex (fun n28 => ?_)
      refine smFX1_part_28 this hQj n28 _ _ (show (nI 0).toInt = 0 by decide)
    · exact hQj _ _ (show ((-3) : Int32).toInt = (-3) by decide)
  · refine sm_getI rfl (fun v8 => ?_)
    exact hQj _ _ rfl
theorem smFX11_part_29 (this : Nat) {Qj : Int32 → JP} {Qj' : Int → MP} (hQj : ∀ (x0 : Int32) (X0 : Int), x0.toInt = X0 → SM (Qj x0) (Qj' X0)) : ∀ n : Nat, ∀ (x0 : Int32) (X0 : Int), x0.toInt = X0 → SM (jit (FX11_part_29 this Qj) (fun _ => jbot) n x0) (jit (GX11_part_29 this Qj') (fun _ => mbot) n X0) := by
  intro n
  induction n with
  | zero =>
    intro x2_29 x2_29' hx2_29
    exact SM.bot
  | succ n ih =>
    intro x2_29 x2_29' hx2_29
    subst hx2_29
    show SM (FX11_part_29 this Qj (jit (FX11_part_29 this Qj) (fun _ => jbot) n) x2_29) (GX11_part_29 this Qj' (jit (GX11_part_29 this Qj') (fun _ => mbot) n) x2_29.toInt)
    generalize jit (FX11_part_29 this Qj) (fun _ => jbot) n = rec29 at ih ⊢
    generalize jit (GX11_part_29 this Qj') (fun _ => mbot) n = rec29' at ih ⊢
    have hrec29 := ih
    unfold FX11_part_29 GX11_part_29
    refine sm_getI rfl (fun v31 => ?_)
    refine sm_if (cI_le rfl rfl) ?_ ?_
    · exact hQj _ _ rfl
    · refine sm_getI rfl (fun v39 => ?_)
      refine sm_if (cI_le rfl rfl) ?_ ?_
      · exact hQj _ _ rfl
      · refine sm_getA rfl (fun v46 => ?_)
        refine sm_aldI (by decide) rfl (fun v50 => ?_)
        refine sm_getA rfl (fun v52 => ?_)
        refine sm_aldI (by decide) rfl (fun v56 => ?_)
        refine sm_if (cI_eq rfl rfl) ?_ ?_
        · exact hrec29 _ _ (tc_add rfl (show (nI 1).toInt = 1 by decide))
        · exact hQj _ _ rfl
theorem sm_X11_part : ∀ (x0 : Nat), ∀ (x1 : Int32 → JP) (X1 : Int → MP), (∀ (x0 : Int32) (X0 : Int), x0.toInt = X0 → SM (x1 x0) (X1 X0)) → SM (JX11_part x0 x1) (MX11_part x0 X1) := by
  intro this Qj Qj' hQj
  unfold JX11_part MX11_part
  refine sm_putI rfl (show (nI 0).toInt = 0 by decide) ?_
  refine sm_obj ?_
  refine sm_X11_asksWhole this _ _ ?_
  intro v6 v6' hv6
  subst hv6
  refine sm_if (cI_le (show (nI 0).toInt = 0 by decide) rfl) ?_ ?_
  · refine sm_getI rfl (fun v17 => ?_)
    refine sm_if (cI_le (show (nI 2).toInt = 2 by decide) rfl) ?_ ?_
    · refine sm_ex (fun n29 => ?_)
      refine smFX11_part_29 this hQj n29 _ _ (show (nI 0).toInt = 0 by decide)
    · exact hQj _ _ (show ((-3) : Int32).toInt = (-3) by decide)
  · exact hQj _ _ rfl
theorem sm_X1_best : ∀ (x0 : Nat), ∀ (x1 : Nat), ∀ (x2 : Nat), ∀ (x3 : Int32) (X3 : Int), x3.toInt = X3 → ∀ (x4 : Nat → Nat → JP) (X4 : Nat → Nat → MP), (∀ z q, SM (x4 z q) (X4 z q)) → ∀ (x5 : Int32 → JP) (X5 : Int → MP), (∀ (x0 : Int32) (X0 : Int), x0.toInt = X0 → SM (x5 x0) (X5 X0)) → SM (JX1_best x0 x1 x2 x3 x4 x5) (MX1_best x0 x1 x2 X3 X4 X5) := by
  intro bc bs this p1 p1' hp1 Ex Ex' hEx Qj Qj' hQj
  subst hp1
  unfold JX1_best MX1_best
  refine sm_join (fun (k10 : Int32 → JP) (k10' : Int → MP) => ∀ (x0 : Int32) (X0 : Int), x0.toInt = X0 → SM (k10 x0) (k10' X0)) ?_ (fun k10 k10' hk10 => ?_)
  · intro s0_10 s0_10' hs0_10
    subst hs0_10
    refine sm_bud (fun mc10 ms10 => ?_)
    refine sm_X1_must mc10 ms10 _ _ rfl _ _ hEx _ _ ?_
    refine sm_getA rfl (fun v14 => ?_)
    refine sm_putZ rfl (show (nI 1).toInt = 1 by decide) ?_
    refine sm_getA rfl (fun v22 => ?_)
    refine sm_obj ?_
    refine sm_X1_allBooks this _ _ ?_
    intro v26 v26' hv26
    subst hv26
    refine sm_obj ?_
    refine sm_X10_least v22 _ _ rfl _ _ ?_
    intro v29 v29' hv29
    subst hv29
    refine sm_getA rfl (fun v34 => ?_)
    refine sm_putZ rfl (show (nI 0).toInt = 0 by decide) ?_
    refine sm_if (cI_le (show (nI 0).toInt = 0 by decide) rfl) ?_ ?_
    · refine sm_if (cI_eq rfl (show ((-1) : Int32).toInt = (-1) by decide)) ?_ ?_
      · refine sm_getA rfl (fun v53 => ?_)
        refine sm_getI rfl (fun v56 => ?_)
        exact hQj _ _ rfl
      · refine sm_getA rfl (fun v64 => ?_)
        refine sm_getI rfl (fun v67 => ?_)
        refine sm_if (cI_le rfl rfl) ?_ ?_
        · exact hQj _ _ (show ((-3) : Int32).toInt = (-3) by decide)
        · refine sm_getA rfl (fun v74 => ?_)
          refine sm_getA rfl (fun v77 => ?_)
          refine sm_aldI (by decide) rfl (fun v81 => ?_)
          exact hQj _ _ rfl
    · exact hQj _ _ rfl
  refine sm_if (cI_lt rfl (show ((-1) : Int32).toInt = (-1) by decide)) ?_ ?_
  · exact hk10 _ _ (show (nI 0).toInt = 0 by decide)
  · exact hk10 _ _ (show (nI 1).toInt = 1 by decide)
theorem sm_X0_best : ∀ (x0 : Nat), ∀ (x1 : Nat), ∀ (x2 : Nat), ∀ (x3 : Int32) (X3 : Int), x3.toInt = X3 → ∀ (x4 : Nat), ∀ (x5 : Int32 → JP) (X5 : Int → MP), (∀ (x0 : Int32) (X0 : Int), x0.toInt = X0 → SM (x5 x0) (X5 X0)) → SM (JX0_best x0 x1 x2 x3 x4 x5) (MX0_best x0 x1 x2 X3 x4 X5) := by
  intro bc bs p0 p1 p1' hp1 p2 Qj Qj' hQj
  subst hp1
  unfold JX0_best MX0_best
  refine sm_bud (fun mc4 ms4 => ?_)
  refine sm_obj ?_
  refine sm_X1_best mc4 ms4 p0 _ _ rfl _ _ (fun xx4 xq4 => ?_) _ _ ?_
  · refine sm_if Iff.rfl ?_ ?_
    · exact hQj _ _ (show (nI 1).toInt = 1 by decide)
    · exact SM.bot
  intro v4 v4' hv4
  subst hv4
  refine sm_astL (show (nI 0).toInt = 0 by decide) (tc_i2l rfl) ?_
  exact hQj _ _ (show (nI 0).toInt = 0 by decide)
theorem sm_X11_best : ∀ (x0 : Nat), ∀ (x1 : Int32) (X1 : Int), x1.toInt = X1 → ∀ (x2 : Int32 → JP) (X2 : Int → MP), (∀ (x0 : Int32) (X0 : Int), x0.toInt = X0 → SM (x2 x0) (X2 X0)) → SM (JX11_best x0 x1 x2) (MX11_best x0 X1 X2) := by
  intro this p1 p1' hp1 Qj Qj' hQj
  subst hp1
  unfold JX11_best MX11_best
  refine sm_putI rfl (show (nI 0).toInt = 0 by decide) ?_
  refine sm_join (fun (k16 : Int32 → JP) (k16' : Int → MP) => ∀ (x0 : Int32) (X0 : Int), x0.toInt = X0 → SM (k16 x0) (k16' X0)) ?_ (fun k16 k16' hk16 => ?_)
  · intro s1_16 s1_16' hs1_16
    subst hs1_16
    refine sm_obj ?_
    refine sm_X11_throwsIf this _ _ rfl _ _ (show (nI 1).toInt = 1 by decide) _ _ ?_
    intro v17 v17' hv17
    subst hv17
    refine sm_if (cI_eq rfl (show (nI 0).toInt = 0 by decide)) ?_ ?_
    · refine sm_obj ?_
      refine sm_X11_asksWhole this _ _ ?_
      intro v26 v26' hv26
      subst hv26
      refine sm_if (cI_le (show (nI 0).toInt = 0 by decide) rfl) ?_ ?_
      · refine sm_if (cI_le (show (nI 0).toInt = 0 by decide) rfl) ?_ ?_
        · refine sm_getI rfl (fun v51 => ?_)
          refine sm_if (cI_le rfl rfl) ?_ ?_
          · exact hQj _ _ (show ((-3) : Int32).toInt = (-3) by decide)
          · refine sm_getA rfl (fun v58 => ?_)
            refine sm_aldI (by decide) rfl (fun v62 => ?_)
            exact hQj _ _ rfl
        · refine sm_getI rfl (fun v43 => ?_)
          exact hQj _ _ rfl
      · exact hQj _ _ rfl
    · exact hQj _ _ (show (nI 0).toInt = 0 by decide)
  refine sm_if (cI_le (show ((-1) : Int32).toInt = (-1) by decide) rfl) ?_ ?_
  · exact hk16 _ _ (show (nI 0).toInt = 0 by decide)
  · exact hk16 _ _ (show (nI 1).toInt = 1 by decide)
theorem smFX10_weigh_29 (this : Nat) (p2 : Int32) (p4 : Int32) {k82 : JP} {k82' : MP} (hk82 : SM k82 k82') : ∀ n : Nat, ∀ (x0 : Int32) (X0 : Int), x0.toInt = X0 → SM (jit (FX10_weigh_29 this p2 p4 k82) (fun _ => jbot) n x0) (jit (GX10_weigh_29 this p2.toInt p4.toInt k82') (fun _ => mbot) n X0) := by
  intro n
  induction n with
  | zero =>
    intro x5_29 x5_29' hx5_29
    exact SM.bot
  | succ n ih =>
    intro x5_29 x5_29' hx5_29
    subst hx5_29
    show SM (FX10_weigh_29 this p2 p4 k82 (jit (FX10_weigh_29 this p2 p4 k82) (fun _ => jbot) n) x5_29) (GX10_weigh_29 this p2.toInt p4.toInt k82' (jit (GX10_weigh_29 this p2.toInt p4.toInt k82') (fun _ => mbot) n) x5_29.toInt)
    generalize jit (FX10_weigh_29 this p2 p4 k82) (fun _ => jbot) n = rec29 at ih ⊢
    generalize jit (GX10_weigh_29 this p2.toInt p4.toInt k82') (fun _ => mbot) n = rec29' at ih ⊢
    have hrec29 := ih
    unfold FX10_weigh_29 GX10_weigh_29
    refine sm_if (cI_lt (tc_add rfl rfl) rfl) ?_ ?_
    · exact hk82
    · refine sm_getI rfl (fun v39 => ?_)
      refine sm_if (cI_eq rfl (show (nI 0).toInt = 0 by decide)) ?_ ?_
      · refine sm_join (fun (k67 : Int64 → JP) (k67' : Int → MP) => ∀ (x0 : Int64) (X0 : Int), x0.toInt = X0 → SM (k67 x0) (k67' X0)) ?_ (fun k67 k67' hk67 => ?_)
        · intro s1_67 s1_67' hs1_67
          subst hs1_67
          refine sm_putL rfl rfl ?_
          refine sm_obj ?_
          refine sm_X10_walks this _ _ rfl _ _ ?_
          exact hrec29 _ _ (tc_add rfl (show (nI 1).toInt = 1 by decide))
        refine sm_if (cI_le rfl rfl) ?_ ?_
        · exact hk67 _ _ (tl_shl (show (lN 1).toInt = 1 by decide) (tc_mul (show (nI 2).toInt = 2 by decide) (tc_sub (tc_add rfl rfl) rfl)))
        · exact hk67 _ _ (show (lN 0).toInt = 0 by decide)
      · exact hk82
theorem sm_X10_weigh : ∀ (x0 : Nat), ∀ (x1 : Int32) (X1 : Int), x1.toInt = X1 → ∀ (x2 : Int32) (X2 : Int), x2.toInt = X2 → ∀ (x3 : Int32) (X3 : Int), x3.toInt = X3 → ∀ (x4 : Int32) (X4 : Int), x4.toInt = X4 → ∀ (x5 : Int32 → JP) (X5 : Int → MP), (∀ (x0 : Int32) (X0 : Int), x0.toInt = X0 → SM (x5 x0) (X5 X0)) → SM (JX10_weigh x0 x1 x2 x3 x4 x5) (MX10_weigh x0 X1 X2 X3 X4 X5) := by
  intro this p1 p1' hp1 p2 p2' hp2 p3 p3' hp3 p4 p4' hp4 Qj Qj' hQj
  subst hp1
  subst hp2
  subst hp3
  subst hp4
  unfold JX10_weigh MX10_weigh
  refine sm_obj ?_
  refine sm_X10_begins this _ _ rfl _ _ (show (nI 0).toInt = 0 by decide) _ _ ?_
  refine sm_putZ rfl (show (nI 1).toInt = 1 by decide) ?_
  refine sm_putI rfl rfl ?_
  refine sm_putL rfl (show (lN 0).toInt = 0 by decide) ?_
  refine sm_putL rfl (show (lN 0).toInt = 0 by decide) ?_
  refine sm_ex (fun n29 => ?_)
  refine smFX10_weigh_29 this p2 p4 ?_ n29 _ _ (show (nI 0).toInt = 0 by decide)
  · refine sm_putZ rfl (show (nI 0).toInt = 0 by decide) ?_
    refine sm_getI rfl (fun v88 => ?_)
    refine sm_if (cI_eq rfl (show (nI 0).toInt = 0 by decide)) ?_ ?_
    · exact hQj _ _ (show (nI 1).toInt = 1 by decide)
    · exact hQj _ _ (show (nI 0).toInt = 0 by decide)
theorem smFX1_common_6 {Qj : Int64 → JP} {Qj' : Int → MP} (hQj : ∀ (x0 : Int64) (X0 : Int), x0.toInt = X0 → SM (Qj x0) (Qj' X0)) : ∀ n : Nat, ∀ (x0 : Int64) (X0 : Int), x0.toInt = X0 → ∀ (x1 : Int64) (X1 : Int), x1.toInt = X1 → SM (jit (FX1_common_6 Qj) (fun _ _ => jbot) n x0 x1) (jit (GX1_common_6 Qj') (fun _ _ => mbot) n X0 X1) := by
  intro n
  induction n with
  | zero =>
    intro x4_6 x4_6' hx4_6 x6_6 x6_6' hx6_6
    exact SM.bot
  | succ n ih =>
    intro x4_6 x4_6' hx4_6 x6_6 x6_6' hx6_6
    subst hx4_6
    subst hx6_6
    show SM (FX1_common_6 Qj (jit (FX1_common_6 Qj) (fun _ _ => jbot) n) x4_6 x6_6) (GX1_common_6 Qj' (jit (GX1_common_6 Qj') (fun _ _ => mbot) n) x4_6.toInt x6_6.toInt)
    generalize jit (FX1_common_6 Qj) (fun _ _ => jbot) n = rec6 at ih ⊢
    generalize jit (GX1_common_6 Qj') (fun _ _ => mbot) n = rec6' at ih ⊢
    have hrec6 := ih
    unfold FX1_common_6 GX1_common_6
    refine sm_if (cI_eq (tl_cmp rfl (show (lN 0).toInt = 0 by decide)) (show (nI 0).toInt = 0 by decide)) ?_ ?_
    · exact hQj _ _ rfl
    · refine sm_and (mt (cL_eq rfl (show (lN 0).toInt = 0 by decide)).mp) ?_
      exact hrec6 _ _ rfl _ _ (tl_rem rfl rfl)
theorem sm_X1_common : ∀ (x0 : Int64) (X0 : Int), x0.toInt = X0 → ∀ (x1 : Int64) (X1 : Int), x1.toInt = X1 → ∀ (x2 : Int64 → JP) (X2 : Int → MP), (∀ (x0 : Int64) (X0 : Int), x0.toInt = X0 → SM (x2 x0) (X2 X0)) → SM (JX1_common x0 x1 x2) (MX1_common X0 X1 X2) := by
  intro p0 p0' hp0 p2 p2' hp2 Qj Qj' hQj
  subst hp0
  subst hp2
  unfold JX1_common MX1_common
  refine sm_ex (fun n6 => ?_)
  refine smFX1_common_6 hQj n6 _ _ rfl _ _ rfl
theorem sm_X1_odds : ∀ (x0 : Nat), ∀ (x1 : Nat), ∀ (x2 : Nat), ∀ (x3 : Int32) (X3 : Int), x3.toInt = X3 → ∀ (x4 : Int32) (X4 : Int), x4.toInt = X4 → ∀ (x5 : Int32) (X5 : Int), x5.toInt = X5 → ∀ (x6 : Nat → Nat → JP) (X6 : Nat → Nat → MP), (∀ z q, SM (x6 z q) (X6 z q)) → ∀ (x7 : Int64 → JP) (X7 : Int → MP), (∀ (x0 : Int64) (X0 : Int), x0.toInt = X0 → SM (x7 x0) (X7 X0)) → SM (JX1_odds x0 x1 x2 x3 x4 x5 x6 x7) (MX1_odds x0 x1 x2 X3 X4 X5 X6 X7) := by
  intro bc bs this p1 p1' hp1 p2 p2' hp2 p3 p3' hp3 Ex Ex' hEx Qj Qj' hQj
  subst hp1
  subst hp2
  subst hp3
  unfold JX1_odds MX1_odds
  refine sm_join (fun (k18 : Int32 → JP) (k18' : Int → MP) => ∀ (x0 : Int32) (X0 : Int), x0.toInt = X0 → SM (k18 x0) (k18' X0)) ?_ (fun k18 k18' hk18 => ?_)
  · intro s0_18 s0_18' hs0_18
    subst hs0_18
    refine sm_bud (fun mc18 ms18 => ?_)
    refine sm_X1_must mc18 ms18 _ _ rfl _ _ hEx _ _ ?_
    refine sm_obj ?_
    refine sm_X1_reads this _ _ ?_
    intro v22 v22' hv22
    subst hv22
    refine sm_if (cI_le (show (nI 0).toInt = 0 by decide) rfl) ?_ ?_
    · refine sm_getA rfl (fun v35 => ?_)
      refine sm_getA rfl (fun v38 => ?_)
      refine sm_getA rfl (fun v43 => ?_)
      refine sm_getA rfl (fun v46 => ?_)
      refine sm_getA rfl (fun v51 => ?_)
      refine sm_getI rfl (fun v54 => ?_)
      refine sm_cpyI (show (nI 0).toInt = 0 by decide) (show (nI 0).toInt = 0 by decide) rfl ?_
      refine sm_getA rfl (fun v61 => ?_)
      refine sm_obj ?_
      refine sm_X1_allBooks this _ _ ?_
      intro v65 v65' hv65
      subst hv65
      refine sm_getI rfl (fun v69 => ?_)
      refine sm_obj ?_
      refine sm_X10_weigh v61 _ _ rfl _ _ rfl _ _ rfl _ _ rfl _ _ ?_
      intro v74 v74' hv74
      subst hv74
      refine sm_if (cI_eq rfl (show (nI 0).toInt = 0 by decide)) ?_ ?_
      · exact hQj _ _ (show ((-2) : Int64).toInt = (-2) by decide)
      · refine sm_getA rfl (fun v86 => ?_)
        refine sm_getI rfl (fun v89 => ?_)
        refine sm_if (cI_lt rfl rfl) ?_ ?_
        · refine sm_getA rfl (fun v100 => ?_)
          refine sm_getL rfl (fun v103 => ?_)
          refine sm_getA rfl (fun v107 => ?_)
          refine sm_getL rfl (fun v110 => ?_)
          refine sm_X1_common _ _ rfl _ _ rfl _ _ ?_
          intro v113 v113' hv113
          subst hv113
          refine sm_if (cI_eq rfl (show (nI 0).toInt = 0 by decide)) ?_ ?_
          · refine sm_getA rfl (fun v136 => ?_)
            refine sm_getL rfl (fun v139 => ?_)
            refine sm_and (mt (cL_eq rfl (show (lN 0).toInt = 0 by decide)).mp) ?_
            exact hQj _ _ (tl_div rfl rfl)
          · refine sm_getA rfl (fun v123 => ?_)
            refine sm_getL rfl (fun v126 => ?_)
            refine sm_and (mt (cL_eq rfl (show (lN 0).toInt = 0 by decide)).mp) ?_
            exact hQj _ _ (tl_div rfl rfl)
        · exact hQj _ _ (show ((-3) : Int64).toInt = (-3) by decide)
    · refine sm_getI rfl (fun v29 => ?_)
      exact hQj _ _ (tc_i2l rfl)
  refine sm_join (fun (k17 : JP) (k17' : MP) => SM k17 k17') ?_ (fun k17 k17' hk17 => ?_)
  · exact hk18 _ _ (show (nI 0).toInt = 0 by decide)
  refine sm_if (cI_lt rfl (show (nI 0).toInt = 0 by decide)) ?_ ?_
  · exact hk17
  · refine sm_X1_isIn _ _ rfl _ _ (show (nI 0).toInt = 0 by decide) _ _ (show (nI 2).toInt = 2 by decide) _ _ ?_
    intro v7 v7' hv7
    subst hv7
    refine sm_if (cI_eq rfl (show (nI 0).toInt = 0 by decide)) ?_ ?_
    · exact hk17
    · exact hk18 _ _ (show (nI 1).toInt = 1 by decide)
theorem sm_X0_odds : ∀ (x0 : Nat), ∀ (x1 : Nat), ∀ (x2 : Nat), ∀ (x3 : Int32) (X3 : Int), x3.toInt = X3 → ∀ (x4 : Int32) (X4 : Int), x4.toInt = X4 → ∀ (x5 : Int32) (X5 : Int), x5.toInt = X5 → ∀ (x6 : Nat), ∀ (x7 : Int32 → JP) (X7 : Int → MP), (∀ (x0 : Int32) (X0 : Int), x0.toInt = X0 → SM (x7 x0) (X7 X0)) → SM (JX0_odds x0 x1 x2 x3 x4 x5 x6 x7) (MX0_odds x0 x1 x2 X3 X4 X5 x6 X7) := by
  intro bc bs p0 p1 p1' hp1 p2 p2' hp2 p3 p3' hp3 p4 Qj Qj' hQj
  subst hp1
  subst hp2
  subst hp3
  unfold JX0_odds MX0_odds
  refine sm_bud (fun mc7 ms7 => ?_)
  refine sm_obj ?_
  refine sm_X1_odds mc7 ms7 p0 _ _ rfl _ _ rfl _ _ rfl _ _ (fun xx7 xq7 => ?_) _ _ ?_
  · refine sm_if Iff.rfl ?_ ?_
    · exact hQj _ _ (show (nI 1).toInt = 1 by decide)
    · exact SM.bot
  intro v7 v7' hv7
  subst hv7
  refine sm_astL (show (nI 0).toInt = 0 by decide) rfl ?_
  exact hQj _ _ (show (nI 0).toInt = 0 by decide)
theorem smFX11_common_6 {Qj : Int64 → JP} {Qj' : Int → MP} (hQj : ∀ (x0 : Int64) (X0 : Int), x0.toInt = X0 → SM (Qj x0) (Qj' X0)) : ∀ n : Nat, ∀ (x0 : Int64) (X0 : Int), x0.toInt = X0 → ∀ (x1 : Int64) (X1 : Int), x1.toInt = X1 → SM (jit (FX11_common_6 Qj) (fun _ _ => jbot) n x0 x1) (jit (GX11_common_6 Qj') (fun _ _ => mbot) n X0 X1) := by
  intro n
  induction n with
  | zero =>
    intro x4_6 x4_6' hx4_6 x6_6 x6_6' hx6_6
    exact SM.bot
  | succ n ih =>
    intro x4_6 x4_6' hx4_6 x6_6 x6_6' hx6_6
    subst hx4_6
    subst hx6_6
    show SM (FX11_common_6 Qj (jit (FX11_common_6 Qj) (fun _ _ => jbot) n) x4_6 x6_6) (GX11_common_6 Qj' (jit (GX11_common_6 Qj') (fun _ _ => mbot) n) x4_6.toInt x6_6.toInt)
    generalize jit (FX11_common_6 Qj) (fun _ _ => jbot) n = rec6 at ih ⊢
    generalize jit (GX11_common_6 Qj') (fun _ _ => mbot) n = rec6' at ih ⊢
    have hrec6 := ih
    unfold FX11_common_6 GX11_common_6
    refine sm_if (cI_le (tl_cmp rfl (show (lN 0).toInt = 0 by decide)) (show (nI 0).toInt = 0 by decide)) ?_ ?_
    · exact hQj _ _ rfl
    · refine sm_and (mt (cL_eq rfl (show (lN 0).toInt = 0 by decide)).mp) ?_
      exact hrec6 _ _ rfl _ _ (tl_rem rfl rfl)
theorem sm_X11_common : ∀ (x0 : Int64) (X0 : Int), x0.toInt = X0 → ∀ (x1 : Int64) (X1 : Int), x1.toInt = X1 → ∀ (x2 : Int64 → JP) (X2 : Int → MP), (∀ (x0 : Int64) (X0 : Int), x0.toInt = X0 → SM (x2 x0) (X2 X0)) → SM (JX11_common x0 x1 x2) (MX11_common X0 X1 X2) := by
  intro p0 p0' hp0 p2 p2' hp2 Qj Qj' hQj
  subst hp0
  subst hp2
  unfold JX11_common MX11_common
  refine sm_ex (fun n6 => ?_)
  refine smFX11_common_6 hQj n6 _ _ rfl _ _ rfl
theorem smFX11_odds_152 (this : Nat) (p2 : Int32) (v34 : Int32) {k210 : Int64 → Int64 → JP} {k210' : Int → Int → MP} (hk210 : ∀ (x0 : Int64) (X0 : Int), x0.toInt = X0 → ∀ (x1 : Int64) (X1 : Int), x1.toInt = X1 → SM (k210 x0 x1) (k210' X0 X1)) : ∀ n : Nat, ∀ (x0 : Int64) (X0 : Int), x0.toInt = X0 → ∀ (x1 : Int64) (X1 : Int), x1.toInt = X1 → ∀ (x2 : Int32) (X2 : Int), x2.toInt = X2 → SM (jit (FX11_odds_152 this p2 v34 k210) (fun _ _ _ => jbot) n x0 x1 x2) (jit (GX11_odds_152 this p2.toInt v34.toInt k210') (fun _ _ _ => mbot) n X0 X1 X2) := by
  intro n
  induction n with
  | zero =>
    intro x5_152 x5_152' hx5_152 x7_152 x7_152' hx7_152 x9_152 x9_152' hx9_152
    exact SM.bot
  | succ n ih =>
    intro x5_152 x5_152' hx5_152 x7_152 x7_152' hx7_152 x9_152 x9_152' hx9_152
    subst hx5_152
    subst hx7_152
    subst hx9_152
    show SM (FX11_odds_152 this p2 v34 k210 (jit (FX11_odds_152 this p2 v34 k210) (fun _ _ _ => jbot) n) x5_152 x7_152 x9_152) (GX11_odds_152 this p2.toInt v34.toInt k210' (jit (GX11_odds_152 this p2.toInt v34.toInt k210') (fun _ _ _ => mbot) n) x5_152.toInt x7_152.toInt x9_152.toInt)
    generalize jit (FX11_odds_152 this p2 v34 k210) (fun _ _ _ => jbot) n = rec152 at ih ⊢
    generalize jit (GX11_odds_152 this p2.toInt v34.toInt k210') (fun _ _ _ => mbot) n = rec152' at ih ⊢
    have hrec152 := ih
    unfold FX11_odds_152 GX11_odds_152
    refine sm_if (cI_lt (tc_add rfl rfl) rfl) ?_ ?_
    · exact hk210 _ _ rfl _ _ rfl
    · refine sm_getA rfl (fun v179 => ?_)
      refine sm_aldL rfl (fun v184 => ?_)
      refine sm_getA rfl (fun v194 => ?_)
      refine sm_aldL rfl (fun v199 => ?_)
      exact hrec152 _ _ (tl_add rfl (tl_mul (tl_shl (show (lN 1).toInt = 1 by decide) (tc_mul (show (nI 2).toInt = 2 by decide) (tc_sub (tc_add rfl rfl) rfl))) rfl)) _ _ (tl_add rfl (tl_mul (tl_shl (show (lN 1).toInt = 1 by decide) (tc_mul (show (nI 2).toInt = 2 by decide) (tc_sub (tc_add rfl rfl) rfl))) rfl)) _ _ (tc_add rfl (show (nI 1).toInt = 1 by decide))
theorem smFX11_odds_99 (this : Nat) (p2 : Int32) {Qj : Int64 → JP} {Qj' : Int → MP} (hQj : ∀ (x0 : Int64) (X0 : Int), x0.toInt = X0 → SM (Qj x0) (Qj' X0)) (v34 : Int32) {k131 : JP} {k131' : MP} (hk131 : SM k131 k131') : ∀ n : Nat, ∀ (x0 : Int32) (X0 : Int), x0.toInt = X0 → SM (jit (FX11_odds_99 this p2 Qj v34 k131) (fun _ => jbot) n x0) (jit (GX11_odds_99 this p2.toInt Qj' v34.toInt k131') (fun _ => mbot) n X0) := by
  intro n
  induction n with
  | zero =>
    intro x5_99 x5_99' hx5_99
    exact SM.bot
  | succ n ih =>
    intro x5_99 x5_99' hx5_99
    subst hx5_99
    show SM (FX11_odds_99 this p2 Qj v34 k131 (jit (FX11_odds_99 this p2 Qj v34 k131) (fun _ => jbot) n) x5_99) (GX11_odds_99 this p2.toInt Qj' v34.toInt k131' (jit (GX11_odds_99 this p2.toInt Qj' v34.toInt k131') (fun _ => mbot) n) x5_99.toInt)
    generalize jit (FX11_odds_99 this p2 Qj v34 k131) (fun _ => jbot) n = rec99 at ih ⊢
    generalize jit (GX11_odds_99 this p2.toInt Qj' v34.toInt k131') (fun _ => mbot) n = rec99' at ih ⊢
    have hrec99 := ih
    unfold FX11_odds_99 GX11_odds_99
    refine sm_if (cI_lt (tc_add rfl rfl) rfl) ?_ ?_
    · exact hk131
    · refine sm_obj ?_
      refine sm_X11_laysAll this _ _ rfl _ _ ?_
      refine sm_getI rfl (fun v115 => ?_)
      refine sm_if (cI_eq rfl (show (nI 0).toInt = 0 by decide)) ?_ ?_
      · exact hrec99 _ _ (tc_add rfl (show (nI 1).toInt = 1 by decide))
      · exact hQj _ _ (show ((-2) : Int64).toInt = (-2) by decide)
theorem sm_X11_odds : ∀ (x0 : Nat), ∀ (x1 : Int32) (X1 : Int), x1.toInt = X1 → ∀ (x2 : Int32) (X2 : Int), x2.toInt = X2 → ∀ (x3 : Int32) (X3 : Int), x3.toInt = X3 → ∀ (x4 : Int64 → JP) (X4 : Int → MP), (∀ (x0 : Int64) (X0 : Int), x0.toInt = X0 → SM (x4 x0) (X4 X0)) → SM (JX11_odds x0 x1 x2 x3 x4) (MX11_odds x0 X1 X2 X3 X4) := by
  intro this p1 p1' hp1 p2 p2' hp2 p3 p3' hp3 Qj Qj' hQj
  subst hp1
  subst hp2
  subst hp3
  unfold JX11_odds MX11_odds
  refine sm_putI rfl (show (nI 0).toInt = 0 by decide) ?_
  refine sm_join (fun (k24 : Int32 → JP) (k24' : Int → MP) => ∀ (x0 : Int32) (X0 : Int), x0.toInt = X0 → SM (k24 x0) (k24' X0)) ?_ (fun k24 k24' hk24 => ?_)
  · intro s1_24 s1_24' hs1_24
    subst hs1_24
    refine sm_obj ?_
    refine sm_X11_throwsIf this _ _ rfl _ _ (show (nI 1).toInt = 1 by decide) _ _ ?_
    intro v25 v25' hv25
    subst hv25
    refine sm_if (cI_eq rfl (show (nI 0).toInt = 0 by decide)) ?_ ?_
    · refine sm_obj ?_
      refine sm_X11_asksWhole this _ _ ?_
      intro v34 v34' hv34
      subst hv34
      refine sm_if (cI_le (show (nI 0).toInt = 0 by decide) rfl) ?_ ?_
      · refine sm_putI rfl rfl ?_
        refine sm_getI rfl (fun v56 => ?_)
        refine sm_join (fun (k72 : Int32 → JP) (k72' : Int → MP) => ∀ (x0 : Int32) (X0 : Int), x0.toInt = X0 → SM (k72 x0) (k72' X0)) ?_ (fun k72 k72' hk72 => ?_)
        · intro s1_72 s1_72' hs1_72
          subst hs1_72
          refine sm_putI rfl rfl ?_
          refine sm_join (fun (k84 : JP) (k84' : MP) => SM k84 k84') ?_ (fun k84 k84' hk84 => ?_)
          · refine sm_join (fun (k97 : Int32 → JP) (k97' : Int → MP) => ∀ (x0 : Int32) (X0 : Int), x0.toInt = X0 → SM (k97 x0) (k97' X0)) ?_ (fun k97 k97' hk97 => ?_)
            · intro s0_97 s0_97' hs0_97
              subst hs0_97
              refine sm_ex (fun n99 => ?_)
              refine smFX11_odds_99 this p2 hQj v34 ?_ n99 _ _ rfl
              · refine sm_getI rfl (fun v132 => ?_)
                refine sm_if (cI_le (show (nI 0).toInt = 0 by decide) rfl) ?_ ?_
                · refine sm_ex (fun n152 => ?_)
                  refine smFX11_odds_152 this p2 v34 ?_ n152 _ _ (show (lN 0).toInt = 0 by decide) _ _ (show (lN 0).toInt = 0 by decide) _ _ rfl
                  · intro y5_210 y5_210' hy5_210 y7_210 y7_210' hy7_210
                    subst hy5_210
                    subst hy7_210
                    refine sm_X11_common _ _ rfl _ _ rfl _ _ ?_
                    intro v214 v214' hv214
                    subst hv214
                    refine sm_if (cI_eq rfl (show (nI 0).toInt = 0 by decide)) ?_ ?_
                    · refine sm_and (mt (cL_eq rfl (show (lN 0).toInt = 0 by decide)).mp) ?_
                      exact hQj _ _ (tl_div rfl rfl)
                    · refine sm_and (mt (cL_eq rfl (show (lN 0).toInt = 0 by decide)).mp) ?_
                      exact hQj _ _ (tl_div rfl rfl)
                · exact hQj _ _ (show ((-3) : Int64).toInt = (-3) by decide)
            refine sm_if (cI_eq rfl (show (nI 0).toInt = 0 by decide)) ?_ ?_
            · exact hk97 _ _ rfl
            · exact hk97 _ _ (tc_add rfl (show (nI 1).toInt = 1 by decide))
          refine sm_if (cI_eq rfl (show (nI 0).toInt = 0 by decide)) ?_ ?_
          · refine sm_putI rfl (show (nI 0).toInt = 0 by decide) ?_
            exact hk84
          · exact hk84
        refine sm_if (cI_le rfl rfl) ?_ ?_
        · exact hk72 _ _ (show ((-1) : Int32).toInt = (-1) by decide)
        · refine sm_getA rfl (fun v63 => ?_)
          refine sm_aldI (by decide) rfl (fun v67 => ?_)
          exact hk72 _ _ rfl
      · exact hQj _ _ (tc_i2l rfl)
    · exact hQj _ _ (show (lN 0).toInt = 0 by decide)
  refine sm_join (fun (k19 : JP) (k19' : MP) => SM k19 k19') ?_ (fun k19 k19' hk19 => ?_)
  · exact hk24 _ _ (show (nI 1).toInt = 1 by decide)
  refine sm_if (cI_lt rfl (show (nI 0).toInt = 0 by decide)) ?_ ?_
  · exact hk19
  · refine sm_X11_in _ _ rfl _ _ (show (nI 0).toInt = 0 by decide) _ _ (show (nI 2).toInt = 2 by decide) _ _ ?_
    intro v13 v13' hv13
    subst hv13
    refine sm_if (cI_eq rfl (show (nI 0).toInt = 0 by decide)) ?_ ?_
    · exact hk19
    · exact hk24 _ _ (show (nI 0).toInt = 0 by decide)
theorem smFX1_shared_35 (this : Nat) (p1 : Int32) (p2 : Int32) (v2 : Nat) (v9 : Nat) {k181 : Int32 → Int32 → JP} {k181' : Int → Int → MP} (hk181 : ∀ (x0 : Int32) (X0 : Int), x0.toInt = X0 → ∀ (x1 : Int32) (X1 : Int), x1.toInt = X1 → SM (k181 x0 x1) (k181' X0 X1)) : ∀ n : Nat, ∀ (x0 : Int32) (X0 : Int), x0.toInt = X0 → ∀ (x1 : Int32) (X1 : Int), x1.toInt = X1 → ∀ (x2 : Int32) (X2 : Int), x2.toInt = X2 → SM (jit (FX1_shared_35 this p1 p2 v2 v9 k181) (fun _ _ _ => jbot) n x0 x1 x2) (jit (GX1_shared_35 this p1.toInt p2.toInt v2 v9 k181') (fun _ _ _ => mbot) n X0 X1 X2) := by
  intro n
  induction n with
  | zero =>
    intro x6_35 x6_35' hx6_35 x7_35 x7_35' hx7_35 x8_35 x8_35' hx8_35
    exact SM.bot
  | succ n ih =>
    intro x6_35 x6_35' hx6_35 x7_35 x7_35' hx7_35 x8_35 x8_35' hx8_35
    subst hx6_35
    subst hx7_35
    subst hx8_35
    show SM (FX1_shared_35 this p1 p2 v2 v9 k181 (jit (FX1_shared_35 this p1 p2 v2 v9 k181) (fun _ _ _ => jbot) n) x6_35 x7_35 x8_35) (GX1_shared_35 this p1.toInt p2.toInt v2 v9 k181' (jit (GX1_shared_35 this p1.toInt p2.toInt v2 v9 k181') (fun _ _ _ => mbot) n) x6_35.toInt x7_35.toInt x8_35.toInt)
    generalize jit (FX1_shared_35 this p1 p2 v2 v9 k181) (fun _ _ _ => jbot) n = rec35 at ih ⊢
    generalize jit (GX1_shared_35 this p1.toInt p2.toInt v2 v9 k181') (fun _ _ _ => mbot) n = rec35' at ih ⊢
    have hrec35 := ih
    unfold FX1_shared_35 GX1_shared_35
    refine sm_getA rfl (fun v38 => ?_)
    refine sm_getI rfl (fun v41 => ?_)
    refine sm_if (cI_le rfl rfl) ?_ ?_
    · exact hk181 _ _ rfl _ _ rfl
    · refine sm_getA rfl (fun v48 => ?_)
      refine sm_aldA (by decide) rfl (fun v52 => ?_)
      refine sm_aldI (by decide) rfl (fun v55 => ?_)
      refine sm_getA rfl (fun v59 => ?_)
      refine sm_aldA (by decide) rfl (fun v63 => ?_)
      refine sm_aldI (by decide) rfl (fun v66 => ?_)
      refine sm_join (fun (k88 : Int32 → JP) (k88' : Int → MP) => ∀ (x0 : Int32) (X0 : Int), x0.toInt = X0 → SM (k88 x0) (k88' X0)) ?_ (fun k88 k88' hk88 => ?_)
      · intro s0_88 s0_88' hs0_88
        subst hs0_88
        refine sm_join (fun (k109 : Int32 → JP) (k109' : Int → MP) => ∀ (x0 : Int32) (X0 : Int), x0.toInt = X0 → SM (k109 x0) (k109' X0)) ?_ (fun k109 k109' hk109 => ?_)
        · intro s0_109 s0_109' hs0_109
          subst hs0_109
          refine sm_join (fun (k152 : Int32 → JP) (k152' : Int → MP) => ∀ (x0 : Int32) (X0 : Int), x0.toInt = X0 → SM (k152 x0) (k152' X0)) ?_ (fun k152 k152' hk152 => ?_)
          · intro s1_152 s1_152' hs1_152
            subst hs1_152
            refine sm_join (fun (k172 : Int32 → JP) (k172' : Int → MP) => ∀ (x0 : Int32) (X0 : Int), x0.toInt = X0 → SM (k172 x0) (k172' X0)) ?_ (fun k172 k172' hk172 => ?_)
            · intro s1_172 s1_172' hs1_172
              subst hs1_172
              exact hrec35 _ _ (tc_add rfl rfl) _ _ (tc_add rfl rfl) _ _ (tc_add rfl (show (nI 1).toInt = 1 by decide))
            refine sm_join (fun (k171 : JP) (k171' : MP) => SM k171 k171') ?_ (fun k171 k171' hk171 => ?_)
            · exact hk172 _ _ (show (nI 0).toInt = 0 by decide)
            refine sm_if (cI_le rfl (show (nI 0).toInt = 0 by decide)) ?_ ?_
            · exact hk171
            · refine sm_if (cI_eq rfl (show (nI 0).toInt = 0 by decide)) ?_ ?_
              · exact hk172 _ _ (show (nI 1).toInt = 1 by decide)
              · exact hk171
          refine sm_join (fun (k151 : JP) (k151' : MP) => SM k151 k151') ?_ (fun k151 k151' hk151 => ?_)
          · exact hk152 _ _ (show (nI 0).toInt = 0 by decide)
          refine sm_if (cI_le rfl (show (nI 0).toInt = 0 by decide)) ?_ ?_
          · exact hk151
          · refine sm_if (cI_eq rfl rfl) ?_ ?_
            · refine sm_getA rfl (fun v127 => ?_)
              refine sm_aldA (by decide) rfl (fun v132 => ?_)
              refine sm_getA rfl (fun v135 => ?_)
              refine sm_aldA (by decide) rfl (fun v140 => ?_)
              refine sm_obj ?_
              refine sm_X23_isNearly v132 v140 _ _ ?_
              intro v141 v141' hv141
              subst hv141
              refine sm_if (cI_eq rfl (show (nI 0).toInt = 0 by decide)) ?_ ?_
              · exact hk151
              · exact hk152 _ _ (show (nI 1).toInt = 1 by decide)
            · exact hk151
        refine sm_if (cI_eq rfl (show ((-1) : Int32).toInt = (-1) by decide)) ?_ ?_
        · exact hk109 _ _ (show (nI 0).toInt = 0 by decide)
        · refine sm_getA rfl (fun v101 => ?_)
          refine sm_aldA (by decide) rfl (fun v105 => ?_)
          refine sm_aldI (by decide) rfl (fun v108 => ?_)
          exact hk109 _ _ rfl
      refine sm_if (cI_eq rfl (show ((-1) : Int32).toInt = (-1) by decide)) ?_ ?_
      · exact hk88 _ _ (show (nI 0).toInt = 0 by decide)
      · refine sm_getA rfl (fun v80 => ?_)
        refine sm_aldA (by decide) rfl (fun v84 => ?_)
        refine sm_aldI (by decide) rfl (fun v87 => ?_)
        exact hk88 _ _ rfl
theorem sm_X1_shared : ∀ (x0 : Nat), ∀ (x1 : Nat), ∀ (x2 : Nat), ∀ (x3 : Int32) (X3 : Int), x3.toInt = X3 → ∀ (x4 : Int32) (X4 : Int), x4.toInt = X4 → ∀ (x5 : Int32) (X5 : Int), x5.toInt = X5 → ∀ (x6 : Nat → Nat → JP) (X6 : Nat → Nat → MP), (∀ z q, SM (x6 z q) (X6 z q)) → ∀ (x7 : Int32 → JP) (X7 : Int → MP), (∀ (x0 : Int32) (X0 : Int), x0.toInt = X0 → SM (x7 x0) (X7 X0)) → SM (JX1_shared x0 x1 x2 x3 x4 x5 x6 x7) (MX1_shared x0 x1 x2 X3 X4 X5 X6 X7) := by
  intro bc bs this p1 p1' hp1 p2 p2' hp2 p3 p3' hp3 Ex Ex' hEx Qj Qj' hQj
  subst hp1
  subst hp2
  subst hp3
  unfold JX1_shared MX1_shared
  refine sm_bud (fun mc2 ms2 => ?_)
  refine sm_obj ?_
  refine sm_X1_bookAt mc2 ms2 this _ _ rfl _ _ hEx _ _ ?_
  intro v2
  refine sm_bud (fun mc9 ms9 => ?_)
  refine sm_obj ?_
  refine sm_X1_bookAt mc9 ms9 this _ _ rfl _ _ hEx _ _ ?_
  intro v9
  refine sm_obj ?_
  refine sm_X1_reads this _ _ ?_
  intro v15 v15' hv15
  subst hv15
  refine sm_if (cI_le (show (nI 0).toInt = 0 by decide) rfl) ?_ ?_
  · refine sm_ex (fun n35 => ?_)
    refine smFX1_shared_35 this p1 p2 v2 v9 ?_ n35 _ _ (show (nI 0).toInt = 0 by decide) _ _ (show (nI 0).toInt = 0 by decide) _ _ (show (nI 0).toInt = 0 by decide)
    · intro y6_181 y6_181' hy6_181 y7_181 y7_181' hy7_181
      subst hy6_181
      subst hy7_181
      refine sm_if (cI_eq rfl (show (nI 0).toInt = 0 by decide)) ?_ ?_
      · exact hQj _ _ rfl
      · refine sm_if (cI_le rfl rfl) ?_ ?_
        · exact hQj _ _ (show (nI 0).toInt = 0 by decide)
        · exact hQj _ _ (show (nI 1).toInt = 1 by decide)
  · refine sm_getI rfl (fun v22 => ?_)
    exact hQj _ _ rfl
theorem sm_X0_shared : ∀ (x0 : Nat), ∀ (x1 : Nat), ∀ (x2 : Nat), ∀ (x3 : Int32) (X3 : Int), x3.toInt = X3 → ∀ (x4 : Int32) (X4 : Int), x4.toInt = X4 → ∀ (x5 : Int32) (X5 : Int), x5.toInt = X5 → ∀ (x6 : Nat), ∀ (x7 : Int32 → JP) (X7 : Int → MP), (∀ (x0 : Int32) (X0 : Int), x0.toInt = X0 → SM (x7 x0) (X7 X0)) → SM (JX0_shared x0 x1 x2 x3 x4 x5 x6 x7) (MX0_shared x0 x1 x2 X3 X4 X5 x6 X7) := by
  intro bc bs p0 p1 p1' hp1 p2 p2' hp2 p3 p3' hp3 p4 Qj Qj' hQj
  subst hp1
  subst hp2
  subst hp3
  unfold JX0_shared MX0_shared
  refine sm_bud (fun mc7 ms7 => ?_)
  refine sm_obj ?_
  refine sm_X1_shared mc7 ms7 p0 _ _ rfl _ _ rfl _ _ rfl _ _ (fun xx7 xq7 => ?_) _ _ ?_
  · refine sm_if Iff.rfl ?_ ?_
    · exact hQj _ _ (show (nI 1).toInt = 1 by decide)
    · exact SM.bot
  intro v7 v7' hv7
  subst hv7
  refine sm_astL (show (nI 0).toInt = 0 by decide) (tc_i2l rfl) ?_
  exact hQj _ _ (show (nI 0).toInt = 0 by decide)
theorem sm_X11_isSlip : ∀ (x0 : Int32) (X0 : Int), x0.toInt = X0 → ∀ (x1 : Int32 → JP) (X1 : Int → MP), (∀ (x0 : Int32) (X0 : Int), x0.toInt = X0 → SM (x1 x0) (X1 X0)) → SM (JX11_isSlip x0 x1) (MX11_isSlip X0 X1) := by
  intro p0 p0' hp0 Qj Qj' hQj
  subst hp0
  unfold JX11_isSlip MX11_isSlip
  refine sm_X11_in _ _ rfl _ _ (show (nI 1).toInt = 1 by decide) _ _ (show (nI 5).toInt = 5 by decide) _ _ ?_
  intro v3 v3' hv3
  subst hv3
  refine sm_and (fun h => h.imp (cI_eq rfl (show (nI 0).toInt = 0 by decide)).mpr (cI_eq rfl (show (nI 1).toInt = 1 by decide)).mpr) ?_
  exact hQj _ _ rfl
theorem smFX11_shared_134 (this : Nat) (p1 : Int32) (p2 : Int32) {k302 : Int32 → Int32 → JP} {k302' : Int → Int → MP} (hk302 : ∀ (x0 : Int32) (X0 : Int), x0.toInt = X0 → ∀ (x1 : Int32) (X1 : Int), x1.toInt = X1 → SM (k302 x0 x1) (k302' X0 X1)) : ∀ n : Nat, ∀ (x0 : Int32) (X0 : Int), x0.toInt = X0 → ∀ (x1 : Int32) (X1 : Int), x1.toInt = X1 → ∀ (x2 : Int32) (X2 : Int), x2.toInt = X2 → SM (jit (FX11_shared_134 this p1 p2 k302) (fun _ _ _ => jbot) n x0 x1 x2) (jit (GX11_shared_134 this p1.toInt p2.toInt k302') (fun _ _ _ => mbot) n X0 X1 X2) := by
  intro n
  induction n with
  | zero =>
    intro x5_134 x5_134' hx5_134 x6_134 x6_134' hx6_134 x7_134 x7_134' hx7_134
    exact SM.bot
  | succ n ih =>
    intro x5_134 x5_134' hx5_134 x6_134 x6_134' hx6_134 x7_134 x7_134' hx7_134
    subst hx5_134
    subst hx6_134
    subst hx7_134
    show SM (FX11_shared_134 this p1 p2 k302 (jit (FX11_shared_134 this p1 p2 k302) (fun _ _ _ => jbot) n) x5_134 x6_134 x7_134) (GX11_shared_134 this p1.toInt p2.toInt k302' (jit (GX11_shared_134 this p1.toInt p2.toInt k302') (fun _ _ _ => mbot) n) x5_134.toInt x6_134.toInt x7_134.toInt)
    generalize jit (FX11_shared_134 this p1 p2 k302) (fun _ _ _ => jbot) n = rec134 at ih ⊢
    generalize jit (GX11_shared_134 this p1.toInt p2.toInt k302') (fun _ _ _ => mbot) n = rec134' at ih ⊢
    have hrec134 := ih
    unfold FX11_shared_134 GX11_shared_134
    refine sm_getI rfl (fun v137 => ?_)
    refine sm_if (cI_le rfl rfl) ?_ ?_
    · exact hk302 _ _ rfl _ _ rfl
    · refine sm_getA rfl (fun v144 => ?_)
      refine sm_aldI (by decide) rfl (fun v149 => ?_)
      refine sm_getA rfl (fun v153 => ?_)
      refine sm_aldI (by decide) rfl (fun v158 => ?_)
      refine sm_join (fun (k296 : Int32 → Int32 → JP) (k296' : Int → Int → MP) => ∀ (x0 : Int32) (X0 : Int), x0.toInt = X0 → ∀ (x1 : Int32) (X1 : Int), x1.toInt = X1 → SM (k296 x0 x1) (k296' X0 X1)) ?_ (fun k296 k296' hk296 => ?_)
      · intro x5_296 x5_296' hx5_296 x6_296 x6_296' hx6_296
        subst hx5_296
        subst hx6_296
        exact hrec134 _ _ rfl _ _ rfl _ _ (tc_add rfl (show (nI 1).toInt = 1 by decide))
      refine sm_if (cI_lt rfl (show (nI 0).toInt = 0 by decide)) ?_ ?_
      · exact hk296 _ _ rfl _ _ rfl
      · refine sm_getA rfl (fun v167 => ?_)
        refine sm_aldI (by decide) rfl (fun v172 => ?_)
        refine sm_X11_isSlip _ _ rfl _ _ ?_
        intro v173 v173' hv173
        subst hv173
        refine sm_if (cI_eq rfl (show (nI 0).toInt = 0 by decide)) ?_ ?_
        · exact hk296 _ _ rfl _ _ rfl
        · refine sm_join (fun (k204 : Int32 → JP) (k204' : Int → MP) => ∀ (x0 : Int32) (X0 : Int), x0.toInt = X0 → SM (k204 x0) (k204' X0)) ?_ (fun k204 k204' hk204 => ?_)
          · intro s1_204 s1_204' hs1_204
            subst hs1_204
            refine sm_join (fun (k293 : Int32 → JP) (k293' : Int → MP) => ∀ (x0 : Int32) (X0 : Int), x0.toInt = X0 → SM (k293 x0) (k293' X0)) ?_ (fun k293 k293' hk293 => ?_)
            · intro s1_293 s1_293' hs1_293
              subst hs1_293
              exact hk296 _ _ (tc_add rfl rfl) _ _ (tc_add rfl rfl)
            refine sm_join (fun (k292 : JP) (k292' : MP) => SM k292 k292') ?_ (fun k292 k292' hk292 => ?_)
            · exact hk293 _ _ (show (nI 0).toInt = 0 by decide)
            refine sm_if (cI_lt rfl (show (nI 0).toInt = 0 by decide)) ?_ ?_
            · exact hk292
            · refine sm_getA rfl (fun v215 => ?_)
              refine sm_aldI (by decide) rfl (fun v220 => ?_)
              refine sm_getA rfl (fun v222 => ?_)
              refine sm_aldI (by decide) rfl (fun v227 => ?_)
              refine sm_if (cI_eq rfl rfl) ?_ ?_
              · refine sm_obj ?_
                refine sm_X11_ofNote this _ _ rfl _ _ rfl _ _ (show (nI 0).toInt = 0 by decide) _ _ ?_
                intro v236 v236' hv236
                subst hv236
                refine sm_obj ?_
                refine sm_X11_ofNote this _ _ rfl _ _ rfl _ _ (show (nI 0).toInt = 0 by decide) _ _ ?_
                intro v244 v244' hv244
                subst hv244
                refine sm_if (cI_eq rfl rfl) ?_ ?_
                · refine sm_obj ?_
                  refine sm_X11_ofNote this _ _ rfl _ _ rfl _ _ (show (nI 2).toInt = 2 by decide) _ _ ?_
                  intro v255 v255' hv255
                  subst hv255
                  refine sm_obj ?_
                  refine sm_X11_ofNote this _ _ rfl _ _ rfl _ _ (show (nI 2).toInt = 2 by decide) _ _ ?_
                  intro v263 v263' hv263
                  subst hv263
                  refine sm_if (cI_eq rfl rfl) ?_ ?_
                  · refine sm_obj ?_
                    refine sm_X11_ofNote this _ _ rfl _ _ rfl _ _ (show (nI 3).toInt = 3 by decide) _ _ ?_
                    intro v274 v274' hv274
                    subst hv274
                    refine sm_obj ?_
                    refine sm_X11_ofNote this _ _ rfl _ _ rfl _ _ (show (nI 3).toInt = 3 by decide) _ _ ?_
                    intro v282 v282' hv282
                    subst hv282
                    refine sm_if (cI_eq rfl rfl) ?_ ?_
                    · exact hk293 _ _ (show (nI 1).toInt = 1 by decide)
                    · exact hk292
                  · exact hk292
                · exact hk292
              · exact hk292
          refine sm_join (fun (k199 : JP) (k199' : MP) => SM k199 k199') ?_ (fun k199 k199' hk199 => ?_)
          · exact hk204 _ _ (show (nI 1).toInt = 1 by decide)
          refine sm_if (cI_lt rfl (show (nI 0).toInt = 0 by decide)) ?_ ?_
          · exact hk199
          · refine sm_getA rfl (fun v190 => ?_)
            refine sm_aldI (by decide) rfl (fun v195 => ?_)
            refine sm_if (cI_eq rfl (show (nI 0).toInt = 0 by decide)) ?_ ?_
            · exact hk199
            · exact hk204 _ _ (show (nI 0).toInt = 0 by decide)
theorem smFX11_shared_91 (this : Nat) {k120 : JP} {k120' : MP} (hk120 : SM k120 k120') : ∀ n : Nat, ∀ (x0 : Int32) (X0 : Int), x0.toInt = X0 → SM (jit (FX11_shared_91 this k120) (fun _ => jbot) n x0) (jit (GX11_shared_91 this k120') (fun _ => mbot) n X0) := by
  intro n
  induction n with
  | zero =>
    intro x5_91 x5_91' hx5_91
    exact SM.bot
  | succ n ih =>
    intro x5_91 x5_91' hx5_91
    subst hx5_91
    show SM (FX11_shared_91 this k120 (jit (FX11_shared_91 this k120) (fun _ => jbot) n) x5_91) (GX11_shared_91 this k120' (jit (GX11_shared_91 this k120') (fun _ => mbot) n) x5_91.toInt)
    generalize jit (FX11_shared_91 this k120) (fun _ => jbot) n = rec91 at ih ⊢
    generalize jit (GX11_shared_91 this k120') (fun _ => mbot) n = rec91' at ih ⊢
    have hrec91 := ih
    unfold FX11_shared_91 GX11_shared_91
    refine sm_getI rfl (fun v94 => ?_)
    refine sm_if (cI_le rfl rfl) ?_ ?_
    · exact hk120
    · refine sm_getA rfl (fun v101 => ?_)
      refine sm_getA rfl (fun v107 => ?_)
      refine sm_aldI (by decide) rfl (fun v112 => ?_)
      refine sm_astI rfl rfl ?_
      exact hrec91 _ _ (tc_add rfl (show (nI 1).toInt = 1 by decide))
theorem smFX11_shared_58 (this : Nat) (p1 : Int32) {k88 : JP} {k88' : MP} (hk88 : SM k88 k88') : ∀ n : Nat, ∀ (x0 : Int32) (X0 : Int), x0.toInt = X0 → SM (jit (FX11_shared_58 this p1 k88) (fun _ => jbot) n x0) (jit (GX11_shared_58 this p1.toInt k88') (fun _ => mbot) n X0) := by
  intro n
  induction n with
  | zero =>
    intro x5_58 x5_58' hx5_58
    exact SM.bot
  | succ n ih =>
    intro x5_58 x5_58' hx5_58
    subst hx5_58
    show SM (FX11_shared_58 this p1 k88 (jit (FX11_shared_58 this p1 k88) (fun _ => jbot) n) x5_58) (GX11_shared_58 this p1.toInt k88' (jit (GX11_shared_58 this p1.toInt k88') (fun _ => mbot) n) x5_58.toInt)
    generalize jit (FX11_shared_58 this p1 k88) (fun _ => jbot) n = rec58 at ih ⊢
    generalize jit (GX11_shared_58 this p1.toInt k88') (fun _ => mbot) n = rec58' at ih ⊢
    have hrec58 := ih
    unfold FX11_shared_58 GX11_shared_58
    refine sm_obj ?_
    refine sm_X11_notes this _ _ rfl _ _ ?_
    intro v62 v62' hv62
    subst hv62
    refine sm_if (cI_le rfl rfl) ?_ ?_
    · exact hk88
    · refine sm_getA rfl (fun v69 => ?_)
      refine sm_getA rfl (fun v75 => ?_)
      refine sm_aldI (by decide) rfl (fun v80 => ?_)
      refine sm_astI rfl rfl ?_
      exact hrec58 _ _ (tc_add rfl (show (nI 1).toInt = 1 by decide))
theorem sm_X11_shared : ∀ (x0 : Nat), ∀ (x1 : Int32) (X1 : Int), x1.toInt = X1 → ∀ (x2 : Int32) (X2 : Int), x2.toInt = X2 → ∀ (x3 : Int32) (X3 : Int), x3.toInt = X3 → ∀ (x4 : Int32 → JP) (X4 : Int → MP), (∀ (x0 : Int32) (X0 : Int), x0.toInt = X0 → SM (x4 x0) (X4 X0)) → SM (JX11_shared x0 x1 x2 x3 x4) (MX11_shared x0 X1 X2 X3 X4) := by
  intro this p1 p1' hp1 p2 p2' hp2 p3 p3' hp3 Qj Qj' hQj
  subst hp1
  subst hp2
  subst hp3
  unfold JX11_shared MX11_shared
  refine sm_putI rfl (show (nI 0).toInt = 0 by decide) ?_
  refine sm_obj ?_
  refine sm_X11_noBook this _ _ rfl _ _ ?_
  intro v8 v8' hv8
  subst hv8
  refine sm_join (fun (k27 : Int32 → JP) (k27' : Int → MP) => ∀ (x0 : Int32) (X0 : Int), x0.toInt = X0 → SM (k27 x0) (k27' X0)) ?_ (fun k27 k27' hk27 => ?_)
  · intro s1_27 s1_27' hs1_27
    subst hs1_27
    refine sm_obj ?_
    refine sm_X11_throwsIf this _ _ rfl _ _ (show (nI 1).toInt = 1 by decide) _ _ ?_
    intro v28 v28' hv28
    subst hv28
    refine sm_if (cI_eq rfl (show (nI 0).toInt = 0 by decide)) ?_ ?_
    · refine sm_obj ?_
      refine sm_X11_asksWhole this _ _ ?_
      intro v37 v37' hv37
      subst hv37
      refine sm_if (cI_le (show (nI 0).toInt = 0 by decide) rfl) ?_ ?_
      · refine sm_obj ?_
        refine sm_X11_follows this _ _ rfl _ _ ?_
        refine sm_ex (fun n58 => ?_)
        refine smFX11_shared_58 this p1 ?_ n58 _ _ (show (nI 0).toInt = 0 by decide)
        · refine sm_ex (fun n91 => ?_)
          refine smFX11_shared_91 this ?_ n91 _ _ (show (nI 0).toInt = 0 by decide)
          · refine sm_obj ?_
            refine sm_X11_follows this _ _ rfl _ _ ?_
            refine sm_ex (fun n134 => ?_)
            refine smFX11_shared_134 this p1 p2 ?_ n134 _ _ (show (nI 0).toInt = 0 by decide) _ _ (show (nI 0).toInt = 0 by decide) _ _ (show (nI 0).toInt = 0 by decide)
            · intro y5_302 y5_302' hy5_302 y6_302 y6_302' hy6_302
              subst hy5_302
              subst hy6_302
              refine sm_if (cI_eq rfl (show (nI 0).toInt = 0 by decide)) ?_ ?_
              · exact hQj _ _ rfl
              · refine sm_if (cI_le rfl rfl) ?_ ?_
                · exact hQj _ _ (show (nI 0).toInt = 0 by decide)
                · exact hQj _ _ (show (nI 1).toInt = 1 by decide)
      · exact hQj _ _ rfl
    · exact hQj _ _ (show (nI 0).toInt = 0 by decide)
  refine sm_join (fun (k22 : JP) (k22' : MP) => SM k22 k22') ?_ (fun k22 k22' hk22 => ?_)
  · exact hk27 _ _ (show (nI 1).toInt = 1 by decide)
  refine sm_if (cI_eq rfl (show (nI 0).toInt = 0 by decide)) ?_ ?_
  · refine sm_obj ?_
    refine sm_X11_noBook this _ _ rfl _ _ ?_
    intro v16 v16' hv16
    subst hv16
    refine sm_if (cI_eq rfl (show (nI 0).toInt = 0 by decide)) ?_ ?_
    · exact hk27 _ _ (show (nI 0).toInt = 0 by decide)
    · exact hk22
  · exact hk22
theorem smFX1_alike_31 (this : Nat) (v2 : Nat) (v8 : Nat) (x5_19 : Int32) {k162 : JP} {k162' : MP} (hk162 : SM k162 k162') : ∀ n : Nat, ∀ (x0 : Int32) (X0 : Int), x0.toInt = X0 → SM (jit (FX1_alike_31 this v2 v8 x5_19 k162) (fun _ => jbot) n x0) (jit (GX1_alike_31 this v2 v8 x5_19.toInt k162') (fun _ => mbot) n X0) := by
  intro n
  induction n with
  | zero =>
    intro x6_31 x6_31' hx6_31
    exact SM.bot
  | succ n ih =>
    intro x6_31 x6_31' hx6_31
    subst hx6_31
    show SM (FX1_alike_31 this v2 v8 x5_19 k162 (jit (FX1_alike_31 this v2 v8 x5_19 k162) (fun _ => jbot) n) x6_31) (GX1_alike_31 this v2 v8 x5_19.toInt k162' (jit (GX1_alike_31 this v2 v8 x5_19.toInt k162') (fun _ => mbot) n) x6_31.toInt)
    generalize jit (FX1_alike_31 this v2 v8 x5_19 k162) (fun _ => jbot) n = rec31 at ih ⊢
    generalize jit (GX1_alike_31 this v2 v8 x5_19.toInt k162') (fun _ => mbot) n = rec31' at ih ⊢
    have hrec31 := ih
    unfold FX1_alike_31 GX1_alike_31
    refine sm_if (cI_lt rfl (show (nI 0).toInt = 0 by decide)) ?_ ?_
    · exact hk162
    · refine sm_getI rfl (fun v39 => ?_)
      refine sm_join (fun (k156 : JP) (k156' : MP) => SM k156 k156') ?_ (fun k156 k156' hk156 => ?_)
      · exact hrec31 _ _ (tc_add rfl (show ((-1) : Int32).toInt = (-1) by decide))
      refine sm_join (fun (k55 : JP) (k55' : MP) => SM k55 k55') ?_ (fun k55 k55' hk55 => ?_)
      · refine sm_getA rfl (fun v56 => ?_)
        refine sm_aldA (by decide) rfl (fun v61 => ?_)
        refine sm_astI rfl (show (nI 0).toInt = 0 by decide) ?_
        exact hk156
      refine sm_if (cI_eq rfl rfl) ?_ ?_
      · exact hk55
      · refine sm_getI rfl (fun v49 => ?_)
        refine sm_if (cI_eq rfl rfl) ?_ ?_
        · exact hk55
        · refine sm_getA rfl (fun v70 => ?_)
          refine sm_aldA (by decide) rfl (fun v75 => ?_)
          refine sm_getA rfl (fun v78 => ?_)
          refine sm_aldA (by decide) rfl (fun v83 => ?_)
          refine sm_obj ?_
          refine sm_X23_isLike v75 v83 _ _ ?_
          intro v84 v84' hv84
          subst hv84
          refine sm_if (cI_eq rfl (show (nI 0).toInt = 0 by decide)) ?_ ?_
          · refine sm_getA rfl (fun v120 => ?_)
            refine sm_aldA (by decide) rfl (fun v125 => ?_)
            refine sm_getA rfl (fun v129 => ?_)
            refine sm_aldA (by decide) (tc_add rfl (show (nI 1).toInt = 1 by decide)) (fun v136 => ?_)
            refine sm_aldI (by decide) rfl (fun v139 => ?_)
            refine sm_getA rfl (fun v141 => ?_)
            refine sm_aldA (by decide) rfl (fun v146 => ?_)
            refine sm_aldI (by decide) (tc_add rfl (show (nI 1).toInt = 1 by decide)) (fun v151 => ?_)
            refine sm_astI rfl (tc_max rfl rfl) ?_
            exact hk156
          · refine sm_getA rfl (fun v91 => ?_)
            refine sm_aldA (by decide) rfl (fun v96 => ?_)
            refine sm_getA rfl (fun v100 => ?_)
            refine sm_aldA (by decide) (tc_add rfl (show (nI 1).toInt = 1 by decide)) (fun v107 => ?_)
            refine sm_aldI (by decide) (tc_add rfl (show (nI 1).toInt = 1 by decide)) (fun v112 => ?_)
            refine sm_astI rfl (tc_add rfl (show (nI 1).toInt = 1 by decide)) ?_
            exact hk156
theorem smFX1_alike_19 (this : Nat) (v2 : Nat) (v8 : Nat) {k168 : JP} {k168' : MP} (hk168 : SM k168 k168') : ∀ n : Nat, ∀ (x0 : Int32) (X0 : Int), x0.toInt = X0 → SM (jit (FX1_alike_19 this v2 v8 k168) (fun _ => jbot) n x0) (jit (GX1_alike_19 this v2 v8 k168') (fun _ => mbot) n X0) := by
  intro n
  induction n with
  | zero =>
    intro x5_19 x5_19' hx5_19
    exact SM.bot
  | succ n ih =>
    intro x5_19 x5_19' hx5_19
    subst hx5_19
    show SM (FX1_alike_19 this v2 v8 k168 (jit (FX1_alike_19 this v2 v8 k168) (fun _ => jbot) n) x5_19) (GX1_alike_19 this v2 v8 k168' (jit (GX1_alike_19 this v2 v8 k168') (fun _ => mbot) n) x5_19.toInt)
    generalize jit (FX1_alike_19 this v2 v8 k168) (fun _ => jbot) n = rec19 at ih ⊢
    generalize jit (GX1_alike_19 this v2 v8 k168') (fun _ => mbot) n = rec19' at ih ⊢
    have hrec19 := ih
    unfold FX1_alike_19 GX1_alike_19
    refine sm_if (cI_lt rfl (show (nI 0).toInt = 0 by decide)) ?_ ?_
    · exact hk168
    · refine sm_getI rfl (fun v26 => ?_)
      refine sm_ex (fun n31 => ?_)
      refine smFX1_alike_31 this v2 v8 x5_19 ?_ n31 _ _ rfl
      · exact hrec19 _ _ (tc_add rfl (show ((-1) : Int32).toInt = (-1) by decide))
theorem sm_X1_alike : ∀ (x0 : Nat), ∀ (x1 : Nat), ∀ (x2 : Nat), ∀ (x3 : Int32) (X3 : Int), x3.toInt = X3 → ∀ (x4 : Int32) (X4 : Int), x4.toInt = X4 → ∀ (x5 : Nat → Nat → JP) (X5 : Nat → Nat → MP), (∀ z q, SM (x5 z q) (X5 z q)) → ∀ (x6 : Int32 → JP) (X6 : Int → MP), (∀ (x0 : Int32) (X0 : Int), x0.toInt = X0 → SM (x6 x0) (X6 X0)) → SM (JX1_alike x0 x1 x2 x3 x4 x5 x6) (MX1_alike x0 x1 x2 X3 X4 X5 X6) := by
  intro bc bs this p1 p1' hp1 p2 p2' hp2 Ex Ex' hEx Qj Qj' hQj
  subst hp1
  subst hp2
  unfold JX1_alike MX1_alike
  refine sm_bud (fun mc2 ms2 => ?_)
  refine sm_obj ?_
  refine sm_X1_bookAt mc2 ms2 this _ _ rfl _ _ hEx _ _ ?_
  intro v2
  refine sm_bud (fun mc8 ms8 => ?_)
  refine sm_obj ?_
  refine sm_X1_bookAt mc8 ms8 this _ _ rfl _ _ hEx _ _ ?_
  intro v8
  refine sm_getI rfl (fun v14 => ?_)
  refine sm_ex (fun n19 => ?_)
  refine smFX1_alike_19 this v2 v8 ?_ n19 _ _ rfl
  · refine sm_getA rfl (fun v169 => ?_)
    refine sm_aldA (by decide) (show (nI 0).toInt = 0 by decide) (fun v173 => ?_)
    refine sm_aldI (by decide) (show (nI 0).toInt = 0 by decide) (fun v175 => ?_)
    exact hQj _ _ rfl
theorem sm_X0_alike : ∀ (x0 : Nat), ∀ (x1 : Nat), ∀ (x2 : Nat), ∀ (x3 : Int32) (X3 : Int), x3.toInt = X3 → ∀ (x4 : Int32) (X4 : Int), x4.toInt = X4 → ∀ (x5 : Nat), ∀ (x6 : Int32 → JP) (X6 : Int → MP), (∀ (x0 : Int32) (X0 : Int), x0.toInt = X0 → SM (x6 x0) (X6 X0)) → SM (JX0_alike x0 x1 x2 x3 x4 x5 x6) (MX0_alike x0 x1 x2 X3 X4 x5 X6) := by
  intro bc bs p0 p1 p1' hp1 p2 p2' hp2 p3 Qj Qj' hQj
  subst hp1
  subst hp2
  unfold JX0_alike MX0_alike
  refine sm_bud (fun mc5 ms5 => ?_)
  refine sm_obj ?_
  refine sm_X1_alike mc5 ms5 p0 _ _ rfl _ _ rfl _ _ (fun xx5 xq5 => ?_) _ _ ?_
  · refine sm_if Iff.rfl ?_ ?_
    · exact hQj _ _ (show (nI 1).toInt = 1 by decide)
    · exact SM.bot
  intro v5 v5' hv5
  subst hv5
  refine sm_astL (show (nI 0).toInt = 0 by decide) (tc_i2l rfl) ?_
  exact hQj _ _ (show (nI 0).toInt = 0 by decide)
theorem smFX11_alike_84 (this : Nat) (p1 : Int32) (p2 : Int32) (x4_42 : Int32) (x5_55 : Int32) {k133 : Int32 → JP} {k133' : Int → MP} (hk133 : ∀ (x0 : Int32) (X0 : Int), x0.toInt = X0 → SM (k133 x0) (k133' X0)) : ∀ n : Nat, ∀ (x0 : Int32) (X0 : Int), x0.toInt = X0 → ∀ (x1 : Int32) (X1 : Int), x1.toInt = X1 → SM (jit (FX11_alike_84 this p1 p2 x4_42 x5_55 k133) (fun _ _ => jbot) n x0 x1) (jit (GX11_alike_84 this p1.toInt p2.toInt x4_42.toInt x5_55.toInt k133') (fun _ _ => mbot) n X0 X1) := by
  intro n
  induction n with
  | zero =>
    intro x7_84 x7_84' hx7_84 x8_84 x8_84' hx8_84
    exact SM.bot
  | succ n ih =>
    intro x7_84 x7_84' hx7_84 x8_84 x8_84' hx8_84
    subst hx7_84
    subst hx8_84
    show SM (FX11_alike_84 this p1 p2 x4_42 x5_55 k133 (jit (FX11_alike_84 this p1 p2 x4_42 x5_55 k133) (fun _ _ => jbot) n) x7_84 x8_84) (GX11_alike_84 this p1.toInt p2.toInt x4_42.toInt x5_55.toInt k133' (jit (GX11_alike_84 this p1.toInt p2.toInt x4_42.toInt x5_55.toInt k133') (fun _ _ => mbot) n) x7_84.toInt x8_84.toInt)
    generalize jit (FX11_alike_84 this p1 p2 x4_42 x5_55 k133) (fun _ _ => jbot) n = rec84 at ih ⊢
    generalize jit (GX11_alike_84 this p1.toInt p2.toInt x4_42.toInt x5_55.toInt k133') (fun _ _ => mbot) n = rec84' at ih ⊢
    have hrec84 := ih
    unfold FX11_alike_84 GX11_alike_84
    refine sm_if (cI_le (show (nI 4).toInt = 4 by decide) rfl) ?_ ?_
    · exact hk133 _ _ rfl
    · refine sm_join (fun (k125 : Int32 → JP) (k125' : Int → MP) => ∀ (x0 : Int32) (X0 : Int), x0.toInt = X0 → SM (k125 x0) (k125' X0)) ?_ (fun k125 k125' hk125 => ?_)
      · intro s0_125 s0_125' hs0_125
        subst hs0_125
        exact hrec84 _ _ rfl _ _ (tc_add rfl (show (nI 1).toInt = 1 by decide))
      refine sm_join (fun (k124 : JP) (k124' : MP) => SM k124 k124') ?_ (fun k124 k124' hk124 => ?_)
      · exact hk125 _ _ (show (nI 0).toInt = 0 by decide)
      refine sm_if (cI_eq rfl (show (nI 0).toInt = 0 by decide)) ?_ ?_
      · exact hk124
      · refine sm_obj ?_
        refine sm_X11_ofNote this _ _ rfl _ _ (tc_sub rfl (show (nI 1).toInt = 1 by decide)) _ _ rfl _ _ ?_
        intro v103 v103' hv103
        subst hv103
        refine sm_obj ?_
        refine sm_X11_ofNote this _ _ rfl _ _ (tc_sub rfl (show (nI 1).toInt = 1 by decide)) _ _ rfl _ _ ?_
        intro v114 v114' hv114
        subst hv114
        refine sm_if (cI_eq rfl rfl) ?_ ?_
        · exact hk125 _ _ (show (nI 1).toInt = 1 by decide)
        · exact hk124
theorem smFX11_alike_55 (this : Nat) (p1 : Int32) (p2 : Int32) (x4_42 : Int32) {k212 : JP} {k212' : MP} (hk212 : SM k212 k212') : ∀ n : Nat, ∀ (x0 : Int32) (X0 : Int), x0.toInt = X0 → SM (jit (FX11_alike_55 this p1 p2 x4_42 k212) (fun _ => jbot) n x0) (jit (GX11_alike_55 this p1.toInt p2.toInt x4_42.toInt k212') (fun _ => mbot) n X0) := by
  intro n
  induction n with
  | zero =>
    intro x5_55 x5_55' hx5_55
    exact SM.bot
  | succ n ih =>
    intro x5_55 x5_55' hx5_55
    subst hx5_55
    show SM (FX11_alike_55 this p1 p2 x4_42 k212 (jit (FX11_alike_55 this p1 p2 x4_42 k212) (fun _ => jbot) n) x5_55) (GX11_alike_55 this p1.toInt p2.toInt x4_42.toInt k212' (jit (GX11_alike_55 this p1.toInt p2.toInt x4_42.toInt k212') (fun _ => mbot) n) x5_55.toInt)
    generalize jit (FX11_alike_55 this p1 p2 x4_42 k212) (fun _ => jbot) n = rec55 at ih ⊢
    generalize jit (GX11_alike_55 this p1.toInt p2.toInt x4_42.toInt k212') (fun _ => mbot) n = rec55' at ih ⊢
    have hrec55 := ih
    unfold FX11_alike_55 GX11_alike_55
    refine sm_obj ?_
    refine sm_X11_notes this _ _ rfl _ _ ?_
    intro v59 v59' hv59
    subst hv59
    refine sm_if (cI_lt rfl rfl) ?_ ?_
    · exact hk212
    · refine sm_join (fun (k192 : Int32 → JP) (k192' : Int → MP) => ∀ (x0 : Int32) (X0 : Int), x0.toInt = X0 → SM (k192 x0) (k192' X0)) ?_ (fun k192 k192' hk192 => ?_)
      · intro x6_192 x6_192' hx6_192
        subst hx6_192
        refine sm_getA rfl (fun v193 => ?_)
        refine sm_astI (tc_add (tc_mul (show (nI 25).toInt = 25 by decide) rfl) rfl) rfl ?_
        exact hrec55 _ _ (tc_add rfl (show (nI 1).toInt = 1 by decide))
      refine sm_if (cI_le rfl (show (nI 0).toInt = 0 by decide)) ?_ ?_
      · exact hk192 _ _ (show (nI 0).toInt = 0 by decide)
      · refine sm_if (cI_le rfl (show (nI 0).toInt = 0 by decide)) ?_ ?_
        · exact hk192 _ _ (show (nI 0).toInt = 0 by decide)
        · refine sm_ex (fun n84 => ?_)
          refine smFX11_alike_84 this p1 p2 x4_42 x5_55 ?_ n84 _ _ (show (nI 1).toInt = 1 by decide) _ _ (show (nI 0).toInt = 0 by decide)
          · intro y7_133 y7_133' hy7_133
            subst hy7_133
            refine sm_join (fun (k190 : Int32 → JP) (k190' : Int → MP) => ∀ (x0 : Int32) (X0 : Int), x0.toInt = X0 → SM (k190 x0) (k190' X0)) ?_ (fun k190 k190' hk190 => ?_)
            · intro s0_190 s0_190' hs0_190
              subst hs0_190
              exact hk192 _ _ rfl
            refine sm_if (cI_eq rfl (show (nI 0).toInt = 0 by decide)) ?_ ?_
            · refine sm_getA rfl (fun v160 => ?_)
              refine sm_aldI (by decide) (tc_add (tc_mul (show (nI 25).toInt = 25 by decide) (tc_sub rfl (show (nI 1).toInt = 1 by decide))) rfl) (fun v172 => ?_)
              refine sm_getA rfl (fun v174 => ?_)
              refine sm_aldI (by decide) (tc_sub (tc_add (tc_mul (show (nI 25).toInt = 25 by decide) rfl) rfl) (show (nI 1).toInt = 1 by decide)) (fun v186 => ?_)
              exact hk190 _ _ (tc_max rfl rfl)
            · refine sm_getA rfl (fun v140 => ?_)
              refine sm_aldI (by decide) (tc_sub (tc_add (tc_mul (show (nI 25).toInt = 25 by decide) (tc_sub rfl (show (nI 1).toInt = 1 by decide))) rfl) (show (nI 1).toInt = 1 by decide)) (fun v154 => ?_)
              exact hk190 _ _ (tc_add (show (nI 1).toInt = 1 by decide) rfl)
theorem smFX11_alike_42 (this : Nat) (p1 : Int32) (p2 : Int32) {k218 : JP} {k218' : MP} (hk218 : SM k218 k218') : ∀ n : Nat, ∀ (x0 : Int32) (X0 : Int), x0.toInt = X0 → SM (jit (FX11_alike_42 this p1 p2 k218) (fun _ => jbot) n x0) (jit (GX11_alike_42 this p1.toInt p2.toInt k218') (fun _ => mbot) n X0) := by
  intro n
  induction n with
  | zero =>
    intro x4_42 x4_42' hx4_42
    exact SM.bot
  | succ n ih =>
    intro x4_42 x4_42' hx4_42
    subst hx4_42
    show SM (FX11_alike_42 this p1 p2 k218 (jit (FX11_alike_42 this p1 p2 k218) (fun _ => jbot) n) x4_42) (GX11_alike_42 this p1.toInt p2.toInt k218' (jit (GX11_alike_42 this p1.toInt p2.toInt k218') (fun _ => mbot) n) x4_42.toInt)
    generalize jit (FX11_alike_42 this p1 p2 k218) (fun _ => jbot) n = rec42 at ih ⊢
    generalize jit (GX11_alike_42 this p1.toInt p2.toInt k218') (fun _ => mbot) n = rec42' at ih ⊢
    have hrec42 := ih
    unfold FX11_alike_42 GX11_alike_42
    refine sm_obj ?_
    refine sm_X11_notes this _ _ rfl _ _ ?_
    intro v46 v46' hv46
    subst hv46
    refine sm_if (cI_lt rfl rfl) ?_ ?_
    · exact hk218
    · refine sm_ex (fun n55 => ?_)
      refine smFX11_alike_55 this p1 p2 x4_42 ?_ n55 _ _ (show (nI 0).toInt = 0 by decide)
      · exact hrec42 _ _ (tc_add rfl (show (nI 1).toInt = 1 by decide))
theorem sm_X11_alike : ∀ (x0 : Nat), ∀ (x1 : Int32) (X1 : Int), x1.toInt = X1 → ∀ (x2 : Int32) (X2 : Int), x2.toInt = X2 → ∀ (x3 : Int32 → JP) (X3 : Int → MP), (∀ (x0 : Int32) (X0 : Int), x0.toInt = X0 → SM (x3 x0) (X3 X0)) → SM (JX11_alike x0 x1 x2 x3) (MX11_alike x0 X1 X2 X3) := by
  intro this p1 p1' hp1 p2 p2' hp2 Qj Qj' hQj
  subst hp1
  subst hp2
  unfold JX11_alike MX11_alike
  refine sm_putI rfl (show (nI 0).toInt = 0 by decide) ?_
  refine sm_obj ?_
  refine sm_X11_noBook this _ _ rfl _ _ ?_
  intro v8 v8' hv8
  subst hv8
  refine sm_join (fun (k27 : Int32 → JP) (k27' : Int → MP) => ∀ (x0 : Int32) (X0 : Int), x0.toInt = X0 → SM (k27 x0) (k27' X0)) ?_ (fun k27 k27' hk27 => ?_)
  · intro s1_27 s1_27' hs1_27
    subst hs1_27
    refine sm_obj ?_
    refine sm_X11_throwsIf this _ _ rfl _ _ (show (nI 1).toInt = 1 by decide) _ _ ?_
    intro v28 v28' hv28
    subst hv28
    refine sm_if (cI_eq rfl (show (nI 0).toInt = 0 by decide)) ?_ ?_
    · refine sm_ex (fun n42 => ?_)
      refine smFX11_alike_42 this p1 p2 ?_ n42 _ _ (show (nI 0).toInt = 0 by decide)
      · refine sm_getA rfl (fun v219 => ?_)
        refine sm_obj ?_
        refine sm_X11_notes this _ _ rfl _ _ ?_
        intro v225 v225' hv225
        subst hv225
        refine sm_obj ?_
        refine sm_X11_notes this _ _ rfl _ _ ?_
        intro v231 v231' hv231
        subst hv231
        refine sm_aldI (by decide) (tc_add (tc_mul (show (nI 25).toInt = 25 by decide) rfl) rfl) (fun v235 => ?_)
        exact hQj _ _ rfl
    · exact hQj _ _ (show (nI 0).toInt = 0 by decide)
  refine sm_join (fun (k22 : JP) (k22' : MP) => SM k22 k22') ?_ (fun k22 k22' hk22 => ?_)
  · exact hk27 _ _ (show (nI 1).toInt = 1 by decide)
  refine sm_if (cI_eq rfl (show (nI 0).toInt = 0 by decide)) ?_ ?_
  · refine sm_obj ?_
    refine sm_X11_noBook this _ _ rfl _ _ ?_
    intro v16 v16' hv16
    subst hv16
    refine sm_if (cI_eq rfl (show (nI 0).toInt = 0 by decide)) ?_ ?_
    · exact hk27 _ _ (show (nI 0).toInt = 0 by decide)
    · exact hk22
  · exact hk22
theorem sm_X1_way : ∀ (x0 : Nat), ∀ (x1 : Nat), ∀ (x2 : Nat), ∀ (x3 : Int32) (X3 : Int), x3.toInt = X3 → ∀ (x4 : Nat → Nat → JP) (X4 : Nat → Nat → MP), (∀ z q, SM (x4 z q) (X4 z q)) → ∀ (x5 : Int32 → JP) (X5 : Int → MP), (∀ (x0 : Int32) (X0 : Int), x0.toInt = X0 → SM (x5 x0) (X5 X0)) → SM (JX1_way x0 x1 x2 x3 x4 x5) (MX1_way x0 x1 x2 X3 X4 X5) := by
  intro bc bs this p1 p1' hp1 Ex Ex' hEx Qj Qj' hQj
  subst hp1
  unfold JX1_way MX1_way
  refine sm_bud (fun mc2 ms2 => ?_)
  refine sm_obj ?_
  refine sm_X1_bookAt mc2 ms2 this _ _ rfl _ _ hEx _ _ ?_
  intro v2
  refine sm_getI rfl (fun v7 => ?_)
  refine sm_putI rfl (show (nI 0).toInt = 0 by decide) ?_
  refine sm_getA rfl (fun v17 => ?_)
  refine sm_obj ?_
  refine sm_X10_least v17 _ _ (tc_shl (show (nI 1).toInt = 1 by decide) rfl) _ _ ?_
  intro v23 v23' hv23
  subst hv23
  refine sm_putI rfl (show (nI 1).toInt = 1 by decide) ?_
  refine sm_getA rfl (fun v34 => ?_)
  refine sm_obj ?_
  refine sm_X10_least v34 _ _ (tc_shl (show (nI 1).toInt = 1 by decide) rfl) _ _ ?_
  intro v40 v40' hv40
  subst hv40
  refine sm_putI rfl rfl ?_
  refine sm_if (cI_eq rfl (show ((-2) : Int32).toInt = (-2) by decide)) ?_ ?_
  · exact hQj _ _ (show ((-2) : Int32).toInt = (-2) by decide)
  · refine sm_if (cI_eq rfl (show ((-2) : Int32).toInt = (-2) by decide)) ?_ ?_
    · exact hQj _ _ (show ((-2) : Int32).toInt = (-2) by decide)
    · refine sm_join (fun (k81 : Int32 → JP) (k81' : Int → MP) => ∀ (x0 : Int32) (X0 : Int), x0.toInt = X0 → SM (k81 x0) (k81' X0)) ?_ (fun k81 k81' hk81 => ?_)
      · intro s0_81 s0_81' hs0_81
        subst hs0_81
        refine sm_join (fun (k97 : Int32 → JP) (k97' : Int → MP) => ∀ (x0 : Int32) (X0 : Int), x0.toInt = X0 → SM (k97 x0) (k97' X0)) ?_ (fun k97 k97' hk97 => ?_)
        · intro s0_97 s0_97' hs0_97
          subst hs0_97
          refine sm_if (cI_eq rfl rfl) ?_ ?_
          · exact hQj _ _ (show ((-3) : Int32).toInt = (-3) by decide)
          · refine sm_if (cI_le rfl rfl) ?_ ?_
            · exact hQj _ _ (show (nI 1).toInt = 1 by decide)
            · exact hQj _ _ (show (nI 0).toInt = 0 by decide)
        refine sm_if (cI_eq rfl (show ((-1) : Int32).toInt = (-1) by decide)) ?_ ?_
        · exact hk97 _ _ (show (nI 1000000).toInt = 1000000 by decide)
        · exact hk97 _ _ rfl
      refine sm_if (cI_eq rfl (show ((-1) : Int32).toInt = (-1) by decide)) ?_ ?_
      · exact hk81 _ _ (show (nI 1000000).toInt = 1000000 by decide)
      · exact hk81 _ _ rfl
theorem sm_X0_way : ∀ (x0 : Nat), ∀ (x1 : Nat), ∀ (x2 : Nat), ∀ (x3 : Int32) (X3 : Int), x3.toInt = X3 → ∀ (x4 : Nat), ∀ (x5 : Int32 → JP) (X5 : Int → MP), (∀ (x0 : Int32) (X0 : Int), x0.toInt = X0 → SM (x5 x0) (X5 X0)) → SM (JX0_way x0 x1 x2 x3 x4 x5) (MX0_way x0 x1 x2 X3 x4 X5) := by
  intro bc bs p0 p1 p1' hp1 p2 Qj Qj' hQj
  subst hp1
  unfold JX0_way MX0_way
  refine sm_bud (fun mc4 ms4 => ?_)
  refine sm_obj ?_
  refine sm_X1_way mc4 ms4 p0 _ _ rfl _ _ (fun xx4 xq4 => ?_) _ _ ?_
  · refine sm_if Iff.rfl ?_ ?_
    · exact hQj _ _ (show (nI 1).toInt = 1 by decide)
    · exact SM.bot
  intro v4 v4' hv4
  subst hv4
  refine sm_astL (show (nI 0).toInt = 0 by decide) (tc_i2l rfl) ?_
  exact hQj _ _ (show (nI 0).toInt = 0 by decide)
theorem sm_X11_way : ∀ (x0 : Nat), ∀ (x1 : Int32) (X1 : Int), x1.toInt = X1 → ∀ (x2 : Int32 → JP) (X2 : Int → MP), (∀ (x0 : Int32) (X0 : Int), x0.toInt = X0 → SM (x2 x0) (X2 X0)) → SM (JX11_way x0 x1 x2) (MX11_way x0 X1 X2) := by
  intro this p1 p1' hp1 Qj Qj' hQj
  subst hp1
  unfold JX11_way MX11_way
  refine sm_putI rfl (show (nI 0).toInt = 0 by decide) ?_
  refine sm_obj ?_
  refine sm_X11_noBook this _ _ rfl _ _ ?_
  intro v8 v8' hv8
  subst hv8
  refine sm_obj ?_
  refine sm_X11_throwsIf this _ _ rfl _ _ (show (nI 1).toInt = 1 by decide) _ _ ?_
  intro v12 v12' hv12
  subst hv12
  refine sm_if (cI_eq rfl (show (nI 0).toInt = 0 by decide)) ?_ ?_
  · refine sm_obj ?_
    refine sm_X11_asksAll this _ _ ?_
    refine sm_putI rfl (tc_shl (show (nI 1).toInt = 1 by decide) rfl) ?_
    refine sm_getA rfl (fun v32 => ?_)
    refine sm_astI rfl (show (nI 0).toInt = 0 by decide) ?_
    refine sm_obj ?_
    refine sm_X11_asks this _ _ ?_
    intro v39 v39' hv39
    subst hv39
    refine sm_getA rfl (fun v44 => ?_)
    refine sm_astI rfl (show (nI 1).toInt = 1 by decide) ?_
    refine sm_obj ?_
    refine sm_X11_asks this _ _ ?_
    intro v51 v51' hv51
    subst hv51
    refine sm_if (cI_eq rfl (show ((-2) : Int32).toInt = (-2) by decide)) ?_ ?_
    · exact hQj _ _ (show ((-2) : Int32).toInt = (-2) by decide)
    · refine sm_if (cI_eq rfl (show ((-2) : Int32).toInt = (-2) by decide)) ?_ ?_
      · exact hQj _ _ (show ((-2) : Int32).toInt = (-2) by decide)
      · refine sm_join (fun (k81 : Int32 → JP) (k81' : Int → MP) => ∀ (x0 : Int32) (X0 : Int), x0.toInt = X0 → SM (k81 x0) (k81' X0)) ?_ (fun k81 k81' hk81 => ?_)
        · intro s0_81 s0_81' hs0_81
          subst hs0_81
          refine sm_join (fun (k94 : Int32 → JP) (k94' : Int → MP) => ∀ (x0 : Int32) (X0 : Int), x0.toInt = X0 → SM (k94 x0) (k94' X0)) ?_ (fun k94 k94' hk94 => ?_)
          · intro s0_94 s0_94' hs0_94
            subst hs0_94
            refine sm_if (cI_le rfl rfl) ?_ ?_
            · refine sm_if (cI_le rfl rfl) ?_ ?_
              · exact hQj _ _ (show ((-3) : Int32).toInt = (-3) by decide)
              · exact hQj _ _ (show (nI 1).toInt = 1 by decide)
            · exact hQj _ _ (show (nI 0).toInt = 0 by decide)
          refine sm_if (cI_le (show (nI 0).toInt = 0 by decide) rfl) ?_ ?_
          · exact hk94 _ _ rfl
          · exact hk94 _ _ (show (nI 1000).toInt = 1000 by decide)
        refine sm_if (cI_le (show (nI 0).toInt = 0 by decide) rfl) ?_ ?_
        · exact hk81 _ _ rfl
        · exact hk81 _ _ (show (nI 1000).toInt = 1000 by decide)
  · exact hQj _ _ (show (nI 0).toInt = 0 by decide)
theorem sm_X1_cheaper : ∀ (x0 : Nat), ∀ (x1 : Nat), ∀ (x2 : Nat), ∀ (x3 : Int32) (X3 : Int), x3.toInt = X3 → ∀ (x4 : Nat → Nat → JP) (X4 : Nat → Nat → MP), (∀ z q, SM (x4 z q) (X4 z q)) → ∀ (x5 : Int32 → JP) (X5 : Int → MP), (∀ (x0 : Int32) (X0 : Int), x0.toInt = X0 → SM (x5 x0) (X5 X0)) → SM (JX1_cheaper x0 x1 x2 x3 x4 x5) (MX1_cheaper x0 x1 x2 X3 X4 X5) := by
  intro bc bs this p1 p1' hp1 Ex Ex' hEx Qj Qj' hQj
  subst hp1
  unfold JX1_cheaper MX1_cheaper
  refine sm_bud (fun mc1 ms1 => ?_)
  refine sm_X1_isSlip mc1 ms1 _ _ rfl _ _ hEx _ _ ?_
  refine sm_obj ?_
  refine sm_X1_reads this _ _ ?_
  intro v5 v5' hv5
  subst hv5
  refine sm_if (cI_le (show (nI 0).toInt = 0 by decide) rfl) ?_ ?_
  · refine sm_getA rfl (fun v17 => ?_)
    refine sm_getA rfl (fun v20 => ?_)
    refine sm_aldI (by decide) rfl (fun v24 => ?_)
    refine sm_if (cI_le (show (nI 2).toInt = 2 by decide) rfl) ?_ ?_
    · refine sm_getA rfl (fun v34 => ?_)
      refine sm_getA rfl (fun v37 => ?_)
      refine sm_astI rfl (show (nI 1).toInt = 1 by decide) ?_
      refine sm_getA rfl (fun v44 => ?_)
      refine sm_obj ?_
      refine sm_X1_allBooks this _ _ ?_
      intro v48 v48' hv48
      subst hv48
      refine sm_obj ?_
      refine sm_X10_least v44 _ _ rfl _ _ ?_
      intro v51 v51' hv51
      subst hv51
      refine sm_getA rfl (fun v56 => ?_)
      refine sm_getA rfl (fun v59 => ?_)
      refine sm_astI rfl rfl ?_
      refine sm_if (cI_le (show (nI 0).toInt = 0 by decide) rfl) ?_ ?_
      · refine sm_getI rfl (fun v74 => ?_)
        exact hQj _ _ (tc_sub rfl rfl)
      · exact hQj _ _ rfl
    · exact hQj _ _ (show (nI 0).toInt = 0 by decide)
  · refine sm_getI rfl (fun v12 => ?_)
    exact hQj _ _ rfl
theorem sm_X0_cheaper : ∀ (x0 : Nat), ∀ (x1 : Nat), ∀ (x2 : Nat), ∀ (x3 : Int32) (X3 : Int), x3.toInt = X3 → ∀ (x4 : Nat), ∀ (x5 : Int32 → JP) (X5 : Int → MP), (∀ (x0 : Int32) (X0 : Int), x0.toInt = X0 → SM (x5 x0) (X5 X0)) → SM (JX0_cheaper x0 x1 x2 x3 x4 x5) (MX0_cheaper x0 x1 x2 X3 x4 X5) := by
  intro bc bs p0 p1 p1' hp1 p2 Qj Qj' hQj
  subst hp1
  unfold JX0_cheaper MX0_cheaper
  refine sm_bud (fun mc4 ms4 => ?_)
  refine sm_obj ?_
  refine sm_X1_cheaper mc4 ms4 p0 _ _ rfl _ _ (fun xx4 xq4 => ?_) _ _ ?_
  · refine sm_if Iff.rfl ?_ ?_
    · exact hQj _ _ (show (nI 1).toInt = 1 by decide)
    · exact SM.bot
  intro v4 v4' hv4
  subst hv4
  refine sm_astL (show (nI 0).toInt = 0 by decide) (tc_i2l rfl) ?_
  exact hQj _ _ (show (nI 0).toInt = 0 by decide)
theorem sm_X11_cheaper : ∀ (x0 : Nat), ∀ (x1 : Int32) (X1 : Int), x1.toInt = X1 → ∀ (x2 : Int32 → JP) (X2 : Int → MP), (∀ (x0 : Int32) (X0 : Int), x0.toInt = X0 → SM (x2 x0) (X2 X0)) → SM (JX11_cheaper x0 x1 x2) (MX11_cheaper x0 X1 X2) := by
  intro this p1 p1' hp1 Qj Qj' hQj
  subst hp1
  unfold JX11_cheaper MX11_cheaper
  refine sm_putI rfl (show (nI 0).toInt = 0 by decide) ?_
  refine sm_X11_in _ _ rfl _ _ (show (nI 1).toInt = 1 by decide) _ _ (show (nI 7).toInt = 7 by decide) _ _ ?_
  intro v10 v10' hv10
  subst hv10
  refine sm_join (fun (k21 : Int32 → JP) (k21' : Int → MP) => ∀ (x0 : Int32) (X0 : Int), x0.toInt = X0 → SM (k21 x0) (k21' X0)) ?_ (fun k21 k21' hk21 => ?_)
  · intro s1_21 s1_21' hs1_21
    subst hs1_21
    refine sm_obj ?_
    refine sm_X11_throwsIf this _ _ rfl _ _ (show (nI 1).toInt = 1 by decide) _ _ ?_
    intro v22 v22' hv22
    subst hv22
    refine sm_if (cI_eq rfl (show (nI 0).toInt = 0 by decide)) ?_ ?_
    · refine sm_obj ?_
      refine sm_X11_asksWhole this _ _ ?_
      intro v31 v31' hv31
      subst hv31
      refine sm_join (fun (k51 : JP) (k51' : MP) => SM k51 k51') ?_ (fun k51 k51' hk51 => ?_)
      · exact hQj _ _ (tc_min (show (nI 0).toInt = 0 by decide) rfl)
      refine sm_if (cI_lt rfl (show (nI 0).toInt = 0 by decide)) ?_ ?_
      · exact hk51
      · refine sm_getA rfl (fun v40 => ?_)
        refine sm_aldI (by decide) (tc_add (show (nI 5).toInt = 5 by decide) rfl) (fun v46 => ?_)
        refine sm_if (cI_le (show (nI 2).toInt = 2 by decide) rfl) ?_ ?_
        · refine sm_getA rfl (fun v58 => ?_)
          refine sm_astI rfl (show (nI 1).toInt = 1 by decide) ?_
          refine sm_obj ?_
          refine sm_X11_asks this _ _ ?_
          intro v65 v65' hv65
          subst hv65
          refine sm_if (cI_le (show (nI 0).toInt = 0 by decide) rfl) ?_ ?_
          · exact hQj _ _ (tc_sub rfl rfl)
          · exact hQj _ _ rfl
        · exact hk51
    · exact hQj _ _ (show (nI 0).toInt = 0 by decide)
  refine sm_if (cI_eq rfl (show (nI 0).toInt = 0 by decide)) ?_ ?_
  · exact hk21 _ _ (show (nI 1).toInt = 1 by decide)
  · exact hk21 _ _ (show (nI 0).toInt = 0 by decide)
theorem sm_X9_be : ∀ (x0 : Nat), ∀ (x1 : Nat), ∀ (x2 : JP) (X2 : MP), SM x2 X2 → SM (JX9_be x0 x1 x2) (MX9_be x0 x1 X2) := by
  intro this p1 Qj Qj' hQj
  unfold JX9_be MX9_be
  refine sm_getA rfl (fun v1 => ?_)
  refine sm_getA rfl (fun v6 => ?_)
  refine sm_cpyA (show (nI 0).toInt = 0 by decide) (show (nI 0).toInt = 0 by decide) (show (nI 24).toInt = 24 by decide) ?_
  refine sm_getI rfl (fun v17 => ?_)
  refine sm_putI rfl rfl ?_
  refine sm_getI rfl (fun v25 => ?_)
  refine sm_putI rfl rfl ?_
  exact hQj
theorem smFX7_be_27 (this : Nat) (p1 : Nat) {k53 : JP} {k53' : MP} (hk53 : SM k53 k53') : ∀ n : Nat, ∀ (x0 : Int32) (X0 : Int), x0.toInt = X0 → SM (jit (FX7_be_27 this p1 k53) (fun _ => jbot) n x0) (jit (GX7_be_27 this p1 k53') (fun _ => mbot) n X0) := by
  intro n
  induction n with
  | zero =>
    intro x2_27 x2_27' hx2_27
    exact SM.bot
  | succ n ih =>
    intro x2_27 x2_27' hx2_27
    subst hx2_27
    show SM (FX7_be_27 this p1 k53 (jit (FX7_be_27 this p1 k53) (fun _ => jbot) n) x2_27) (GX7_be_27 this p1 k53' (jit (GX7_be_27 this p1 k53') (fun _ => mbot) n) x2_27.toInt)
    generalize jit (FX7_be_27 this p1 k53) (fun _ => jbot) n = rec27 at ih ⊢
    generalize jit (GX7_be_27 this p1 k53') (fun _ => mbot) n = rec27' at ih ⊢
    have hrec27 := ih
    unfold FX7_be_27 GX7_be_27
    refine sm_if (cI_le (show (nI 3).toInt = 3 by decide) rfl) ?_ ?_
    · exact hk53
    · refine sm_getA rfl (fun v33 => ?_)
      refine sm_aldA (by decide) rfl (fun v37 => ?_)
      refine sm_getA rfl (fun v39 => ?_)
      refine sm_aldA (by decide) rfl (fun v43 => ?_)
      refine sm_obj ?_
      refine sm_X9_be v37 v43 _ _ ?_
      exact hrec27 _ _ (tc_add rfl (show (nI 1).toInt = 1 by decide))
theorem sm_X7_be : ∀ (x0 : Nat), ∀ (x1 : Nat), ∀ (x2 : JP) (X2 : MP), SM x2 X2 → SM (JX7_be x0 x1 x2) (MX7_be x0 x1 X2) := by
  intro this p1 Qj Qj' hQj
  unfold JX7_be MX7_be
  refine sm_getA rfl (fun v1 => ?_)
  refine sm_getA rfl (fun v6 => ?_)
  refine sm_cpyA (show (nI 0).toInt = 0 by decide) (show (nI 0).toInt = 0 by decide) (show (nI 5).toInt = 5 by decide) ?_
  refine sm_getA rfl (fun v15 => ?_)
  refine sm_getA rfl (fun v19 => ?_)
  refine sm_obj ?_
  refine sm_X8_be v15 v19 _ _ ?_
  refine sm_ex (fun n27 => ?_)
  refine smFX7_be_27 this p1 ?_ n27 _ _ (show (nI 0).toInt = 0 by decide)
  · refine sm_getA rfl (fun v54 => ?_)
    refine sm_getA rfl (fun v59 => ?_)
    refine sm_cpyA (show (nI 0).toInt = 0 by decide) (show (nI 0).toInt = 0 by decide) (show (nI 10).toInt = 10 by decide) ?_
    refine sm_getA rfl (fun v69 => ?_)
    refine sm_getA rfl (fun v74 => ?_)
    refine sm_cpyI (show (nI 0).toInt = 0 by decide) (show (nI 0).toInt = 0 by decide) (show (nI 8).toInt = 8 by decide) ?_
    refine sm_getO rfl (fun v85 => ?_)
    refine sm_putR rfl rfl ?_
    refine sm_getI rfl (fun v93 => ?_)
    refine sm_putI rfl rfl ?_
    refine sm_getI rfl (fun v101 => ?_)
    refine sm_putI rfl rfl ?_
    refine sm_getI rfl (fun v109 => ?_)
    refine sm_putI rfl rfl ?_
    refine sm_getI rfl (fun v117 => ?_)
    refine sm_putI rfl rfl ?_
    exact hQj
theorem sm_X1_image : ∀ (x0 : Nat), ∀ (x1 : JP) (X1 : MP), SM x1 X1 → SM (JX1_image x0 x1) (MX1_image x0 X1) := by
  intro this Qj Qj' hQj
  unfold JX1_image MX1_image
  refine sm_getA rfl (fun v1 => ?_)
  refine sm_getA rfl (fun v5 => ?_)
  refine sm_obj ?_
  refine sm_X7_be v1 v5 _ _ ?_
  refine sm_putZ rfl (show (nI 1).toInt = 1 by decide) ?_
  exact hQj
theorem smFX11_image_7 (this : Nat) {k32 : JP} {k32' : MP} (hk32 : SM k32 k32') : ∀ n : Nat, ∀ (x0 : Int32) (X0 : Int), x0.toInt = X0 → SM (jit (FX11_image_7 this k32) (fun _ => jbot) n x0) (jit (GX11_image_7 this k32') (fun _ => mbot) n X0) := by
  intro n
  induction n with
  | zero =>
    intro x1_7 x1_7' hx1_7
    exact SM.bot
  | succ n ih =>
    intro x1_7 x1_7' hx1_7
    subst hx1_7
    show SM (FX11_image_7 this k32 (jit (FX11_image_7 this k32) (fun _ => jbot) n) x1_7) (GX11_image_7 this k32' (jit (GX11_image_7 this k32') (fun _ => mbot) n) x1_7.toInt)
    generalize jit (FX11_image_7 this k32) (fun _ => jbot) n = rec7 at ih ⊢
    generalize jit (GX11_image_7 this k32') (fun _ => mbot) n = rec7' at ih ⊢
    have hrec7 := ih
    unfold FX11_image_7 GX11_image_7
    refine sm_if (cI_le (show (nI 1284).toInt = 1284 by decide) rfl) ?_ ?_
    · exact hk32
    · refine sm_getA rfl (fun v15 => ?_)
      refine sm_getA rfl (fun v20 => ?_)
      refine sm_aldI (by decide) rfl (fun v24 => ?_)
      refine sm_astI rfl rfl ?_
      exact hrec7 _ _ (tc_add rfl (show (nI 1).toInt = 1 by decide))
theorem sm_X11_image : ∀ (x0 : Nat), ∀ (x1 : JP) (X1 : MP), SM x1 X1 → SM (JX11_image x0 x1) (MX11_image x0 X1) := by
  intro this Qj Qj' hQj
  unfold JX11_image MX11_image
  refine sm_putI rfl (show (nI 0).toInt = 0 by decide) ?_
  refine sm_ex (fun n7 => ?_)
  refine smFX11_image_7 this ?_ n7 _ _ (show (nI 0).toInt = 0 by decide)
  · refine sm_putZ rfl (show (nI 1).toInt = 1 by decide) ?_
    exact hQj
theorem sm_X1_back : ∀ (x0 : Nat), ∀ (x1 : Int32 → JP) (X1 : Int → MP), (∀ (x0 : Int32) (X0 : Int), x0.toInt = X0 → SM (x1 x0) (X1 X0)) → SM (JX1_back x0 x1) (MX1_back x0 X1) := by
  intro this Qj Qj' hQj
  unfold JX1_back MX1_back
  refine sm_getI rfl (fun v1 => ?_)
  refine sm_if (cI_eq rfl (show (nI 0).toInt = 0 by decide)) ?_ ?_
  · exact hQj _ _ (show (nI 0).toInt = 0 by decide)
  · refine sm_getA rfl (fun v10 => ?_)
    refine sm_getA rfl (fun v14 => ?_)
    refine sm_obj ?_
    refine sm_X7_be v10 v14 _ _ ?_
    refine sm_putZ rfl (show (nI 0).toInt = 0 by decide) ?_
    exact hQj _ _ (show (nI 1).toInt = 1 by decide)
theorem smFX11_back_16 (this : Nat) {Qj : Int32 → JP} {Qj' : Int → MP} (hQj : ∀ (x0 : Int32) (X0 : Int), x0.toInt = X0 → SM (Qj x0) (Qj' X0)) : ∀ n : Nat, ∀ (x0 : Int32) (X0 : Int), x0.toInt = X0 → SM (jit (FX11_back_16 this Qj) (fun _ => jbot) n x0) (jit (GX11_back_16 this Qj') (fun _ => mbot) n X0) := by
  intro n
  induction n with
  | zero =>
    intro x1_16 x1_16' hx1_16
    exact SM.bot
  | succ n ih =>
    intro x1_16 x1_16' hx1_16
    subst hx1_16
    show SM (FX11_back_16 this Qj (jit (FX11_back_16 this Qj) (fun _ => jbot) n) x1_16) (GX11_back_16 this Qj' (jit (GX11_back_16 this Qj') (fun _ => mbot) n) x1_16.toInt)
    generalize jit (FX11_back_16 this Qj) (fun _ => jbot) n = rec16 at ih ⊢
    generalize jit (GX11_back_16 this Qj') (fun _ => mbot) n = rec16' at ih ⊢
    have hrec16 := ih
    unfold FX11_back_16 GX11_back_16
    refine sm_if (cI_le (show (nI 1284).toInt = 1284 by decide) rfl) ?_ ?_
    · exact hQj _ _ (show (nI 1).toInt = 1 by decide)
    · refine sm_getA rfl (fun v24 => ?_)
      refine sm_getA rfl (fun v29 => ?_)
      refine sm_aldI (by decide) rfl (fun v33 => ?_)
      refine sm_astI rfl rfl ?_
      exact hrec16 _ _ (tc_add rfl (show (nI 1).toInt = 1 by decide))
theorem sm_X11_back : ∀ (x0 : Nat), ∀ (x1 : Int32 → JP) (X1 : Int → MP), (∀ (x0 : Int32) (X0 : Int), x0.toInt = X0 → SM (x1 x0) (X1 X0)) → SM (JX11_back x0 x1) (MX11_back x0 X1) := by
  intro this Qj Qj' hQj
  unfold JX11_back MX11_back
  refine sm_putI rfl (show (nI 0).toInt = 0 by decide) ?_
  refine sm_getI rfl (fun v6 => ?_)
  refine sm_if (cI_eq rfl (show (nI 0).toInt = 0 by decide)) ?_ ?_
  · exact hQj _ _ (show (nI 0).toInt = 0 by decide)
  · refine sm_ex (fun n16 => ?_)
    refine smFX11_back_16 this hQj n16 _ _ (show (nI 0).toInt = 0 by decide)
theorem smFX1_count_90 (this : Nat) {Qj : Int32 → JP} {Qj' : Int → MP} (hQj : ∀ (x0 : Int32) (X0 : Int), x0.toInt = X0 → SM (Qj x0) (Qj' X0)) : ∀ n : Nat, ∀ (x0 : Int32) (X0 : Int), x0.toInt = X0 → ∀ (x1 : Int32) (X1 : Int), x1.toInt = X1 → SM (jit (FX1_count_90 this Qj) (fun _ _ => jbot) n x0 x1) (jit (GX1_count_90 this Qj') (fun _ _ => mbot) n X0 X1) := by
  intro n
  induction n with
  | zero =>
    intro x2_90 x2_90' hx2_90 x3_90 x3_90' hx3_90
    exact SM.bot
  | succ n ih =>
    intro x2_90 x2_90' hx2_90 x3_90 x3_90' hx3_90
    subst hx2_90
    subst hx3_90
    show SM (FX1_count_90 this Qj (jit (FX1_count_90 this Qj) (fun _ _ => jbot) n) x2_90 x3_90) (GX1_count_90 this Qj' (jit (GX1_count_90 this Qj') (fun _ _ => mbot) n) x2_90.toInt x3_90.toInt)
    generalize jit (FX1_count_90 this Qj) (fun _ _ => jbot) n = rec90 at ih ⊢
    generalize jit (GX1_count_90 this Qj') (fun _ _ => mbot) n = rec90' at ih ⊢
    have hrec90 := ih
    unfold FX1_count_90 GX1_count_90
    refine sm_getA rfl (fun v92 => ?_)
    refine sm_getI rfl (fun v95 => ?_)
    refine sm_if (cI_le rfl rfl) ?_ ?_
    · exact hQj _ _ rfl
    · refine sm_getA rfl (fun v103 => ?_)
      refine sm_getA rfl (fun v106 => ?_)
      refine sm_aldA (by decide) rfl (fun v110 => ?_)
      refine sm_getI rfl (fun v111 => ?_)
      exact hrec90 _ _ (tc_add rfl rfl) _ _ (tc_add rfl (show (nI 1).toInt = 1 by decide))
theorem smFX1_count_164 (this : Nat) {Qj : Int32 → JP} {Qj' : Int → MP} (hQj : ∀ (x0 : Int32) (X0 : Int), x0.toInt = X0 → SM (Qj x0) (Qj' X0)) : ∀ n : Nat, ∀ (x0 : Int32) (X0 : Int), x0.toInt = X0 → ∀ (x1 : Int32) (X1 : Int), x1.toInt = X1 → SM (jit (FX1_count_164 this Qj) (fun _ _ => jbot) n x0 x1) (jit (GX1_count_164 this Qj') (fun _ _ => mbot) n X0 X1) := by
  intro n
  induction n with
  | zero =>
    intro x2_164 x2_164' hx2_164 x3_164 x3_164' hx3_164
    exact SM.bot
  | succ n ih =>
    intro x2_164 x2_164' hx2_164 x3_164 x3_164' hx3_164
    subst hx2_164
    subst hx3_164
    show SM (FX1_count_164 this Qj (jit (FX1_count_164 this Qj) (fun _ _ => jbot) n) x2_164 x3_164) (GX1_count_164 this Qj' (jit (GX1_count_164 this Qj') (fun _ _ => mbot) n) x2_164.toInt x3_164.toInt)
    generalize jit (FX1_count_164 this Qj) (fun _ _ => jbot) n = rec164 at ih ⊢
    generalize jit (GX1_count_164 this Qj') (fun _ _ => mbot) n = rec164' at ih ⊢
    have hrec164 := ih
    unfold FX1_count_164 GX1_count_164
    refine sm_if (cI_le (show (nI 36).toInt = 36 by decide) rfl) ?_ ?_
    · exact hQj _ _ rfl
    · refine sm_getA rfl (fun v172 => ?_)
      refine sm_getA rfl (fun v175 => ?_)
      refine sm_getA rfl (fun v178 => ?_)
      refine sm_aldI (by decide) rfl (fun v182 => ?_)
      refine sm_join (fun (k214 : Int32 → JP) (k214' : Int → MP) => ∀ (x0 : Int32) (X0 : Int), x0.toInt = X0 → SM (k214 x0) (k214' X0)) ?_ (fun k214 k214' hk214 => ?_)
      · intro s1_214 s1_214' hs1_214
        subst hs1_214
        exact hrec164 _ _ (tc_add rfl rfl) _ _ (tc_add rfl (show (nI 1).toInt = 1 by decide))
      refine sm_if (cI_eq rfl (show ((-1) : Int32).toInt = (-1) by decide)) ?_ ?_
      · exact hk214 _ _ (show (nI 0).toInt = 0 by decide)
      · refine sm_getA rfl (fun v192 => ?_)
        refine sm_getA rfl (fun v195 => ?_)
        refine sm_getA rfl (fun v199 => ?_)
        refine sm_getA rfl (fun v202 => ?_)
        refine sm_getA rfl (fun v205 => ?_)
        refine sm_aldI (by decide) rfl (fun v209 => ?_)
        refine sm_aldA (by decide) rfl (fun v210 => ?_)
        refine sm_getI rfl (fun v211 => ?_)
        exact hk214 _ _ rfl
theorem sm_X1_count : ∀ (x0 : Nat), ∀ (x1 : Int32) (X1 : Int), x1.toInt = X1 → ∀ (x2 : Int32 → JP) (X2 : Int → MP), (∀ (x0 : Int32) (X0 : Int), x0.toInt = X0 → SM (x2 x0) (X2 X0)) → SM (JX1_count x0 x1 x2) (MX1_count x0 X1 X2) := by
  intro this p1 p1' hp1 Qj Qj' hQj
  subst hp1
  unfold JX1_count MX1_count
  refine sm_if (cI_eq rfl (show (nI 0).toInt = 0 by decide)) ?_ ?_
  · refine sm_getA rfl (fun v49 => ?_)
    refine sm_getI rfl (fun v52 => ?_)
    exact hQj _ _ rfl
  · refine sm_if (cI_eq rfl (show (nI 1).toInt = 1 by decide)) ?_ ?_
    · refine sm_getA rfl (fun v57 => ?_)
      refine sm_getA rfl (fun v60 => ?_)
      refine sm_obj ?_
      refine sm_X8_men v60 _ _ (show (nI 0).toInt = 0 by decide) _ _ ?_
      intro v64 v64' hv64
      subst hv64
      refine sm_getA rfl (fun v68 => ?_)
      refine sm_getA rfl (fun v71 => ?_)
      refine sm_obj ?_
      refine sm_X8_men v71 _ _ (show (nI 1).toInt = 1 by decide) _ _ ?_
      intro v75 v75' hv75
      subst hv75
      exact hQj _ _ (tc_add rfl rfl)
    · refine sm_if (cI_eq rfl (show (nI 2).toInt = 2 by decide)) ?_ ?_
      · refine sm_getA rfl (fun v81 => ?_)
        refine sm_getI rfl (fun v84 => ?_)
        exact hQj _ _ rfl
      · refine sm_if (cI_eq rfl (show (nI 3).toInt = 3 by decide)) ?_ ?_
        · refine sm_ex (fun n90 => ?_)
          refine smFX1_count_90 this hQj n90 _ _ (show (nI 0).toInt = 0 by decide) _ _ (show (nI 0).toInt = 0 by decide)
        · refine sm_if (cI_eq rfl (show (nI 4).toInt = 4 by decide)) ?_ ?_
          · refine sm_getA rfl (fun v125 => ?_)
            refine sm_getI rfl (fun v128 => ?_)
            exact hQj _ _ rfl
          · refine sm_if (cI_eq rfl (show (nI 5).toInt = 5 by decide)) ?_ ?_
            · refine sm_getA rfl (fun v133 => ?_)
              refine sm_getI rfl (fun v136 => ?_)
              exact hQj _ _ rfl
            · refine sm_if (cI_eq rfl (show (nI 6).toInt = 6 by decide)) ?_ ?_
              · refine sm_obj ?_
                refine sm_X1_reads this _ _ ?_
                intro v141 v141' hv141
                subst hv141
                refine sm_if (cI_eq rfl (show ((-2) : Int32).toInt = (-2) by decide)) ?_ ?_
                · exact hQj _ _ (show ((-2) : Int32).toInt = (-2) by decide)
                · refine sm_getA rfl (fun v155 => ?_)
                  refine sm_getI rfl (fun v158 => ?_)
                  exact hQj _ _ rfl
              · refine sm_if (cI_eq rfl (show (nI 7).toInt = 7 by decide)) ?_ ?_
                · refine sm_ex (fun n164 => ?_)
                  refine smFX1_count_164 this hQj n164 _ _ (show (nI 0).toInt = 0 by decide) _ _ (show (nI 0).toInt = 0 by decide)
                · exact hQj _ _ (show ((-1) : Int32).toInt = (-1) by decide)
theorem smFX11_count_65 (this : Nat) {Qj : Int32 → JP} {Qj' : Int → MP} (hQj : ∀ (x0 : Int32) (X0 : Int), x0.toInt = X0 → SM (Qj x0) (Qj' X0)) : ∀ n : Nat, ∀ (x0 : Int32) (X0 : Int), x0.toInt = X0 → ∀ (x1 : Int32) (X1 : Int), x1.toInt = X1 → SM (jit (FX11_count_65 this Qj) (fun _ _ => jbot) n x0 x1) (jit (GX11_count_65 this Qj') (fun _ _ => mbot) n X0 X1) := by
  intro n
  induction n with
  | zero =>
    intro x2_65 x2_65' hx2_65 x3_65 x3_65' hx3_65
    exact SM.bot
  | succ n ih =>
    intro x2_65 x2_65' hx2_65 x3_65 x3_65' hx3_65
    subst hx2_65
    subst hx3_65
    show SM (FX11_count_65 this Qj (jit (FX11_count_65 this Qj) (fun _ _ => jbot) n) x2_65 x3_65) (GX11_count_65 this Qj' (jit (GX11_count_65 this Qj') (fun _ _ => mbot) n) x2_65.toInt x3_65.toInt)
    generalize jit (FX11_count_65 this Qj) (fun _ _ => jbot) n = rec65 at ih ⊢
    generalize jit (GX11_count_65 this Qj') (fun _ _ => mbot) n = rec65' at ih ⊢
    have hrec65 := ih
    unfold FX11_count_65 GX11_count_65
    refine sm_if (cI_le (show (nI 36).toInt = 36 by decide) rfl) ?_ ?_
    · exact hQj _ _ rfl
    · refine sm_getA rfl (fun v73 => ?_)
      refine sm_aldI (by decide) (tc_add (show (nI 13).toInt = 13 by decide) rfl) (fun v80 => ?_)
      refine sm_join (fun (k89 : Int32 → JP) (k89' : Int → MP) => ∀ (x0 : Int32) (X0 : Int), x0.toInt = X0 → SM (k89 x0) (k89' X0)) ?_ (fun k89 k89' hk89 => ?_)
      · intro s1_89 s1_89' hs1_89
        subst hs1_89
        exact hrec65 _ _ (tc_add rfl rfl) _ _ (tc_add rfl (show (nI 1).toInt = 1 by decide))
      refine sm_if (cI_lt rfl (show (nI 0).toInt = 0 by decide)) ?_ ?_
      · exact hk89 _ _ (show (nI 0).toInt = 0 by decide)
      · exact hk89 _ _ (show (nI 1).toInt = 1 by decide)
theorem smFX11_count_108 (this : Nat) {Qj : Int32 → JP} {Qj' : Int → MP} (hQj : ∀ (x0 : Int32) (X0 : Int), x0.toInt = X0 → SM (Qj x0) (Qj' X0)) : ∀ n : Nat, ∀ (x0 : Int32) (X0 : Int), x0.toInt = X0 → ∀ (x1 : Int32) (X1 : Int), x1.toInt = X1 → SM (jit (FX11_count_108 this Qj) (fun _ _ => jbot) n x0 x1) (jit (GX11_count_108 this Qj') (fun _ _ => mbot) n X0 X1) := by
  intro n
  induction n with
  | zero =>
    intro x2_108 x2_108' hx2_108 x3_108 x3_108' hx3_108
    exact SM.bot
  | succ n ih =>
    intro x2_108 x2_108' hx2_108 x3_108 x3_108' hx3_108
    subst hx2_108
    subst hx3_108
    show SM (FX11_count_108 this Qj (jit (FX11_count_108 this Qj) (fun _ _ => jbot) n) x2_108 x3_108) (GX11_count_108 this Qj' (jit (GX11_count_108 this Qj') (fun _ _ => mbot) n) x2_108.toInt x3_108.toInt)
    generalize jit (FX11_count_108 this Qj) (fun _ _ => jbot) n = rec108 at ih ⊢
    generalize jit (GX11_count_108 this Qj') (fun _ _ => mbot) n = rec108' at ih ⊢
    have hrec108 := ih
    unfold FX11_count_108 GX11_count_108
    refine sm_getA rfl (fun v110 => ?_)
    refine sm_aldI (by decide) (show (nI 1).toInt = 1 by decide) (fun v114 => ?_)
    refine sm_if (cI_le rfl rfl) ?_ ?_
    · exact hQj _ _ rfl
    · refine sm_obj ?_
      refine sm_X11_notes this _ _ rfl _ _ ?_
      intro v121 v121' hv121
      subst hv121
      exact hrec108 _ _ (tc_add rfl rfl) _ _ (tc_add rfl (show (nI 1).toInt = 1 by decide))
theorem smFX11_count_172 (this : Nat) {Qj : Int32 → JP} {Qj' : Int → MP} (hQj : ∀ (x0 : Int32) (X0 : Int), x0.toInt = X0 → SM (Qj x0) (Qj' X0)) : ∀ n : Nat, ∀ (x0 : Int32) (X0 : Int), x0.toInt = X0 → ∀ (x1 : Int32) (X1 : Int), x1.toInt = X1 → SM (jit (FX11_count_172 this Qj) (fun _ _ => jbot) n x0 x1) (jit (GX11_count_172 this Qj') (fun _ _ => mbot) n X0 X1) := by
  intro n
  induction n with
  | zero =>
    intro x2_172 x2_172' hx2_172 x3_172 x3_172' hx3_172
    exact SM.bot
  | succ n ih =>
    intro x2_172 x2_172' hx2_172 x3_172 x3_172' hx3_172
    subst hx2_172
    subst hx3_172
    show SM (FX11_count_172 this Qj (jit (FX11_count_172 this Qj) (fun _ _ => jbot) n) x2_172 x3_172) (GX11_count_172 this Qj' (jit (GX11_count_172 this Qj') (fun _ _ => mbot) n) x2_172.toInt x3_172.toInt)
    generalize jit (FX11_count_172 this Qj) (fun _ _ => jbot) n = rec172 at ih ⊢
    generalize jit (GX11_count_172 this Qj') (fun _ _ => mbot) n = rec172' at ih ⊢
    have hrec172 := ih
    unfold FX11_count_172 GX11_count_172
    refine sm_if (cI_le (show (nI 36).toInt = 36 by decide) rfl) ?_ ?_
    · exact hQj _ _ rfl
    · refine sm_getA rfl (fun v180 => ?_)
      refine sm_aldI (by decide) (tc_add (show (nI 13).toInt = 13 by decide) rfl) (fun v187 => ?_)
      refine sm_join (fun (k210 : Int32 → JP) (k210' : Int → MP) => ∀ (x0 : Int32) (X0 : Int), x0.toInt = X0 → SM (k210 x0) (k210' X0)) ?_ (fun k210 k210' hk210 => ?_)
      · intro s1_210 s1_210' hs1_210
        subst hs1_210
        exact hrec172 _ _ (tc_add rfl rfl) _ _ (tc_add rfl (show (nI 1).toInt = 1 by decide))
      refine sm_if (cI_lt rfl (show (nI 0).toInt = 0 by decide)) ?_ ?_
      · exact hk210 _ _ (show (nI 0).toInt = 0 by decide)
      · refine sm_getA rfl (fun v193 => ?_)
        refine sm_aldI (by decide) (tc_add (show (nI 13).toInt = 13 by decide) rfl) (fun v200 => ?_)
        refine sm_obj ?_
        refine sm_X11_valueOf this _ _ (tc_div rfl (show (nI 2).toInt = 2 by decide)) _ _ ?_
        intro v203 v203' hv203
        subst hv203
        exact hk210 _ _ rfl
theorem sm_X11_count : ∀ (x0 : Nat), ∀ (x1 : Int32) (X1 : Int), x1.toInt = X1 → ∀ (x2 : Int32 → JP) (X2 : Int → MP), (∀ (x0 : Int32) (X0 : Int), x0.toInt = X0 → SM (x2 x0) (X2 X0)) → SM (JX11_count x0 x1 x2) (MX11_count x0 X1 X2) := by
  intro this p1 p1' hp1 Qj Qj' hQj
  subst hp1
  unfold JX11_count MX11_count
  refine sm_putI rfl (show (nI 0).toInt = 0 by decide) ?_
  refine sm_if (cI_eq rfl (show (nI 0).toInt = 0 by decide)) ?_ ?_
  · refine sm_getA rfl (fun v57 => ?_)
    refine sm_aldI (by decide) (show (nI 0).toInt = 0 by decide) (fun v61 => ?_)
    exact hQj _ _ rfl
  · refine sm_if (cI_eq rfl (show (nI 1).toInt = 1 by decide)) ?_ ?_
    · refine sm_ex (fun n65 => ?_)
      refine smFX11_count_65 this hQj n65 _ _ (show (nI 0).toInt = 0 by decide) _ _ (show (nI 0).toInt = 0 by decide)
    · refine sm_if (cI_eq rfl (show (nI 2).toInt = 2 by decide)) ?_ ?_
      · refine sm_getA rfl (fun v100 => ?_)
        refine sm_aldI (by decide) (show (nI 1).toInt = 1 by decide) (fun v104 => ?_)
        exact hQj _ _ rfl
      · refine sm_if (cI_eq rfl (show (nI 3).toInt = 3 by decide)) ?_ ?_
        · refine sm_ex (fun n108 => ?_)
          refine smFX11_count_108 this hQj n108 _ _ (show (nI 0).toInt = 0 by decide) _ _ (show (nI 0).toInt = 0 by decide)
        · refine sm_if (cI_eq rfl (show (nI 4).toInt = 4 by decide)) ?_ ?_
          · refine sm_getA rfl (fun v135 => ?_)
            refine sm_aldI (by decide) (show (nI 2).toInt = 2 by decide) (fun v139 => ?_)
            exact hQj _ _ rfl
          · refine sm_if (cI_eq rfl (show (nI 5).toInt = 5 by decide)) ?_ ?_
            · refine sm_getA rfl (fun v142 => ?_)
              refine sm_aldI (by decide) (show (nI 3).toInt = 3 by decide) (fun v146 => ?_)
              exact hQj _ _ rfl
            · refine sm_if (cI_eq rfl (show (nI 6).toInt = 6 by decide)) ?_ ?_
              · refine sm_obj ?_
                refine sm_X11_asksWhole this _ _ ?_
                intro v149 v149' hv149
                subst hv149
                refine sm_getI rfl (fun v154 => ?_)
                refine sm_if (cI_eq rfl (show (nI 0).toInt = 0 by decide)) ?_ ?_
                · refine sm_getI rfl (fun v166 => ?_)
                  exact hQj _ _ rfl
                · exact hQj _ _ (show ((-2) : Int32).toInt = (-2) by decide)
              · refine sm_if (cI_eq rfl (show (nI 7).toInt = 7 by decide)) ?_ ?_
                · refine sm_ex (fun n172 => ?_)
                  refine smFX11_count_172 this hQj n172 _ _ (show (nI 0).toInt = 0 by decide) _ _ (show (nI 0).toInt = 0 by decide)
                · exact hQj _ _ (show ((-1) : Int32).toInt = (-1) by decide)
theorem smFL_law_23 (sK : Nat → Nat) (xs : Nat → Int32) (Ln : Nat) (hLn : Ln < 2 ^ 31) {Qj : Int32 → JP} {Qj' : Int → MP} (hQj : ∀ (x0 : Int32) (X0 : Int), x0.toInt = X0 → SM (Qj x0) (Qj' X0)) (v0 : Nat) (v8 : Nat) (v17 : Nat) : ∀ n : Nat, ∀ (x0 : Int32) (X0 : Int), x0.toInt = X0 → ∀ (x1 : Nat), ∀ (x2 : Nat), SM (jit (FL_law_23 sK xs Ln Qj v0 v8 v17) (fun _ _ _ => jbot) n x0 x1 x2) (jit (GL_law_23 sK xs Ln Qj' v0 v8 v17) (fun _ _ _ => mbot) n X0 x1 x2) := by
  intro n
  induction n with
  | zero =>
    intro x4_23 x4_23' hx4_23 bc_23 bs_23
    exact SM.bot
  | succ n ih =>
    intro x4_23 x4_23' hx4_23 bc_23 bs_23
    subst hx4_23
    show SM (FL_law_23 sK xs Ln Qj v0 v8 v17 (jit (FL_law_23 sK xs Ln Qj v0 v8 v17) (fun _ _ _ => jbot) n) x4_23 bc_23 bs_23) (GL_law_23 sK xs Ln Qj' v0 v8 v17 (jit (GL_law_23 sK xs Ln Qj' v0 v8 v17) (fun _ _ _ => mbot) n) x4_23.toInt bc_23 bs_23)
    generalize jit (FL_law_23 sK xs Ln Qj v0 v8 v17) (fun _ _ _ => jbot) n = rec23 at ih ⊢
    generalize jit (GL_law_23 sK xs Ln Qj' v0 v8 v17) (fun _ _ _ => mbot) n = rec23' at ih ⊢
    have hrec23 := ih
    unfold FL_law_23 GL_law_23
    refine sm_if (cI_lt (tc_sub (nI_toInt hLn) (show (nI 7).toInt = 7 by decide)) rfl) ?_ ?_
    · exact hQj _ _ (show (nI 1).toInt = 1 by decide)
    · refine sm_scr rfl (fun v36 => ?_)
      refine sm_join (fun (k2055 : Nat → Nat → JP) (k2055' : Nat → Nat → MP) => ∀ (x0 : Nat), ∀ (x1 : Nat), SM (k2055 x0 x1) (k2055' x0 x1)) ?_ (fun k2055 k2055' hk2055 => ?_)
      · intro bc_2055 bs_2055
        exact hrec23 _ _ (tc_add rfl (show (nI 7).toInt = 7 by decide)) bc_2055 bs_2055
      refine sm_if (cI_eq (tc_and rfl (show (nI 63).toInt = 63 by decide)) (show (nI 0).toInt = 0 by decide)) ?_ ?_
      · refine sm_scr (tc_add rfl (show (nI 1).toInt = 1 by decide)) (fun v194 => ?_)
        refine sm_scr (tc_add rfl (show (nI 2).toInt = 2 by decide)) (fun v200 => ?_)
        refine sm_scr (tc_add rfl (show (nI 3).toInt = 3 by decide)) (fun v206 => ?_)
        refine sm_scr (tc_add rfl (show (nI 4).toInt = 4 by decide)) (fun v212 => ?_)
        refine sm_scr (tc_add rfl (show (nI 5).toInt = 5 by decide)) (fun v218 => ?_)
        refine sm_obj ?_
        refine sm_X1_feed v0 _ _ rfl _ _ rfl _ _ rfl _ _ rfl _ _ rfl _ _ ?_
        intro v219 v219' hv219
        subst hv219
        refine sm_scr (tc_add rfl (show (nI 1).toInt = 1 by decide)) (fun v228 => ?_)
        refine sm_scr (tc_add rfl (show (nI 2).toInt = 2 by decide)) (fun v234 => ?_)
        refine sm_scr (tc_add rfl (show (nI 3).toInt = 3 by decide)) (fun v240 => ?_)
        refine sm_scr (tc_add rfl (show (nI 4).toInt = 4 by decide)) (fun v246 => ?_)
        refine sm_scr (tc_add rfl (show (nI 5).toInt = 5 by decide)) (fun v252 => ?_)
        refine sm_obj ?_
        refine sm_X11_feed v8 _ _ rfl _ _ rfl _ _ rfl _ _ rfl _ _ rfl _ _ ?_
        intro v253 v253' hv253
        subst hv253
        refine sm_if (cI_eq rfl rfl) ?_ ?_
        · exact hk2055 bc_23 bs_23
        · exact hQj _ _ (show (nI 0).toInt = 0 by decide)
      · refine sm_if (cI_eq (tc_and rfl (show (nI 63).toInt = 63 by decide)) (show (nI 1).toInt = 1 by decide)) ?_ ?_
        · refine sm_scr (tc_add rfl (show (nI 1).toInt = 1 by decide)) (fun v267 => ?_)
          refine sm_obj ?_
          refine sm_X1_end v0 _ _ rfl _ _ ?_
          intro v268 v268' hv268
          subst hv268
          refine sm_scr (tc_add rfl (show (nI 1).toInt = 1 by decide)) (fun v277 => ?_)
          refine sm_obj ?_
          refine sm_X11_end v8 _ _ rfl _ _ ?_
          intro v278 v278' hv278
          subst hv278
          refine sm_if (cI_eq rfl rfl) ?_ ?_
          · exact hk2055 bc_23 bs_23
          · exact hQj _ _ (show (nI 0).toInt = 0 by decide)
        · refine sm_if (cI_eq (tc_and rfl (show (nI 63).toInt = 63 by decide)) (show (nI 2).toInt = 2 by decide)) ?_ ?_
          · refine sm_scr (tc_add rfl (show (nI 1).toInt = 1 by decide)) (fun v292 => ?_)
            refine sm_bud (fun mc294 ms294 => ?_)
            refine sm_X0_kind sK mc294 ms294 v0 _ _ rfl v17 _ _ ?_
            intro v294 v294' hv294
            subst hv294
            refine sm_scr (tc_add rfl (show (nI 1).toInt = 1 by decide)) (fun v305 => ?_)
            refine sm_obj ?_
            refine sm_X11_kind sK v8 _ _ rfl _ _ ?_
            intro v306 v306' hv306
            subst hv306
            refine sm_obj ?_
            refine sm_X11_thrown v8 _ _ ?_
            intro v312 v312' hv312
            subst hv312
            refine sm_if (cI_eq rfl rfl) ?_ ?_
            · refine sm_join (fun (k339 : JP) (k339' : MP) => SM k339 k339') ?_ (fun k339 k339' hk339 => ?_)
              · exact hk2055 (bc_23 - mc294) (bs_23 - ms294)
              refine sm_if (cI_eq rfl (show (nI 0).toInt = 0 by decide)) ?_ ?_
              · refine sm_aldL (show (nI 0).toInt = 0 by decide) (fun v329 => ?_)
                refine sm_if (cI_eq (tl_cmp rfl (tc_i2l rfl)) (show (nI 0).toInt = 0 by decide)) ?_ ?_
                · exact hk339
                · exact hQj _ _ (show (nI 0).toInt = 0 by decide)
              · exact hk339
            · exact hQj _ _ (show (nI 0).toInt = 0 by decide)
          · refine sm_if (cI_eq (tc_and rfl (show (nI 63).toInt = 63 by decide)) (show (nI 3).toInt = 3 by decide)) ?_ ?_
            · refine sm_bud (fun mc344 ms344 => ?_)
              refine sm_X0_measure sK mc344 ms344 v0 v17 _ _ ?_
              intro v344 v344' hv344
              subst hv344
              refine sm_obj ?_
              refine sm_X11_measure sK v8 _ _ ?_
              intro v350 v350' hv350
              subst hv350
              refine sm_obj ?_
              refine sm_X11_thrown v8 _ _ ?_
              intro v356 v356' hv356
              subst hv356
              refine sm_if (cI_eq rfl rfl) ?_ ?_
              · refine sm_join (fun (k383 : JP) (k383' : MP) => SM k383 k383') ?_ (fun k383 k383' hk383 => ?_)
                · exact hk2055 (bc_23 - mc344) (bs_23 - ms344)
                refine sm_if (cI_eq rfl (show (nI 0).toInt = 0 by decide)) ?_ ?_
                · refine sm_aldL (show (nI 0).toInt = 0 by decide) (fun v373 => ?_)
                  refine sm_if (cI_eq (tl_cmp rfl (tc_i2l rfl)) (show (nI 0).toInt = 0 by decide)) ?_ ?_
                  · exact hk383
                  · exact hQj _ _ (show (nI 0).toInt = 0 by decide)
                · exact hk383
              · exact hQj _ _ (show (nI 0).toInt = 0 by decide)
            · refine sm_if (cI_eq (tc_and rfl (show (nI 63).toInt = 63 by decide)) (show (nI 4).toInt = 4 by decide)) ?_ ?_
              · refine sm_obj ?_
                refine sm_X1_fault v0 _ _ ?_
                intro v387 v387' hv387
                subst hv387
                refine sm_obj ?_
                refine sm_X11_fault v8 _ _ ?_
                intro v391 v391' hv391
                subst hv391
                refine sm_if (cI_eq rfl rfl) ?_ ?_
                · exact hk2055 bc_23 bs_23
                · exact hQj _ _ (show (nI 0).toInt = 0 by decide)
              · refine sm_if (cI_eq (tc_and rfl (show (nI 63).toInt = 63 by decide)) (show (nI 5).toInt = 5 by decide)) ?_ ?_
                · refine sm_scr (tc_add rfl (show (nI 1).toInt = 1 by decide)) (fun v405 => ?_)
                  refine sm_scr (tc_add rfl (show (nI 2).toInt = 2 by decide)) (fun v411 => ?_)
                  refine sm_scr (tc_add rfl (show (nI 3).toInt = 3 by decide)) (fun v417 => ?_)
                  refine sm_bud (fun mc418 ms418 => ?_)
                  refine sm_X0_put mc418 ms418 v0 _ _ rfl _ _ rfl _ _ rfl _ _ ?_
                  intro v418 v418' hv418
                  subst hv418
                  refine sm_scr (tc_add rfl (show (nI 1).toInt = 1 by decide)) (fun v429 => ?_)
                  refine sm_scr (tc_add rfl (show (nI 2).toInt = 2 by decide)) (fun v435 => ?_)
                  refine sm_scr (tc_add rfl (show (nI 3).toInt = 3 by decide)) (fun v441 => ?_)
                  refine sm_obj ?_
                  refine sm_X11_put v8 _ _ rfl _ _ rfl _ _ rfl _ _ ?_
                  refine sm_obj ?_
                  refine sm_X11_thrown v8 _ _ ?_
                  intro v446 v446' hv446
                  subst hv446
                  refine sm_if (cI_eq rfl rfl) ?_ ?_
                  · exact hk2055 (bc_23 - mc418) (bs_23 - ms418)
                  · exact hQj _ _ (show (nI 0).toInt = 0 by decide)
                · refine sm_if (cI_eq (tc_and rfl (show (nI 63).toInt = 63 by decide)) (show (nI 6).toInt = 6 by decide)) ?_ ?_
                  · refine sm_scr (tc_add rfl (show (nI 1).toInt = 1 by decide)) (fun v465 => ?_)
                    refine sm_scr (tc_add rfl (show (nI 2).toInt = 2 by decide)) (fun v471 => ?_)
                    refine sm_bud (fun mc473 ms473 => ?_)
                    refine sm_X0_moves mc473 ms473 v0 _ _ rfl _ _ rfl v17 _ _ ?_
                    intro v473 v473' hv473
                    subst hv473
                    refine sm_scr (tc_add rfl (show (nI 1).toInt = 1 by decide)) (fun v484 => ?_)
                    refine sm_scr (tc_add rfl (show (nI 2).toInt = 2 by decide)) (fun v490 => ?_)
                    refine sm_obj ?_
                    refine sm_X11_moves v8 _ _ rfl _ _ rfl _ _ ?_
                    intro v491 v491' hv491
                    subst hv491
                    refine sm_obj ?_
                    refine sm_X11_thrown v8 _ _ ?_
                    intro v497 v497' hv497
                    subst hv497
                    refine sm_if (cI_eq rfl rfl) ?_ ?_
                    · refine sm_join (fun (k524 : JP) (k524' : MP) => SM k524 k524') ?_ (fun k524 k524' hk524 => ?_)
                      · exact hk2055 (bc_23 - mc473) (bs_23 - ms473)
                      refine sm_if (cI_eq rfl (show (nI 0).toInt = 0 by decide)) ?_ ?_
                      · refine sm_aldL (show (nI 0).toInt = 0 by decide) (fun v514 => ?_)
                        refine sm_if (cI_eq (tl_cmp rfl (tc_i2l rfl)) (show (nI 0).toInt = 0 by decide)) ?_ ?_
                        · exact hk524
                        · exact hQj _ _ (show (nI 0).toInt = 0 by decide)
                      · exact hk524
                    · exact hQj _ _ (show (nI 0).toInt = 0 by decide)
                  · refine sm_if (cI_eq (tc_and rfl (show (nI 63).toInt = 63 by decide)) (show (nI 7).toInt = 7 by decide)) ?_ ?_
                    · refine sm_scr (tc_add rfl (show (nI 1).toInt = 1 by decide)) (fun v533 => ?_)
                      refine sm_bud (fun mc535 ms535 => ?_)
                      refine sm_X0_book mc535 ms535 v0 _ _ rfl v17 _ _ ?_
                      intro v535 v535' hv535
                      subst hv535
                      refine sm_scr (tc_add rfl (show (nI 1).toInt = 1 by decide)) (fun v546 => ?_)
                      refine sm_obj ?_
                      refine sm_X11_book v8 _ _ rfl _ _ ?_
                      intro v547 v547' hv547
                      subst hv547
                      refine sm_obj ?_
                      refine sm_X11_thrown v8 _ _ ?_
                      intro v553 v553' hv553
                      subst hv553
                      refine sm_if (cI_eq rfl rfl) ?_ ?_
                      · refine sm_join (fun (k580 : JP) (k580' : MP) => SM k580 k580') ?_ (fun k580 k580' hk580 => ?_)
                        · exact hk2055 (bc_23 - mc535) (bs_23 - ms535)
                        refine sm_if (cI_eq rfl (show (nI 0).toInt = 0 by decide)) ?_ ?_
                        · refine sm_aldL (show (nI 0).toInt = 0 by decide) (fun v570 => ?_)
                          refine sm_if (cI_eq (tl_cmp rfl (tc_i2l rfl)) (show (nI 0).toInt = 0 by decide)) ?_ ?_
                          · exact hk580
                          · exact hQj _ _ (show (nI 0).toInt = 0 by decide)
                        · exact hk580
                      · exact hQj _ _ (show (nI 0).toInt = 0 by decide)
                    · refine sm_if (cI_eq (tc_and rfl (show (nI 63).toInt = 63 by decide)) (show (nI 8).toInt = 8 by decide)) ?_ ?_
                      · refine sm_scr (tc_add rfl (show (nI 1).toInt = 1 by decide)) (fun v589 => ?_)
                        refine sm_scr (tc_add rfl (show (nI 2).toInt = 2 by decide)) (fun v595 => ?_)
                        refine sm_scr (tc_add rfl (show (nI 3).toInt = 3 by decide)) (fun v601 => ?_)
                        refine sm_scr (tc_add rfl (show (nI 4).toInt = 4 by decide)) (fun v607 => ?_)
                        refine sm_scr (tc_add rfl (show (nI 5).toInt = 5 by decide)) (fun v613 => ?_)
                        refine sm_bud (fun mc615 ms615 => ?_)
                        refine sm_X0_note mc615 ms615 v0 _ _ rfl _ _ rfl _ _ rfl _ _ rfl _ _ rfl v17 _ _ ?_
                        intro v615 v615' hv615
                        subst hv615
                        refine sm_scr (tc_add rfl (show (nI 1).toInt = 1 by decide)) (fun v626 => ?_)
                        refine sm_scr (tc_add rfl (show (nI 2).toInt = 2 by decide)) (fun v632 => ?_)
                        refine sm_scr (tc_add rfl (show (nI 3).toInt = 3 by decide)) (fun v638 => ?_)
                        refine sm_scr (tc_add rfl (show (nI 4).toInt = 4 by decide)) (fun v644 => ?_)
                        refine sm_scr (tc_add rfl (show (nI 5).toInt = 5 by decide)) (fun v650 => ?_)
                        refine sm_obj ?_
                        refine sm_X11_note v8 _ _ rfl _ _ rfl _ _ rfl _ _ rfl _ _ rfl _ _ ?_
                        intro v651 v651' hv651
                        subst hv651
                        refine sm_obj ?_
                        refine sm_X11_thrown v8 _ _ ?_
                        intro v657 v657' hv657
                        subst hv657
                        refine sm_if (cI_eq rfl rfl) ?_ ?_
                        · refine sm_join (fun (k684 : JP) (k684' : MP) => SM k684 k684') ?_ (fun k684 k684' hk684 => ?_)
                          · exact hk2055 (bc_23 - mc615) (bs_23 - ms615)
                          refine sm_if (cI_eq rfl (show (nI 0).toInt = 0 by decide)) ?_ ?_
                          · refine sm_aldL (show (nI 0).toInt = 0 by decide) (fun v674 => ?_)
                            refine sm_if (cI_eq (tl_cmp rfl (tc_i2l rfl)) (show (nI 0).toInt = 0 by decide)) ?_ ?_
                            · exact hk684
                            · exact hQj _ _ (show (nI 0).toInt = 0 by decide)
                          · exact hk684
                        · exact hQj _ _ (show (nI 0).toInt = 0 by decide)
                      · refine sm_if (cI_eq (tc_and rfl (show (nI 63).toInt = 63 by decide)) (show (nI 9).toInt = 9 by decide)) ?_ ?_
                        · refine sm_scr (tc_add rfl (show (nI 1).toInt = 1 by decide)) (fun v693 => ?_)
                          refine sm_scr (tc_add rfl (show (nI 2).toInt = 2 by decide)) (fun v699 => ?_)
                          refine sm_scr (tc_add rfl (show (nI 3).toInt = 3 by decide)) (fun v705 => ?_)
                          refine sm_scr (tc_add rfl (show (nI 4).toInt = 4 by decide)) (fun v711 => ?_)
                          refine sm_scr (tc_add rfl (show (nI 5).toInt = 5 by decide)) (fun v717 => ?_)
                          refine sm_scr (tc_add rfl (show (nI 6).toInt = 6 by decide)) (fun v724 => ?_)
                          refine sm_bud (fun mc726 ms726 => ?_)
                          refine sm_X0_change mc726 ms726 v0 _ _ rfl _ _ rfl _ _ rfl _ _ rfl _ _ rfl _ _ rfl v17 _ _ ?_
                          intro v726 v726' hv726
                          subst hv726
                          refine sm_scr (tc_add rfl (show (nI 1).toInt = 1 by decide)) (fun v737 => ?_)
                          refine sm_scr (tc_add rfl (show (nI 2).toInt = 2 by decide)) (fun v743 => ?_)
                          refine sm_scr (tc_add rfl (show (nI 3).toInt = 3 by decide)) (fun v749 => ?_)
                          refine sm_scr (tc_add rfl (show (nI 4).toInt = 4 by decide)) (fun v755 => ?_)
                          refine sm_scr (tc_add rfl (show (nI 5).toInt = 5 by decide)) (fun v761 => ?_)
                          refine sm_scr (tc_add rfl (show (nI 6).toInt = 6 by decide)) (fun v768 => ?_)
                          refine sm_obj ?_
                          refine sm_X11_change v8 _ _ rfl _ _ rfl _ _ rfl _ _ rfl _ _ rfl _ _ rfl _ _ ?_
                          intro v769 v769' hv769
                          subst hv769
                          refine sm_obj ?_
                          refine sm_X11_thrown v8 _ _ ?_
                          intro v775 v775' hv775
                          subst hv775
                          refine sm_if (cI_eq rfl rfl) ?_ ?_
                          · refine sm_join (fun (k809 : JP) (k809' : MP) => SM k809 k809') ?_ (fun k809 k809' hk809 => ?_)
                            · exact hk2055 (bc_23 - mc726) (bs_23 - ms726)
                            refine sm_if (cI_eq rfl (show (nI 0).toInt = 0 by decide)) ?_ ?_
                            · refine sm_aldL (show (nI 0).toInt = 0 by decide) (fun v792 => ?_)
                              refine sm_join (fun (k803 : Int64 → JP) (k803' : Int → MP) => ∀ (x0 : Int64) (X0 : Int), x0.toInt = X0 → SM (k803 x0) (k803' X0)) ?_ (fun k803 k803' hk803 => ?_)
                              · intro s1_803 s1_803' hs1_803
                                subst hs1_803
                                refine sm_if (cI_eq (tl_cmp rfl rfl) (show (nI 0).toInt = 0 by decide)) ?_ ?_
                                · exact hk809
                                · exact hQj _ _ (show (nI 0).toInt = 0 by decide)
                              refine sm_if (cI_eq rfl (show (nI 0).toInt = 0 by decide)) ?_ ?_
                              · exact hk803 _ _ (show (lN 0).toInt = 0 by decide)
                              · exact hk803 _ _ (show (lN 1).toInt = 1 by decide)
                            · exact hk809
                          · exact hQj _ _ (show (nI 0).toInt = 0 by decide)
                        · refine sm_if (cI_eq (tc_and rfl (show (nI 63).toInt = 63 by decide)) (show (nI 10).toInt = 10 by decide)) ?_ ?_
                          · refine sm_scr (tc_add rfl (show (nI 1).toInt = 1 by decide)) (fun v818 => ?_)
                            refine sm_scr (tc_add rfl (show (nI 2).toInt = 2 by decide)) (fun v824 => ?_)
                            refine sm_scr (tc_add rfl (show (nI 3).toInt = 3 by decide)) (fun v830 => ?_)
                            refine sm_bud (fun mc832 ms832 => ?_)
                            refine sm_X0_look mc832 ms832 v0 _ _ rfl _ _ rfl _ _ rfl v17 _ _ ?_
                            intro v832 v832' hv832
                            subst hv832
                            refine sm_scr (tc_add rfl (show (nI 1).toInt = 1 by decide)) (fun v843 => ?_)
                            refine sm_scr (tc_add rfl (show (nI 2).toInt = 2 by decide)) (fun v849 => ?_)
                            refine sm_scr (tc_add rfl (show (nI 3).toInt = 3 by decide)) (fun v855 => ?_)
                            refine sm_obj ?_
                            refine sm_X11_look v8 _ _ rfl _ _ rfl _ _ rfl _ _ ?_
                            intro v856 v856' hv856
                            subst hv856
                            refine sm_obj ?_
                            refine sm_X11_thrown v8 _ _ ?_
                            intro v862 v862' hv862
                            subst hv862
                            refine sm_if (cI_eq rfl rfl) ?_ ?_
                            · refine sm_join (fun (k889 : JP) (k889' : MP) => SM k889 k889') ?_ (fun k889 k889' hk889 => ?_)
                              · exact hk2055 (bc_23 - mc832) (bs_23 - ms832)
                              refine sm_if (cI_eq rfl (show (nI 0).toInt = 0 by decide)) ?_ ?_
                              · refine sm_aldL (show (nI 0).toInt = 0 by decide) (fun v879 => ?_)
                                refine sm_if (cI_eq (tl_cmp rfl (tc_i2l rfl)) (show (nI 0).toInt = 0 by decide)) ?_ ?_
                                · exact hk889
                                · exact hQj _ _ (show (nI 0).toInt = 0 by decide)
                              · exact hk889
                            · exact hQj _ _ (show (nI 0).toInt = 0 by decide)
                          · refine sm_if (cI_eq (tc_and rfl (show (nI 63).toInt = 63 by decide)) (show (nI 11).toInt = 11 by decide)) ?_ ?_
                            · refine sm_scr (tc_add rfl (show (nI 1).toInt = 1 by decide)) (fun v898 => ?_)
                              refine sm_scr (tc_add rfl (show (nI 2).toInt = 2 by decide)) (fun v904 => ?_)
                              refine sm_scr (tc_add rfl (show (nI 3).toInt = 3 by decide)) (fun v910 => ?_)
                              refine sm_scr (tc_add rfl (show (nI 4).toInt = 4 by decide)) (fun v916 => ?_)
                              refine sm_bud (fun mc918 ms918 => ?_)
                              refine sm_X0_write mc918 ms918 v0 _ _ rfl _ _ rfl _ _ rfl _ _ rfl v17 _ _ ?_
                              intro v918 v918' hv918
                              subst hv918
                              refine sm_scr (tc_add rfl (show (nI 1).toInt = 1 by decide)) (fun v929 => ?_)
                              refine sm_scr (tc_add rfl (show (nI 2).toInt = 2 by decide)) (fun v935 => ?_)
                              refine sm_scr (tc_add rfl (show (nI 3).toInt = 3 by decide)) (fun v941 => ?_)
                              refine sm_scr (tc_add rfl (show (nI 4).toInt = 4 by decide)) (fun v947 => ?_)
                              refine sm_obj ?_
                              refine sm_X11_write v8 _ _ rfl _ _ rfl _ _ rfl _ _ rfl _ _ ?_
                              intro v948 v948' hv948
                              subst hv948
                              refine sm_obj ?_
                              refine sm_X11_thrown v8 _ _ ?_
                              intro v954 v954' hv954
                              subst hv954
                              refine sm_if (cI_eq rfl rfl) ?_ ?_
                              · refine sm_join (fun (k981 : JP) (k981' : MP) => SM k981 k981') ?_ (fun k981 k981' hk981 => ?_)
                                · exact hk2055 (bc_23 - mc918) (bs_23 - ms918)
                                refine sm_if (cI_eq rfl (show (nI 0).toInt = 0 by decide)) ?_ ?_
                                · refine sm_aldL (show (nI 0).toInt = 0 by decide) (fun v971 => ?_)
                                  refine sm_if (cI_eq (tl_cmp rfl (tc_i2l rfl)) (show (nI 0).toInt = 0 by decide)) ?_ ?_
                                  · exact hk981
                                  · exact hQj _ _ (show (nI 0).toInt = 0 by decide)
                                · exact hk981
                              · exact hQj _ _ (show (nI 0).toInt = 0 by decide)
                            · refine sm_if (cI_eq (tc_and rfl (show (nI 63).toInt = 63 by decide)) (show (nI 12).toInt = 12 by decide)) ?_ ?_
                              · refine sm_scr (tc_add rfl (show (nI 1).toInt = 1 by decide)) (fun v990 => ?_)
                                refine sm_scr (tc_add rfl (show (nI 2).toInt = 2 by decide)) (fun v996 => ?_)
                                refine sm_bud (fun mc998 ms998 => ?_)
                                refine sm_X0_price mc998 ms998 v0 _ _ rfl _ _ rfl v17 _ _ ?_
                                intro v998 v998' hv998
                                subst hv998
                                refine sm_scr (tc_add rfl (show (nI 1).toInt = 1 by decide)) (fun v1009 => ?_)
                                refine sm_scr (tc_add rfl (show (nI 2).toInt = 2 by decide)) (fun v1015 => ?_)
                                refine sm_obj ?_
                                refine sm_X11_price v8 _ _ rfl _ _ rfl _ _ ?_
                                intro v1016 v1016' hv1016
                                subst hv1016
                                refine sm_obj ?_
                                refine sm_X11_thrown v8 _ _ ?_
                                intro v1022 v1022' hv1022
                                subst hv1022
                                refine sm_if (cI_eq rfl rfl) ?_ ?_
                                · refine sm_join (fun (k1049 : JP) (k1049' : MP) => SM k1049 k1049') ?_ (fun k1049 k1049' hk1049 => ?_)
                                  · exact hk2055 (bc_23 - mc998) (bs_23 - ms998)
                                  refine sm_if (cI_eq rfl (show (nI 0).toInt = 0 by decide)) ?_ ?_
                                  · refine sm_aldL (show (nI 0).toInt = 0 by decide) (fun v1039 => ?_)
                                    refine sm_if (cI_eq (tl_cmp rfl (tc_i2l rfl)) (show (nI 0).toInt = 0 by decide)) ?_ ?_
                                    · exact hk1049
                                    · exact hQj _ _ (show (nI 0).toInt = 0 by decide)
                                  · exact hk1049
                                · exact hQj _ _ (show (nI 0).toInt = 0 by decide)
                              · refine sm_if (cI_eq (tc_and rfl (show (nI 63).toInt = 63 by decide)) (show (nI 13).toInt = 13 by decide)) ?_ ?_
                                · refine sm_scr (tc_add rfl (show (nI 1).toInt = 1 by decide)) (fun v1058 => ?_)
                                  refine sm_bud (fun mc1059 ms1059 => ?_)
                                  refine sm_X0_length mc1059 ms1059 v0 _ _ rfl _ _ ?_
                                  intro v1059 v1059' hv1059
                                  subst hv1059
                                  refine sm_scr (tc_add rfl (show (nI 1).toInt = 1 by decide)) (fun v1070 => ?_)
                                  refine sm_obj ?_
                                  refine sm_X11_length v8 _ _ rfl _ _ ?_
                                  refine sm_obj ?_
                                  refine sm_X11_thrown v8 _ _ ?_
                                  intro v1075 v1075' hv1075
                                  subst hv1075
                                  refine sm_if (cI_eq rfl rfl) ?_ ?_
                                  · exact hk2055 (bc_23 - mc1059) (bs_23 - ms1059)
                                  · exact hQj _ _ (show (nI 0).toInt = 0 by decide)
                                · refine sm_if (cI_eq (tc_and rfl (show (nI 63).toInt = 63 by decide)) (show (nI 14).toInt = 14 by decide)) ?_ ?_
                                  · refine sm_scr (tc_add rfl (show (nI 1).toInt = 1 by decide)) (fun v1094 => ?_)
                                    refine sm_scr (tc_add rfl (show (nI 2).toInt = 2 by decide)) (fun v1100 => ?_)
                                    refine sm_scr (tc_add rfl (show (nI 3).toInt = 3 by decide)) (fun v1106 => ?_)
                                    refine sm_scr (tc_add rfl (show (nI 4).toInt = 4 by decide)) (fun v1112 => ?_)
                                    refine sm_bud (fun mc1114 ms1114 => ?_)
                                    refine sm_X0_picture mc1114 ms1114 v0 _ _ rfl _ _ rfl _ _ rfl _ _ rfl v17 _ _ ?_
                                    intro v1114 v1114' hv1114
                                    subst hv1114
                                    refine sm_scr (tc_add rfl (show (nI 1).toInt = 1 by decide)) (fun v1125 => ?_)
                                    refine sm_scr (tc_add rfl (show (nI 2).toInt = 2 by decide)) (fun v1131 => ?_)
                                    refine sm_scr (tc_add rfl (show (nI 3).toInt = 3 by decide)) (fun v1137 => ?_)
                                    refine sm_scr (tc_add rfl (show (nI 4).toInt = 4 by decide)) (fun v1143 => ?_)
                                    refine sm_obj ?_
                                    refine sm_X11_picture v8 _ _ rfl _ _ rfl _ _ rfl _ _ rfl _ _ ?_
                                    intro v1144 v1144' hv1144
                                    subst hv1144
                                    refine sm_obj ?_
                                    refine sm_X11_thrown v8 _ _ ?_
                                    intro v1150 v1150' hv1150
                                    subst hv1150
                                    refine sm_if (cI_eq rfl rfl) ?_ ?_
                                    · refine sm_join (fun (k1177 : JP) (k1177' : MP) => SM k1177 k1177') ?_ (fun k1177 k1177' hk1177 => ?_)
                                      · exact hk2055 (bc_23 - mc1114) (bs_23 - ms1114)
                                      refine sm_if (cI_eq rfl (show (nI 0).toInt = 0 by decide)) ?_ ?_
                                      · refine sm_aldL (show (nI 0).toInt = 0 by decide) (fun v1167 => ?_)
                                        refine sm_if (cI_eq (tl_cmp rfl (tc_i2l rfl)) (show (nI 0).toInt = 0 by decide)) ?_ ?_
                                        · exact hk1177
                                        · exact hQj _ _ (show (nI 0).toInt = 0 by decide)
                                      · exact hk1177
                                    · exact hQj _ _ (show (nI 0).toInt = 0 by decide)
                                  · refine sm_if (cI_eq (tc_and rfl (show (nI 63).toInt = 63 by decide)) (show (nI 15).toInt = 15 by decide)) ?_ ?_
                                    · refine sm_obj ?_
                                      refine sm_X1_least v0 _ _ ?_
                                      intro v1181 v1181' hv1181
                                      subst hv1181
                                      refine sm_obj ?_
                                      refine sm_X11_least v8 _ _ ?_
                                      intro v1185 v1185' hv1185
                                      subst hv1185
                                      refine sm_if (cI_eq rfl rfl) ?_ ?_
                                      · exact hk2055 bc_23 bs_23
                                      · exact hQj _ _ (show (nI 0).toInt = 0 by decide)
                                    · refine sm_if (cI_eq (tc_and rfl (show (nI 63).toInt = 63 by decide)) (show (nI 16).toInt = 16 by decide)) ?_ ?_
                                      · refine sm_obj ?_
                                        refine sm_X1_many v0 _ _ ?_
                                        intro v1194 v1194' hv1194
                                        subst hv1194
                                        refine sm_obj ?_
                                        refine sm_X11_many v8 _ _ ?_
                                        intro v1198 v1198' hv1198
                                        subst hv1198
                                        refine sm_if (cI_eq rfl rfl) ?_ ?_
                                        · exact hk2055 bc_23 bs_23
                                        · exact hQj _ _ (show (nI 0).toInt = 0 by decide)
                                      · refine sm_if (cI_eq (tc_and rfl (show (nI 63).toInt = 63 by decide)) (show (nI 17).toInt = 17 by decide)) ?_ ?_
                                        · refine sm_scr (tc_add rfl (show (nI 1).toInt = 1 by decide)) (fun v1212 => ?_)
                                          refine sm_bud (fun mc1214 ms1214 => ?_)
                                          refine sm_X0_read mc1214 ms1214 v0 _ _ rfl v17 _ _ ?_
                                          intro v1214 v1214' hv1214
                                          subst hv1214
                                          refine sm_scr (tc_add rfl (show (nI 1).toInt = 1 by decide)) (fun v1225 => ?_)
                                          refine sm_obj ?_
                                          refine sm_X11_read v8 _ _ rfl _ _ ?_
                                          intro v1226 v1226' hv1226
                                          subst hv1226
                                          refine sm_obj ?_
                                          refine sm_X11_thrown v8 _ _ ?_
                                          intro v1232 v1232' hv1232
                                          subst hv1232
                                          refine sm_if (cI_eq rfl rfl) ?_ ?_
                                          · refine sm_join (fun (k1259 : JP) (k1259' : MP) => SM k1259 k1259') ?_ (fun k1259 k1259' hk1259 => ?_)
                                            · exact hk2055 (bc_23 - mc1214) (bs_23 - ms1214)
                                            refine sm_if (cI_eq rfl (show (nI 0).toInt = 0 by decide)) ?_ ?_
                                            · refine sm_aldL (show (nI 0).toInt = 0 by decide) (fun v1249 => ?_)
                                              refine sm_if (cI_eq (tl_cmp rfl (tc_i2l rfl)) (show (nI 0).toInt = 0 by decide)) ?_ ?_
                                              · exact hk1259
                                              · exact hQj _ _ (show (nI 0).toInt = 0 by decide)
                                            · exact hk1259
                                          · exact hQj _ _ (show (nI 0).toInt = 0 by decide)
                                        · refine sm_if (cI_eq (tc_and rfl (show (nI 63).toInt = 63 by decide)) (show (nI 18).toInt = 18 by decide)) ?_ ?_
                                          · refine sm_scr (tc_add rfl (show (nI 1).toInt = 1 by decide)) (fun v1268 => ?_)
                                            refine sm_bud (fun mc1270 ms1270 => ?_)
                                            refine sm_X0_readNext mc1270 ms1270 v0 _ _ rfl v17 _ _ ?_
                                            intro v1270 v1270' hv1270
                                            subst hv1270
                                            refine sm_scr (tc_add rfl (show (nI 1).toInt = 1 by decide)) (fun v1281 => ?_)
                                            refine sm_obj ?_
                                            refine sm_X11_readNext v8 _ _ rfl _ _ ?_
                                            intro v1282 v1282' hv1282
                                            subst hv1282
                                            refine sm_obj ?_
                                            refine sm_X11_thrown v8 _ _ ?_
                                            intro v1288 v1288' hv1288
                                            subst hv1288
                                            refine sm_if (cI_eq rfl rfl) ?_ ?_
                                            · refine sm_join (fun (k1315 : JP) (k1315' : MP) => SM k1315 k1315') ?_ (fun k1315 k1315' hk1315 => ?_)
                                              · exact hk2055 (bc_23 - mc1270) (bs_23 - ms1270)
                                              refine sm_if (cI_eq rfl (show (nI 0).toInt = 0 by decide)) ?_ ?_
                                              · refine sm_aldL (show (nI 0).toInt = 0 by decide) (fun v1305 => ?_)
                                                refine sm_if (cI_eq (tl_cmp rfl (tc_i2l rfl)) (show (nI 0).toInt = 0 by decide)) ?_ ?_
                                                · exact hk1315
                                                · exact hQj _ _ (show (nI 0).toInt = 0 by decide)
                                              · exact hk1315
                                            · exact hQj _ _ (show (nI 0).toInt = 0 by decide)
                                          · refine sm_if (cI_eq (tc_and rfl (show (nI 63).toInt = 63 by decide)) (show (nI 19).toInt = 19 by decide)) ?_ ?_
                                            · refine sm_scr (tc_add rfl (show (nI 1).toInt = 1 by decide)) (fun v1324 => ?_)
                                              refine sm_scr (tc_add rfl (show (nI 2).toInt = 2 by decide)) (fun v1330 => ?_)
                                              refine sm_bud (fun mc1332 ms1332 => ?_)
                                              refine sm_X0_slip mc1332 ms1332 v0 _ _ rfl _ _ rfl v17 _ _ ?_
                                              intro v1332 v1332' hv1332
                                              subst hv1332
                                              refine sm_scr (tc_add rfl (show (nI 1).toInt = 1 by decide)) (fun v1343 => ?_)
                                              refine sm_scr (tc_add rfl (show (nI 2).toInt = 2 by decide)) (fun v1349 => ?_)
                                              refine sm_obj ?_
                                              refine sm_X11_slip v8 _ _ rfl _ _ rfl _ _ ?_
                                              intro v1350 v1350' hv1350
                                              subst hv1350
                                              refine sm_obj ?_
                                              refine sm_X11_thrown v8 _ _ ?_
                                              intro v1356 v1356' hv1356
                                              subst hv1356
                                              refine sm_if (cI_eq rfl rfl) ?_ ?_
                                              · refine sm_join (fun (k1383 : JP) (k1383' : MP) => SM k1383 k1383') ?_ (fun k1383 k1383' hk1383 => ?_)
                                                · exact hk2055 (bc_23 - mc1332) (bs_23 - ms1332)
                                                refine sm_if (cI_eq rfl (show (nI 0).toInt = 0 by decide)) ?_ ?_
                                                · refine sm_aldL (show (nI 0).toInt = 0 by decide) (fun v1373 => ?_)
                                                  refine sm_if (cI_eq (tl_cmp rfl (tc_i2l rfl)) (show (nI 0).toInt = 0 by decide)) ?_ ?_
                                                  · exact hk1383
                                                  · exact hQj _ _ (show (nI 0).toInt = 0 by decide)
                                                · exact hk1383
                                              · exact hQj _ _ (show (nI 0).toInt = 0 by decide)
                                            · refine sm_if (cI_eq (tc_and rfl (show (nI 63).toInt = 63 by decide)) (show (nI 20).toInt = 20 by decide)) ?_ ?_
                                              · refine sm_scr (tc_add rfl (show (nI 1).toInt = 1 by decide)) (fun v1392 => ?_)
                                                refine sm_scr (tc_add rfl (show (nI 2).toInt = 2 by decide)) (fun v1398 => ?_)
                                                refine sm_bud (fun mc1400 ms1400 => ?_)
                                                refine sm_X0_slips mc1400 ms1400 v0 _ _ rfl _ _ rfl v17 _ _ ?_
                                                intro v1400 v1400' hv1400
                                                subst hv1400
                                                refine sm_scr (tc_add rfl (show (nI 1).toInt = 1 by decide)) (fun v1411 => ?_)
                                                refine sm_scr (tc_add rfl (show (nI 2).toInt = 2 by decide)) (fun v1417 => ?_)
                                                refine sm_obj ?_
                                                refine sm_X11_slips v8 _ _ rfl _ _ rfl _ _ ?_
                                                intro v1418 v1418' hv1418
                                                subst hv1418
                                                refine sm_obj ?_
                                                refine sm_X11_thrown v8 _ _ ?_
                                                intro v1424 v1424' hv1424
                                                subst hv1424
                                                refine sm_if (cI_eq rfl rfl) ?_ ?_
                                                · refine sm_join (fun (k1451 : JP) (k1451' : MP) => SM k1451 k1451') ?_ (fun k1451 k1451' hk1451 => ?_)
                                                  · exact hk2055 (bc_23 - mc1400) (bs_23 - ms1400)
                                                  refine sm_if (cI_eq rfl (show (nI 0).toInt = 0 by decide)) ?_ ?_
                                                  · refine sm_aldL (show (nI 0).toInt = 0 by decide) (fun v1441 => ?_)
                                                    refine sm_if (cI_eq (tl_cmp rfl (tc_i2l rfl)) (show (nI 0).toInt = 0 by decide)) ?_ ?_
                                                    · exact hk1451
                                                    · exact hQj _ _ (show (nI 0).toInt = 0 by decide)
                                                  · exact hk1451
                                                · exact hQj _ _ (show (nI 0).toInt = 0 by decide)
                                              · refine sm_if (cI_eq (tc_and rfl (show (nI 63).toInt = 63 by decide)) (show (nI 21).toInt = 21 by decide)) ?_ ?_
                                                · refine sm_scr (tc_add rfl (show (nI 1).toInt = 1 by decide)) (fun v1460 => ?_)
                                                  refine sm_bud (fun mc1462 ms1462 => ?_)
                                                  refine sm_X0_breaks mc1462 ms1462 v0 _ _ rfl v17 _ _ ?_
                                                  intro v1462 v1462' hv1462
                                                  subst hv1462
                                                  refine sm_scr (tc_add rfl (show (nI 1).toInt = 1 by decide)) (fun v1473 => ?_)
                                                  refine sm_obj ?_
                                                  refine sm_X11_breaks v8 _ _ rfl _ _ ?_
                                                  intro v1474 v1474' hv1474
                                                  subst hv1474
                                                  refine sm_obj ?_
                                                  refine sm_X11_thrown v8 _ _ ?_
                                                  intro v1480 v1480' hv1480
                                                  subst hv1480
                                                  refine sm_if (cI_eq rfl rfl) ?_ ?_
                                                  · refine sm_join (fun (k1507 : JP) (k1507' : MP) => SM k1507 k1507') ?_ (fun k1507 k1507' hk1507 => ?_)
                                                    · exact hk2055 (bc_23 - mc1462) (bs_23 - ms1462)
                                                    refine sm_if (cI_eq rfl (show (nI 0).toInt = 0 by decide)) ?_ ?_
                                                    · refine sm_aldL (show (nI 0).toInt = 0 by decide) (fun v1497 => ?_)
                                                      refine sm_if (cI_eq (tl_cmp rfl (tc_i2l rfl)) (show (nI 0).toInt = 0 by decide)) ?_ ?_
                                                      · exact hk1507
                                                      · exact hQj _ _ (show (nI 0).toInt = 0 by decide)
                                                    · exact hk1507
                                                  · exact hQj _ _ (show (nI 0).toInt = 0 by decide)
                                                · refine sm_if (cI_eq (tc_and rfl (show (nI 63).toInt = 63 by decide)) (show (nI 22).toInt = 22 by decide)) ?_ ?_
                                                  · refine sm_scr (tc_add rfl (show (nI 1).toInt = 1 by decide)) (fun v1516 => ?_)
                                                    refine sm_bud (fun mc1518 ms1518 => ?_)
                                                    refine sm_X0_brief mc1518 ms1518 v0 _ _ rfl v17 _ _ ?_
                                                    intro v1518 v1518' hv1518
                                                    subst hv1518
                                                    refine sm_scr (tc_add rfl (show (nI 1).toInt = 1 by decide)) (fun v1529 => ?_)
                                                    refine sm_obj ?_
                                                    refine sm_X11_brief v8 _ _ rfl _ _ ?_
                                                    intro v1530 v1530' hv1530
                                                    subst hv1530
                                                    refine sm_obj ?_
                                                    refine sm_X11_thrown v8 _ _ ?_
                                                    intro v1536 v1536' hv1536
                                                    subst hv1536
                                                    refine sm_if (cI_eq rfl rfl) ?_ ?_
                                                    · refine sm_join (fun (k1563 : JP) (k1563' : MP) => SM k1563 k1563') ?_ (fun k1563 k1563' hk1563 => ?_)
                                                      · exact hk2055 (bc_23 - mc1518) (bs_23 - ms1518)
                                                      refine sm_if (cI_eq rfl (show (nI 0).toInt = 0 by decide)) ?_ ?_
                                                      · refine sm_aldL (show (nI 0).toInt = 0 by decide) (fun v1553 => ?_)
                                                        refine sm_if (cI_eq (tl_cmp rfl (tc_i2l rfl)) (show (nI 0).toInt = 0 by decide)) ?_ ?_
                                                        · exact hk1563
                                                        · exact hQj _ _ (show (nI 0).toInt = 0 by decide)
                                                      · exact hk1563
                                                    · exact hQj _ _ (show (nI 0).toInt = 0 by decide)
                                                  · refine sm_if (cI_eq (tc_and rfl (show (nI 63).toInt = 63 by decide)) (show (nI 23).toInt = 23 by decide)) ?_ ?_
                                                    · refine sm_obj ?_
                                                      refine sm_X1_part v0 _ _ ?_
                                                      intro v1567 v1567' hv1567
                                                      subst hv1567
                                                      refine sm_obj ?_
                                                      refine sm_X11_part v8 _ _ ?_
                                                      intro v1571 v1571' hv1571
                                                      subst hv1571
                                                      refine sm_if (cI_eq rfl rfl) ?_ ?_
                                                      · exact hk2055 bc_23 bs_23
                                                      · exact hQj _ _ (show (nI 0).toInt = 0 by decide)
                                                    · refine sm_if (cI_eq (tc_and rfl (show (nI 63).toInt = 63 by decide)) (show (nI 24).toInt = 24 by decide)) ?_ ?_
                                                      · refine sm_scr (tc_add rfl (show (nI 1).toInt = 1 by decide)) (fun v1585 => ?_)
                                                        refine sm_bud (fun mc1587 ms1587 => ?_)
                                                        refine sm_X0_best mc1587 ms1587 v0 _ _ rfl v17 _ _ ?_
                                                        intro v1587 v1587' hv1587
                                                        subst hv1587
                                                        refine sm_scr (tc_add rfl (show (nI 1).toInt = 1 by decide)) (fun v1598 => ?_)
                                                        refine sm_obj ?_
                                                        refine sm_X11_best v8 _ _ rfl _ _ ?_
                                                        intro v1599 v1599' hv1599
                                                        subst hv1599
                                                        refine sm_obj ?_
                                                        refine sm_X11_thrown v8 _ _ ?_
                                                        intro v1605 v1605' hv1605
                                                        subst hv1605
                                                        refine sm_if (cI_eq rfl rfl) ?_ ?_
                                                        · refine sm_join (fun (k1632 : JP) (k1632' : MP) => SM k1632 k1632') ?_ (fun k1632 k1632' hk1632 => ?_)
                                                          · exact hk2055 (bc_23 - mc1587) (bs_23 - ms1587)
                                                          refine sm_if (cI_eq rfl (show (nI 0).toInt = 0 by decide)) ?_ ?_
                                                          · refine sm_aldL (show (nI 0).toInt = 0 by decide) (fun v1622 => ?_)
                                                            refine sm_if (cI_eq (tl_cmp rfl (tc_i2l rfl)) (show (nI 0).toInt = 0 by decide)) ?_ ?_
                                                            · exact hk1632
                                                            · exact hQj _ _ (show (nI 0).toInt = 0 by decide)
                                                          · exact hk1632
                                                        · exact hQj _ _ (show (nI 0).toInt = 0 by decide)
                                                      · refine sm_if (cI_eq (tc_and rfl (show (nI 63).toInt = 63 by decide)) (show (nI 25).toInt = 25 by decide)) ?_ ?_
                                                        · refine sm_scr (tc_add rfl (show (nI 1).toInt = 1 by decide)) (fun v1641 => ?_)
                                                          refine sm_scr (tc_add rfl (show (nI 2).toInt = 2 by decide)) (fun v1647 => ?_)
                                                          refine sm_scr (tc_add rfl (show (nI 3).toInt = 3 by decide)) (fun v1653 => ?_)
                                                          refine sm_join (fun (k1662 : Int32 → JP) (k1662' : Int → MP) => ∀ (x0 : Int32) (X0 : Int), x0.toInt = X0 → SM (k1662 x0) (k1662' X0)) ?_ (fun k1662 k1662' hk1662 => ?_)
                                                          · intro s3_1662 s3_1662' hs3_1662
                                                            subst hs3_1662
                                                            refine sm_bud (fun mc1663 ms1663 => ?_)
                                                            refine sm_X0_odds mc1663 ms1663 v0 _ _ rfl _ _ rfl _ _ rfl v17 _ _ ?_
                                                            intro v1663 v1663' hv1663
                                                            subst hv1663
                                                            refine sm_scr (tc_add rfl (show (nI 1).toInt = 1 by decide)) (fun v1674 => ?_)
                                                            refine sm_scr (tc_add rfl (show (nI 2).toInt = 2 by decide)) (fun v1680 => ?_)
                                                            refine sm_scr (tc_add rfl (show (nI 3).toInt = 3 by decide)) (fun v1686 => ?_)
                                                            refine sm_join (fun (k1695 : Int32 → JP) (k1695' : Int → MP) => ∀ (x0 : Int32) (X0 : Int), x0.toInt = X0 → SM (k1695 x0) (k1695' X0)) ?_ (fun k1695 k1695' hk1695 => ?_)
                                                            · intro s3_1695 s3_1695' hs3_1695
                                                              subst hs3_1695
                                                              refine sm_obj ?_
                                                              refine sm_X11_odds v8 _ _ rfl _ _ rfl _ _ rfl _ _ ?_
                                                              intro v1695 v1695' hv1695
                                                              subst hv1695
                                                              refine sm_obj ?_
                                                              refine sm_X11_thrown v8 _ _ ?_
                                                              intro v1701 v1701' hv1701
                                                              subst hv1701
                                                              refine sm_if (cI_eq rfl rfl) ?_ ?_
                                                              · refine sm_join (fun (k1727 : JP) (k1727' : MP) => SM k1727 k1727') ?_ (fun k1727 k1727' hk1727 => ?_)
                                                                · exact hk2055 (bc_23 - mc1663) (bs_23 - ms1663)
                                                                refine sm_if (cI_eq rfl (show (nI 0).toInt = 0 by decide)) ?_ ?_
                                                                · refine sm_aldL (show (nI 0).toInt = 0 by decide) (fun v1718 => ?_)
                                                                  refine sm_if (cI_eq (tl_cmp rfl rfl) (show (nI 0).toInt = 0 by decide)) ?_ ?_
                                                                  · exact hk1727
                                                                  · exact hQj _ _ (show (nI 0).toInt = 0 by decide)
                                                                · exact hk1727
                                                              · exact hQj _ _ (show (nI 0).toInt = 0 by decide)
                                                            refine sm_if (cI_eq rfl (show (nI 0).toInt = 0 by decide)) ?_ ?_
                                                            · exact hk1695 _ _ (show (nI 0).toInt = 0 by decide)
                                                            · exact hk1695 _ _ (show (nI 1).toInt = 1 by decide)
                                                          refine sm_if (cI_eq rfl (show (nI 0).toInt = 0 by decide)) ?_ ?_
                                                          · exact hk1662 _ _ (show (nI 0).toInt = 0 by decide)
                                                          · exact hk1662 _ _ (show (nI 1).toInt = 1 by decide)
                                                        · refine sm_if (cI_eq (tc_and rfl (show (nI 63).toInt = 63 by decide)) (show (nI 26).toInt = 26 by decide)) ?_ ?_
                                                          · refine sm_scr (tc_add rfl (show (nI 1).toInt = 1 by decide)) (fun v1736 => ?_)
                                                            refine sm_scr (tc_add rfl (show (nI 2).toInt = 2 by decide)) (fun v1742 => ?_)
                                                            refine sm_scr (tc_add rfl (show (nI 3).toInt = 3 by decide)) (fun v1748 => ?_)
                                                            refine sm_join (fun (k1757 : Int32 → JP) (k1757' : Int → MP) => ∀ (x0 : Int32) (X0 : Int), x0.toInt = X0 → SM (k1757 x0) (k1757' X0)) ?_ (fun k1757 k1757' hk1757 => ?_)
                                                            · intro s3_1757 s3_1757' hs3_1757
                                                              subst hs3_1757
                                                              refine sm_bud (fun mc1758 ms1758 => ?_)
                                                              refine sm_X0_shared mc1758 ms1758 v0 _ _ rfl _ _ rfl _ _ rfl v17 _ _ ?_
                                                              intro v1758 v1758' hv1758
                                                              subst hv1758
                                                              refine sm_scr (tc_add rfl (show (nI 1).toInt = 1 by decide)) (fun v1769 => ?_)
                                                              refine sm_scr (tc_add rfl (show (nI 2).toInt = 2 by decide)) (fun v1775 => ?_)
                                                              refine sm_scr (tc_add rfl (show (nI 3).toInt = 3 by decide)) (fun v1781 => ?_)
                                                              refine sm_join (fun (k1790 : Int32 → JP) (k1790' : Int → MP) => ∀ (x0 : Int32) (X0 : Int), x0.toInt = X0 → SM (k1790 x0) (k1790' X0)) ?_ (fun k1790 k1790' hk1790 => ?_)
                                                              · intro s3_1790 s3_1790' hs3_1790
                                                                subst hs3_1790
                                                                refine sm_obj ?_
                                                                refine sm_X11_shared v8 _ _ rfl _ _ rfl _ _ rfl _ _ ?_
                                                                intro v1790 v1790' hv1790
                                                                subst hv1790
                                                                refine sm_obj ?_
                                                                refine sm_X11_thrown v8 _ _ ?_
                                                                intro v1796 v1796' hv1796
                                                                subst hv1796
                                                                refine sm_if (cI_eq rfl rfl) ?_ ?_
                                                                · refine sm_join (fun (k1823 : JP) (k1823' : MP) => SM k1823 k1823') ?_ (fun k1823 k1823' hk1823 => ?_)
                                                                  · exact hk2055 (bc_23 - mc1758) (bs_23 - ms1758)
                                                                  refine sm_if (cI_eq rfl (show (nI 0).toInt = 0 by decide)) ?_ ?_
                                                                  · refine sm_aldL (show (nI 0).toInt = 0 by decide) (fun v1813 => ?_)
                                                                    refine sm_if (cI_eq (tl_cmp rfl (tc_i2l rfl)) (show (nI 0).toInt = 0 by decide)) ?_ ?_
                                                                    · exact hk1823
                                                                    · exact hQj _ _ (show (nI 0).toInt = 0 by decide)
                                                                  · exact hk1823
                                                                · exact hQj _ _ (show (nI 0).toInt = 0 by decide)
                                                              refine sm_if (cI_eq rfl (show (nI 0).toInt = 0 by decide)) ?_ ?_
                                                              · exact hk1790 _ _ (show (nI 0).toInt = 0 by decide)
                                                              · exact hk1790 _ _ (show (nI 1).toInt = 1 by decide)
                                                            refine sm_if (cI_eq rfl (show (nI 0).toInt = 0 by decide)) ?_ ?_
                                                            · exact hk1757 _ _ (show (nI 0).toInt = 0 by decide)
                                                            · exact hk1757 _ _ (show (nI 1).toInt = 1 by decide)
                                                          · refine sm_if (cI_eq (tc_and rfl (show (nI 63).toInt = 63 by decide)) (show (nI 27).toInt = 27 by decide)) ?_ ?_
                                                            · refine sm_scr (tc_add rfl (show (nI 1).toInt = 1 by decide)) (fun v1832 => ?_)
                                                              refine sm_scr (tc_add rfl (show (nI 2).toInt = 2 by decide)) (fun v1838 => ?_)
                                                              refine sm_bud (fun mc1840 ms1840 => ?_)
                                                              refine sm_X0_alike mc1840 ms1840 v0 _ _ rfl _ _ rfl v17 _ _ ?_
                                                              intro v1840 v1840' hv1840
                                                              subst hv1840
                                                              refine sm_scr (tc_add rfl (show (nI 1).toInt = 1 by decide)) (fun v1851 => ?_)
                                                              refine sm_scr (tc_add rfl (show (nI 2).toInt = 2 by decide)) (fun v1857 => ?_)
                                                              refine sm_obj ?_
                                                              refine sm_X11_alike v8 _ _ rfl _ _ rfl _ _ ?_
                                                              intro v1858 v1858' hv1858
                                                              subst hv1858
                                                              refine sm_obj ?_
                                                              refine sm_X11_thrown v8 _ _ ?_
                                                              intro v1864 v1864' hv1864
                                                              subst hv1864
                                                              refine sm_if (cI_eq rfl rfl) ?_ ?_
                                                              · refine sm_join (fun (k1891 : JP) (k1891' : MP) => SM k1891 k1891') ?_ (fun k1891 k1891' hk1891 => ?_)
                                                                · exact hk2055 (bc_23 - mc1840) (bs_23 - ms1840)
                                                                refine sm_if (cI_eq rfl (show (nI 0).toInt = 0 by decide)) ?_ ?_
                                                                · refine sm_aldL (show (nI 0).toInt = 0 by decide) (fun v1881 => ?_)
                                                                  refine sm_if (cI_eq (tl_cmp rfl (tc_i2l rfl)) (show (nI 0).toInt = 0 by decide)) ?_ ?_
                                                                  · exact hk1891
                                                                  · exact hQj _ _ (show (nI 0).toInt = 0 by decide)
                                                                · exact hk1891
                                                              · exact hQj _ _ (show (nI 0).toInt = 0 by decide)
                                                            · refine sm_if (cI_eq (tc_and rfl (show (nI 63).toInt = 63 by decide)) (show (nI 28).toInt = 28 by decide)) ?_ ?_
                                                              · refine sm_scr (tc_add rfl (show (nI 1).toInt = 1 by decide)) (fun v1900 => ?_)
                                                                refine sm_bud (fun mc1902 ms1902 => ?_)
                                                                refine sm_X0_way mc1902 ms1902 v0 _ _ rfl v17 _ _ ?_
                                                                intro v1902 v1902' hv1902
                                                                subst hv1902
                                                                refine sm_scr (tc_add rfl (show (nI 1).toInt = 1 by decide)) (fun v1913 => ?_)
                                                                refine sm_obj ?_
                                                                refine sm_X11_way v8 _ _ rfl _ _ ?_
                                                                intro v1914 v1914' hv1914
                                                                subst hv1914
                                                                refine sm_obj ?_
                                                                refine sm_X11_thrown v8 _ _ ?_
                                                                intro v1920 v1920' hv1920
                                                                subst hv1920
                                                                refine sm_if (cI_eq rfl rfl) ?_ ?_
                                                                · refine sm_join (fun (k1947 : JP) (k1947' : MP) => SM k1947 k1947') ?_ (fun k1947 k1947' hk1947 => ?_)
                                                                  · exact hk2055 (bc_23 - mc1902) (bs_23 - ms1902)
                                                                  refine sm_if (cI_eq rfl (show (nI 0).toInt = 0 by decide)) ?_ ?_
                                                                  · refine sm_aldL (show (nI 0).toInt = 0 by decide) (fun v1937 => ?_)
                                                                    refine sm_if (cI_eq (tl_cmp rfl (tc_i2l rfl)) (show (nI 0).toInt = 0 by decide)) ?_ ?_
                                                                    · exact hk1947
                                                                    · exact hQj _ _ (show (nI 0).toInt = 0 by decide)
                                                                  · exact hk1947
                                                                · exact hQj _ _ (show (nI 0).toInt = 0 by decide)
                                                              · refine sm_if (cI_eq (tc_and rfl (show (nI 63).toInt = 63 by decide)) (show (nI 29).toInt = 29 by decide)) ?_ ?_
                                                                · refine sm_scr (tc_add rfl (show (nI 1).toInt = 1 by decide)) (fun v1956 => ?_)
                                                                  refine sm_bud (fun mc1958 ms1958 => ?_)
                                                                  refine sm_X0_cheaper mc1958 ms1958 v0 _ _ rfl v17 _ _ ?_
                                                                  intro v1958 v1958' hv1958
                                                                  subst hv1958
                                                                  refine sm_scr (tc_add rfl (show (nI 1).toInt = 1 by decide)) (fun v1969 => ?_)
                                                                  refine sm_obj ?_
                                                                  refine sm_X11_cheaper v8 _ _ rfl _ _ ?_
                                                                  intro v1970 v1970' hv1970
                                                                  subst hv1970
                                                                  refine sm_obj ?_
                                                                  refine sm_X11_thrown v8 _ _ ?_
                                                                  intro v1976 v1976' hv1976
                                                                  subst hv1976
                                                                  refine sm_if (cI_eq rfl rfl) ?_ ?_
                                                                  · refine sm_join (fun (k2003 : JP) (k2003' : MP) => SM k2003 k2003') ?_ (fun k2003 k2003' hk2003 => ?_)
                                                                    · exact hk2055 (bc_23 - mc1958) (bs_23 - ms1958)
                                                                    refine sm_if (cI_eq rfl (show (nI 0).toInt = 0 by decide)) ?_ ?_
                                                                    · refine sm_aldL (show (nI 0).toInt = 0 by decide) (fun v1993 => ?_)
                                                                      refine sm_if (cI_eq (tl_cmp rfl (tc_i2l rfl)) (show (nI 0).toInt = 0 by decide)) ?_ ?_
                                                                      · exact hk2003
                                                                      · exact hQj _ _ (show (nI 0).toInt = 0 by decide)
                                                                    · exact hk2003
                                                                  · exact hQj _ _ (show (nI 0).toInt = 0 by decide)
                                                                · refine sm_if (cI_eq (tc_and rfl (show (nI 63).toInt = 63 by decide)) (show (nI 30).toInt = 30 by decide)) ?_ ?_
                                                                  · refine sm_obj ?_
                                                                    refine sm_X1_image v0 _ _ ?_
                                                                    refine sm_obj ?_
                                                                    refine sm_X11_image v8 _ _ ?_
                                                                    exact hk2055 bc_23 bs_23
                                                                  · refine sm_if (cI_eq (tc_and rfl (show (nI 63).toInt = 63 by decide)) (show (nI 31).toInt = 31 by decide)) ?_ ?_
                                                                    · refine sm_obj ?_
                                                                      refine sm_X1_back v0 _ _ ?_
                                                                      intro v2018 v2018' hv2018
                                                                      subst hv2018
                                                                      refine sm_obj ?_
                                                                      refine sm_X11_back v8 _ _ ?_
                                                                      intro v2022 v2022' hv2022
                                                                      subst hv2022
                                                                      refine sm_if (cI_eq rfl rfl) ?_ ?_
                                                                      · exact hk2055 bc_23 bs_23
                                                                      · exact hQj _ _ (show (nI 0).toInt = 0 by decide)
                                                                    · refine sm_if (cI_eq (tc_and rfl (show (nI 63).toInt = 63 by decide)) (show (nI 32).toInt = 32 by decide)) ?_ ?_
                                                                      · refine sm_scr (tc_add rfl (show (nI 1).toInt = 1 by decide)) (fun v2036 => ?_)
                                                                        refine sm_obj ?_
                                                                        refine sm_X1_count v0 _ _ rfl _ _ ?_
                                                                        intro v2037 v2037' hv2037
                                                                        subst hv2037
                                                                        refine sm_scr (tc_add rfl (show (nI 1).toInt = 1 by decide)) (fun v2046 => ?_)
                                                                        refine sm_obj ?_
                                                                        refine sm_X11_count v8 _ _ rfl _ _ ?_
                                                                        intro v2047 v2047' hv2047
                                                                        subst hv2047
                                                                        refine sm_if (cI_eq rfl rfl) ?_ ?_
                                                                        · exact hk2055 bc_23 bs_23
                                                                        · exact hQj _ _ (show (nI 0).toInt = 0 by decide)
                                                                      · exact hk2055 bc_23 bs_23
theorem sm_L_law (sK : Nat → Nat) : ∀ (x0 : Nat), ∀ (x1 : Nat), ∀ (x2 : Nat), ∀ (x3 : Nat → Int32), ∀ (x4 : Nat), ∀ (x5 : Int32 → JP) (X5 : Int → MP), (∀ (x0 : Int32) (X0 : Int), x0.toInt = X0 → SM (x5 x0) (X5 X0)) → x4 < 2 ^ 31 → SM ((JL_law sK) x0 x1 x2 x3 x4 x5) ((ML_law sK) x0 x1 x2 x3 x4 X5) := by
  intro bc bs p0 xs Ln Qj Qj' hQj hLn
  unfold JL_law ML_law
  refine sm_new rfl rfl (fun v0 => ?_)
  refine sm_bud (fun mc4 ms4 => ?_)
  refine sm_X1_init sK mc4 ms4 v0 _ _ ?_
  refine sm_new rfl rfl (fun v8 => ?_)
  refine sm_bud (fun mc12 ms12 => ?_)
  refine sm_X11_init mc12 ms12 v8 _ _ ?_
  refine sm_newL (show (nI 1).toInt = 1 by decide) (fun v17 => ?_)
  refine sm_ex (fun n23 => ?_)
  refine smFL_law_23 sK xs Ln hLn hQj v0 v8 v17 n23 _ _ (show (nI 0).toInt = 0 by decide) (((((bc - 1) - mc4) - 1) - mc12) - 1) (((((bs - 18) - ms4) - 52) - ms12) - (nI 1).toNatClampNeg)
