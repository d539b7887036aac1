set_option maxRecDepth 100000
theorem nmFX11_feed_60 {b : Nat} {w : Mu} (hM : MOK b w) {k106 : MP} {k106' : NP} (hk106 : NM b w k106 k106') : ∀ n : Nat, ∀ (x0 : Int), NM b w (jit (GX11_feed_60 b k106) (fun _ => mbot) n x0) (jit (HX11_feed_60 k106') (fun _ => nbot) n x0) := by
  intro n
  induction n with
  | zero =>
    intro x6_60
    exact NM.bot
  | succ n ih =>
    intro x6_60
    show NM b w (GX11_feed_60 b k106 (jit (GX11_feed_60 b k106) (fun _ => mbot) n) x6_60) (HX11_feed_60 k106' (jit (HX11_feed_60 k106') (fun _ => nbot) n) x6_60)
    generalize jit (GX11_feed_60 b k106) (fun _ => mbot) n = rec60 at ih ⊢
    generalize jit (HX11_feed_60 k106') (fun _ => nbot) n = rec60' at ih ⊢
    have hrec60 := ih
    unfold GX11_feed_60 HX11_feed_60
    refine nm_if ?_ ?_
    · exact hk106
    · refine nm_getA hM (j := 3) (by decide) ?_
      refine nm_getI hM (fun v72 => ?_)
      refine nm_getA hM (j := 4) (by decide) ?_
      refine nm_aldI hM (t := 0) (by decide) (fun v86 => ?_)
      refine nm_ast hM (t := 2) (by decide) ?_
      exact hrec60 (w32 (x6_60 + 1))
theorem nm_X11_feed {b : Nat} {w : Mu} (hM : MOK b w) : ∀ (x0 : Int), ∀ (x1 : Int), ∀ (x2 : Int), ∀ (x3 : Int), ∀ (x4 : Int), ∀ (x5 : Int → MP) (X5 : Int → NP), (∀ (y0 : Int), NM b w (x5 y0) (X5 y0)) → NM b w ((MX11_feed b) x0 x1 x2 x3 x4 x5) (NX11_feed x0 x1 x2 x3 x4 X5) := by
  intro p1 p2 p3 p4 p5 Qj Qj' hQj
  unfold MX11_feed NX11_feed
  refine nm_putI hM ?_
  refine nm_getI hM (fun v6 => ?_)
  refine nm_if ?_ ?_
  · refine nm_getA hM (j := 4) (by decide) ?_
    refine nm_ast hM (t := 0) (by decide) ?_
    refine nm_getA hM (j := 4) (by decide) ?_
    refine nm_ast hM (t := 0) (by decide) ?_
    refine nm_getA hM (j := 4) (by decide) ?_
    refine nm_ast hM (t := 0) (by decide) ?_
    refine nm_getA hM (j := 4) (by decide) ?_
    refine nm_ast hM (t := 0) (by decide) ?_
    refine nm_getA hM (j := 4) (by decide) ?_
    refine nm_ast hM (t := 0) (by decide) ?_
    refine nm_ex (fun n60 => ?_)
    refine nmFX11_feed_60 hM ?_ n60 0
    · refine nm_getI hM (fun v108 => ?_)
      refine nm_putI hM ?_
      refine nm_getI hM (fun v118 => ?_)
      exact hQj v118
  · exact hQj (-1)
theorem nm_X11_end {b : Nat} {w : Mu} (hM : MOK b w) : ∀ (x0 : Int), ∀ (x1 : Int → MP) (X1 : Int → NP), (∀ (y0 : Int), NM b w (x1 y0) (X1 y0)) → NM b w ((MX11_end b) x0 x1) (NX11_end x0 X1) := by
  intro p1 Qj Qj' hQj
  unfold MX11_end NX11_end
  refine nm_putI hM ?_
  refine nm_if ?_ ?_
  · exact hQj 0
  · refine nm_getI hM (fun v11 => ?_)
    refine nm_if ?_ ?_
    · refine nm_putI hM ?_
      exact hQj 1
    · exact hQj 0
theorem nm_X11_isAt {b : Nat} {w : Mu} (hM : MOK b w) : ∀ (x0 : Int), ∀ (x1 : Int), ∀ (x2 : Int → MP) (X2 : Int → NP), (∀ (y0 : Int), NM b w (x2 y0) (X2 y0)) → NM b w ((MX11_isAt b) x0 x1 x2) (NX11_isAt x0 x1 X2) := by
  intro p1 p2 Qj Qj' hQj
  unfold MX11_isAt NX11_isAt
  refine nm_getI hM (fun v1 => ?_)
  refine nm_getI hM (fun v5 => ?_)
  refine nm_join (fun (k41 : MP) (k41' : NP) => NM b w k41 k41') ?_ (fun k41 k41' hk41 => ?_)
  · exact hQj 0
  refine nm_if ?_ ?_
  · exact hk41
  · refine nm_getA hM (j := 3) (by decide) ?_
    refine nm_getI hM (fun v16 => ?_)
    refine nm_aldI hM (t := 2) (by decide) (fun v19 => ?_)
    refine nm_if ?_ ?_
    · exact hk41
    · refine nm_getA hM (j := 3) (by decide) ?_
      refine nm_getI hM (fun v29 => ?_)
      refine nm_aldI hM (t := 2) (by decide) (fun v32 => ?_)
      refine nm_if ?_ ?_
      · exact hk41
      · exact hQj 1
theorem nmFX11_blanks_0 {b : Nat} {w : Mu} (hM : MOK b w) {k24 : MP} {k24' : NP} (hk24 : NM b w k24 k24') : ∀ n : Nat, NM b w (jit (GX11_blanks_0 b k24) mbot n) (jit (HX11_blanks_0 k24') nbot n) := by
  intro n
  induction n with
  | zero =>
    exact NM.bot
  | succ n ih =>
    show NM b w (GX11_blanks_0 b k24 (jit (GX11_blanks_0 b k24) mbot n)) (HX11_blanks_0 k24' (jit (HX11_blanks_0 k24') nbot n))
    generalize jit (GX11_blanks_0 b k24) mbot n = rec0 at ih ⊢
    generalize jit (HX11_blanks_0 k24') nbot n = rec0' at ih ⊢
    have hrec0 := ih
    unfold GX11_blanks_0 HX11_blanks_0
    refine nm_obj hM ?_
    refine nm_X11_isAt hM 32 32 _ _ ?_
    intro v5
    refine nm_if ?_ ?_
    · exact hk24
    · refine nm_getI hM (fun v13 => ?_)
      refine nm_putI hM ?_
      exact hrec0
theorem nm_X11_blanks {b : Nat} {w : Mu} (hM : MOK b w) : ∀ (x0 : MP) (X0 : NP), NM b w x0 X0 → NM b w ((MX11_blanks b) x0) (NX11_blanks X0) := by
  intro Qj Qj' hQj
  unfold MX11_blanks NX11_blanks
  refine nm_ex (fun n0 => ?_)
  refine nmFX11_blanks_0 hM ?_ n0
  · refine nm_getI hM (fun v26 => ?_)
    refine nm_putI hM ?_
    exact hQj
theorem nmFX11_letters_4 {b : Nat} {w : Mu} (hM : MOK b w) {Qj : MP} {Qj' : NP} (hQj : NM b w Qj Qj') : ∀ n : Nat, NM b w (jit (GX11_letters_4 b Qj) mbot n) (jit (HX11_letters_4 Qj') nbot n) := by
  intro n
  induction n with
  | zero =>
    exact NM.bot
  | succ n ih =>
    show NM b w (GX11_letters_4 b Qj (jit (GX11_letters_4 b Qj) mbot n)) (HX11_letters_4 Qj' (jit (HX11_letters_4 Qj') nbot n))
    generalize jit (GX11_letters_4 b Qj) mbot n = rec4 at ih ⊢
    generalize jit (HX11_letters_4 Qj') nbot n = rec4' at ih ⊢
    have hrec4 := ih
    unfold GX11_letters_4 HX11_letters_4
    refine nm_obj hM ?_
    refine nm_X11_isAt hM 97 122 _ _ ?_
    intro v9
    refine nm_if ?_ ?_
    · exact hQj
    · refine nm_getI hM (fun v17 => ?_)
      refine nm_putI hM ?_
      exact hrec4
theorem nm_X11_letters {b : Nat} {w : Mu} (hM : MOK b w) : ∀ (x0 : MP) (X0 : NP), NM b w x0 X0 → NM b w ((MX11_letters b) x0) (NX11_letters X0) := by
  intro Qj Qj' hQj
  unfold MX11_letters NX11_letters
  refine nm_obj hM ?_
  refine nm_X11_blanks hM _ _ ?_
  refine nm_ex (fun n4 => ?_)
  exact nmFX11_letters_4 hM hQj n4
theorem nmFX11_isWord_24 {b : Nat} {w : Mu} (hM : MOK b w) (sK : Nat → Nat) (p1 : Nat) {Qj : Int → MP} {Qj' : Int → NP} (hQj : ∀ (x0 : Int), NM b w (Qj x0) (Qj' x0)) : ∀ n : Nat, ∀ (x0 : Int), ∀ (x1 : Int), NM b w (jit (GX11_isWord_24 sK b p1 Qj) (fun _ _ => mbot) n x0 x1) (jit (HX11_isWord_24 sK p1 Qj') (fun _ _ => nbot) n x0 x1) := by
  intro n
  induction n with
  | zero =>
    intro x2_24 x3_24
    exact NM.bot
  | succ n ih =>
    intro x2_24 x3_24
    show NM b w (GX11_isWord_24 sK b p1 Qj (jit (GX11_isWord_24 sK b p1 Qj) (fun _ _ => mbot) n) x2_24 x3_24) (HX11_isWord_24 sK p1 Qj' (jit (HX11_isWord_24 sK p1 Qj') (fun _ _ => nbot) n) x2_24 x3_24)
    generalize jit (GX11_isWord_24 sK b p1 Qj) (fun _ _ => mbot) n = rec24 at ih ⊢
    generalize jit (HX11_isWord_24 sK p1 Qj') (fun _ _ => nbot) n = rec24' at ih ⊢
    have hrec24 := ih
    unfold GX11_isWord_24 HX11_isWord_24
    refine nm_if ?_ ?_
    · refine nm_and ?_
      exact hQj x2_24
    · refine nm_slen (fun v30 => ?_)
      refine nm_if ?_ ?_
      · refine nm_and ?_
        exact hQj x2_24
      · refine nm_getA hM (j := 3) (by decide) ?_
        refine nm_getI hM (fun v41 => ?_)
        refine nm_aldI hM (t := 2) (by decide) (fun v46 => ?_)
        refine nm_schr (fun v49 => ?_)
        refine nm_join (fun (k60 : Int → MP) (k60' : Int → NP) => ∀ (x0 : Int), NM b w (k60 x0) (k60' x0)) ?_ (fun k60 k60' hk60 => ?_)
        · intro s0_60
          exact hrec24 s0_60 (w32 (x3_24 + 1))
        refine nm_if ?_ ?_
        · exact hk60 1
        · exact hk60 0
theorem nm_X11_isWord {b : Nat} {w : Mu} (hM : MOK b w) (sK : Nat → Nat) : ∀ (x0 : Nat), ∀ (x1 : Int → MP) (X1 : Int → NP), (∀ (y0 : Int), NM b w (x1 y0) (X1 y0)) → NM b w ((MX11_isWord sK b) x0 x1) ((NX11_isWord sK) x0 X1) := by
  intro p1 Qj Qj' hQj
  unfold MX11_isWord NX11_isWord
  refine nm_getI hM (fun v1 => ?_)
  refine nm_getI hM (fun v5 => ?_)
  refine nm_slen (fun v10 => ?_)
  refine nm_join (fun (k21 : Int → MP) (k21' : Int → NP) => ∀ (x0 : Int), NM b w (k21 x0) (k21' x0)) ?_ (fun k21 k21' hk21 => ?_)
  · intro s0_21
    refine nm_ex (fun n24 => ?_)
    exact nmFX11_isWord_24 hM sK p1 hQj n24 s0_21 0
  refine nm_if ?_ ?_
  · exact hk21 1
  · exact hk21 0
theorem nmFX11_number_6 {b : Nat} {w : Mu} (hM : MOK b w) {k65 : Int → MP} {k65' : Int → NP} (hk65 : ∀ (x0 : Int), NM b w (k65 x0) (k65' x0)) : ∀ n : Nat, ∀ (x0 : Int), NM b w (jit (GX11_number_6 b k65) (fun _ => mbot) n x0) (jit (HX11_number_6 k65') (fun _ => nbot) n x0) := by
  intro n
  induction n with
  | zero =>
    intro x3_6
    exact NM.bot
  | succ n ih =>
    intro x3_6
    show NM b w (GX11_number_6 b k65 (jit (GX11_number_6 b k65) (fun _ => mbot) n) x3_6) (HX11_number_6 k65' (jit (HX11_number_6 k65') (fun _ => nbot) n) x3_6)
    generalize jit (GX11_number_6 b k65) (fun _ => mbot) n = rec6 at ih ⊢
    generalize jit (HX11_number_6 k65') (fun _ => nbot) n = rec6' at ih ⊢
    have hrec6 := ih
    unfold GX11_number_6 HX11_number_6
    refine nm_obj hM ?_
    refine nm_X11_isAt hM 48 57 _ _ ?_
    intro v11
    refine nm_if ?_ ?_
    · exact hk65 x3_6
    · refine nm_getI hM (fun v18 => ?_)
      refine nm_getI hM (fun v22 => ?_)
      refine nm_join (fun (k51 : Int → MP) (k51' : Int → NP) => ∀ (x0 : Int), NM b w (k51 x0) (k51' x0)) ?_ (fun k51 k51' hk51 => ?_)
      · intro s0_51
        refine nm_getI hM (fun v54 => ?_)
        refine nm_putI hM ?_
        exact hrec6 s0_51
      refine nm_if ?_ ?_
      · exact hk51 x3_6
      · refine nm_getA hM (j := 3) (by decide) ?_
        refine nm_getI hM (fun v39 => ?_)
        refine nm_aldI hM (t := 2) (by decide) (fun v42 => ?_)
        exact hk51 (w32 ((w32 ((w32 (10 * x3_6)) + v42)) - 48))
theorem nm_X11_number {b : Nat} {w : Mu} (hM : MOK b w) : ∀ (x0 : Int), ∀ (x1 : Int), ∀ (x2 : Int → MP) (X2 : Int → NP), (∀ (y0 : Int), NM b w (x2 y0) (X2 y0)) → NM b w ((MX11_number b) x0 x1 x2) (NX11_number x0 x1 X2) := by
  intro p1 p2 Qj Qj' hQj
  unfold MX11_number NX11_number
  refine nm_obj hM ?_
  refine nm_X11_blanks hM _ _ ?_
  refine nm_ex (fun n6 => ?_)
  refine nmFX11_number_6 hM ?_ n6 0
  · intro y3_65
    refine nm_getI hM (fun v66 => ?_)
    refine nm_getI hM (fun v70 => ?_)
    refine nm_join (fun (k99 : MP) (k99' : NP) => NM b w k99 k99') ?_ (fun k99 k99' hk99 => ?_)
    · exact hQj (-1)
    refine nm_if ?_ ?_
    · exact hk99
    · refine nm_getI hM (fun v77 => ?_)
      refine nm_getI hM (fun v81 => ?_)
      refine nm_if ?_ ?_
      · exact hk99
      · refine nm_if ?_ ?_
        · exact hk99
        · refine nm_if ?_ ?_
          · exact hQj y3_65
          · exact hk99
theorem nm_X11_readKindLine {b : Nat} {w : Mu} (hM : MOK b w) (sK : Nat → Nat) : ∀ (x0 : Int), ∀ (x1 : Int → MP) (X1 : Int → NP), (∀ (y0 : Int), NM b w (x1 y0) (X1 y0)) → NM b w ((MX11_readKindLine sK b) x0 x1) ((NX11_readKindLine sK) x0 X1) := by
  intro p1 Qj Qj' hQj
  unfold MX11_readKindLine NX11_readKindLine
  refine nm_obj hM ?_
  refine nm_X11_isWord hM sK (sK 4) _ _ ?_
  intro v3
  refine nm_join (fun (k66 : Int → MP) (k66' : Int → NP) => ∀ (x0 : Int), NM b w (k66 x0) (k66' x0)) ?_ (fun k66 k66' hk66 => ?_)
  · intro s0_66
    refine nm_getA hM (j := 5) (by decide) ?_
    refine nm_ast hM (t := 0) (by decide) ?_
    refine nm_getA hM (j := 5) (by decide) ?_
    refine nm_join (fun (k104 : Int → MP) (k104' : Int → NP) => ∀ (x0 : Int), NM b w (k104 x0) (k104' x0)) ?_ (fun k104 k104' hk104 => ?_)
    · intro s2_104
      refine nm_ast hM (t := 0) (by decide) ?_
      refine nm_join (fun (k126 : MP) (k126' : NP) => NM b w k126 k126') ?_ (fun k126 k126' hk126 => ?_)
      · exact hQj 0
      refine nm_if ?_ ?_
      · exact hk126
      · refine nm_getA hM (j := 5) (by decide) ?_
        refine nm_aldI hM (t := 0) (by decide) (fun v118 => ?_)
        refine nm_if ?_ ?_
        · exact hk126
        · exact hQj 1
    refine nm_join (fun (k103 : MP) (k103' : NP) => NM b w k103 k103') ?_ (fun k103 k103' hk103 => ?_)
    · exact hk104 0
    refine nm_if ?_ ?_
    · exact hk103
    · refine nm_if ?_ ?_
      · exact hk103
      · refine nm_obj hM ?_
        refine nm_X11_number hM 1 5 _ _ ?_
        intro v97
        exact hk104 v97
  refine nm_if ?_ ?_
  · refine nm_obj hM ?_
    refine nm_X11_isWord hM sK (sK 5) _ _ ?_
    intro v16
    refine nm_if ?_ ?_
    · refine nm_obj hM ?_
      refine nm_X11_isWord hM sK (sK 6) _ _ ?_
      intro v29
      refine nm_if ?_ ?_
      · refine nm_obj hM ?_
        refine nm_X11_isWord hM sK (sK 7) _ _ ?_
        intro v42
        refine nm_if ?_ ?_
        · refine nm_obj hM ?_
          refine nm_X11_isWord hM sK (sK 8) _ _ ?_
          intro v55
          refine nm_if ?_ ?_
          · exact hk66 (-1)
          · exact hk66 4
        · exact hk66 3
      · exact hk66 2
    · exact hk66 1
  · exact hk66 0
theorem nm_X11_keepsAt {b : Nat} {w : Mu} (hM : MOK b w) : ∀ (x0 : Int), ∀ (x1 : Int), ∀ (x2 : Int → MP) (X2 : Int → NP), (∀ (y0 : Int), NM b w (x2 y0) (X2 y0)) → NM b w ((MX11_keepsAt b) x0 x1 x2) (NX11_keepsAt x0 x1 X2) := by
  intro p1 p2 Qj Qj' hQj
  unfold MX11_keepsAt NX11_keepsAt
  refine nm_getA hM (j := 1) (by decide) ?_
  refine nm_ast hM (t := 0) (by decide) ?_
  refine nm_if ?_ ?_
  · exact hQj 0
  · exact hQj 1
theorem nm_X11_sign {b : Nat} {w : Mu} (hM : MOK b w) : ∀ (x0 : Int), ∀ (x1 : Int → MP) (X1 : Int → NP), (∀ (y0 : Int), NM b w (x1 y0) (X1 y0)) → NM b w ((MX11_sign b) x0 x1) (NX11_sign x0 X1) := by
  intro p1 Qj Qj' hQj
  unfold MX11_sign NX11_sign
  refine nm_obj hM ?_
  refine nm_X11_blanks hM _ _ ?_
  refine nm_obj hM ?_
  refine nm_X11_isAt hM p1 p1 _ _ ?_
  intro v7
  refine nm_if ?_ ?_
  · exact hQj 0
  · refine nm_getI hM (fun v17 => ?_)
    refine nm_putI hM ?_
    exact hQj 1
theorem nm_X11_factAt {b : Nat} {w : Mu} (hM : MOK b w) (sK : Nat → Nat) : ∀ (x0 : Int → MP) (X0 : Int → NP), (∀ (y0 : Int), NM b w (x0 y0) (X0 y0)) → NM b w ((MX11_factAt sK b) x0) ((NX11_factAt sK) X0) := by
  intro Qj Qj' hQj
  unfold MX11_factAt NX11_factAt
  refine nm_obj hM ?_
  refine nm_X11_isWord hM sK (sK 0) _ _ ?_
  intro v3
  refine nm_if ?_ ?_
  · refine nm_obj hM ?_
    refine nm_X11_isWord hM sK (sK 1) _ _ ?_
    intro v16
    refine nm_if ?_ ?_
    · refine nm_obj hM ?_
      refine nm_X11_isWord hM sK (sK 2) _ _ ?_
      intro v29
      refine nm_if ?_ ?_
      · refine nm_obj hM ?_
        refine nm_X11_isWord hM sK (sK 3) _ _ ?_
        intro v42
        refine nm_if ?_ ?_
        · exact hQj (-1)
        · exact hQj 3
      · exact hQj 2
    · exact hQj 1
  · exact hQj 0
theorem nm_X11_passes {b : Nat} {w : Mu} (hM : MOK b w) (sK : Nat → Nat) : ∀ (x0 : Nat), ∀ (x1 : Int → MP) (X1 : Int → NP), (∀ (y0 : Int), NM b w (x1 y0) (X1 y0)) → NM b w ((MX11_passes sK b) x0 x1) ((NX11_passes sK) x0 X1) := by
  intro p1 Qj Qj' hQj
  unfold MX11_passes NX11_passes
  refine nm_obj hM ?_
  refine nm_X11_letters hM _ _ ?_
  refine nm_obj hM ?_
  refine nm_X11_isWord hM sK p1 _ _ ?_
  intro v6
  refine nm_if ?_ ?_
  · refine nm_getI hM (fun v16 => ?_)
    refine nm_putI hM ?_
    exact hQj 0
  · exact hQj 1
theorem nm_X11_emits {b : Nat} {w : Mu} (hM : MOK b w) : ∀ (x0 : Int), ∀ (x1 : Int), ∀ (x2 : MP) (X2 : NP), NM b w x2 X2 → NM b w ((MX11_emits b) x0 x1 x2) (NX11_emits x0 x1 X2) := by
  intro p1 p2 Qj Qj' hQj
  unfold MX11_emits NX11_emits
  refine nm_getI hM (fun v5 => ?_)
  refine nm_getA hM (j := 1) (by decide) ?_
  refine nm_ast hM (t := 0) (by decide) ?_
  refine nm_getA hM (j := 1) (by decide) ?_
  refine nm_ast hM (t := 0) (by decide) ?_
  refine nm_getI hM (fun v29 => ?_)
  refine nm_putI hM ?_
  exact hQj
theorem nm_X11_readPart {b : Nat} {w : Mu} (hM : MOK b w) (sK : Nat → Nat) : ∀ (x0 : Int → MP) (X0 : Int → NP), (∀ (y0 : Int), NM b w (x0 y0) (X0 y0)) → NM b w ((MX11_readPart sK b) x0) ((NX11_readPart sK) X0) := by
  intro Qj Qj' hQj
  unfold MX11_readPart NX11_readPart
  refine nm_obj hM ?_
  refine nm_X11_letters hM _ _ ?_
  refine nm_getI hM (fun v7 => ?_)
  refine nm_getI hM (fun v11 => ?_)
  refine nm_join (fun (k47 : Int → MP) (k47' : Int → NP) => ∀ (x0 : Int), NM b w (k47 x0) (k47' x0)) ?_ (fun k47 k47' hk47 => ?_)
  · intro x1_47
    refine nm_if ?_ ?_
    · exact hQj 0
    · exact hQj 1
  refine nm_if ?_ ?_
  · refine nm_obj hM ?_
    refine nm_X11_number hM 0 999 _ _ ?_
    intro v36
    refine nm_obj hM ?_
    refine nm_X11_emits hM 6 v36 _ _ ?_
    exact hk47 v36
  · refine nm_obj hM ?_
    refine nm_X11_factAt hM sK _ _ ?_
    intro v18
    refine nm_obj hM ?_
    refine nm_X11_emits hM v18 0 _ _ ?_
    exact hk47 v18
theorem nmFX11_readSum_9 {b : Nat} {w : Mu} (hM : MOK b w) (sK : Nat → Nat) {Qj : Int → MP} {Qj' : Int → NP} (hQj : ∀ (x0 : Int), NM b w (Qj x0) (Qj' x0)) : ∀ n : Nat, NM b w (jit (GX11_readSum_9 sK b Qj) mbot n) (jit (HX11_readSum_9 sK Qj') nbot n) := by
  intro n
  induction n with
  | zero =>
    exact NM.bot
  | succ n ih =>
    show NM b w (GX11_readSum_9 sK b Qj (jit (GX11_readSum_9 sK b Qj) mbot n)) (HX11_readSum_9 sK Qj' (jit (HX11_readSum_9 sK Qj') nbot n))
    generalize jit (GX11_readSum_9 sK b Qj) mbot n = rec9 at ih ⊢
    generalize jit (HX11_readSum_9 sK Qj') nbot n = rec9' at ih ⊢
    have hrec9 := ih
    unfold GX11_readSum_9 HX11_readSum_9
    refine nm_obj hM ?_
    refine nm_X11_sign hM 43 _ _ ?_
    intro v12
    refine nm_if ?_ ?_
    · exact hQj 1
    · refine nm_obj hM ?_
      refine nm_X11_readPart hM sK _ _ ?_
      intro v19
      refine nm_if ?_ ?_
      · exact hQj 0
      · refine nm_obj hM ?_
        exact nm_X11_emits hM 7 0 _ _ hrec9
theorem nm_X11_readSum {b : Nat} {w : Mu} (hM : MOK b w) (sK : Nat → Nat) : ∀ (x0 : Int → MP) (X0 : Int → NP), (∀ (y0 : Int), NM b w (x0 y0) (X0 y0)) → NM b w ((MX11_readSum sK b) x0) ((NX11_readSum sK) X0) := by
  intro Qj Qj' hQj
  unfold MX11_readSum NX11_readSum
  refine nm_obj hM ?_
  refine nm_X11_readPart hM sK _ _ ?_
  intro v1
  refine nm_if ?_ ?_
  · exact hQj 0
  · refine nm_ex (fun n9 => ?_)
    exact nmFX11_readSum_9 hM sK hQj n9
theorem nmFX11_readAllOf_9 {b : Nat} {w : Mu} (hM : MOK b w) (sK : Nat → Nat) {rJX11_readAtom : Nat → (Int → MP) → MP} {rJX11_readAtom' : (Int → NP) → NP} (hrJX11_readAtom : ∀ (x0 : Int → MP) (X0 : Int → NP), (∀ (y0 : Int), NM b w (x0 y0) (X0 y0)) → NM b w (rJX11_readAtom b x0) (rJX11_readAtom' X0)) {Qj : Int → MP} {Qj' : Int → NP} (hQj : ∀ (x0 : Int), NM b w (Qj x0) (Qj' x0)) : ∀ n : Nat, NM b w (jit (GX11_readAllOf_9 sK rJX11_readAtom b Qj) mbot n) (jit (HX11_readAllOf_9 sK rJX11_readAtom' Qj') nbot n) := by
  intro n
  induction n with
  | zero =>
    exact NM.bot
  | succ n ih =>
    show NM b w (GX11_readAllOf_9 sK rJX11_readAtom b Qj (jit (GX11_readAllOf_9 sK rJX11_readAtom b Qj) mbot n)) (HX11_readAllOf_9 sK rJX11_readAtom' Qj' (jit (HX11_readAllOf_9 sK rJX11_readAtom' Qj') nbot n))
    generalize jit (GX11_readAllOf_9 sK rJX11_readAtom b Qj) mbot n = rec9 at ih ⊢
    generalize jit (HX11_readAllOf_9 sK rJX11_readAtom' Qj') nbot n = rec9' at ih ⊢
    have hrec9 := ih
    unfold GX11_readAllOf_9 HX11_readAllOf_9
    refine nm_obj hM ?_
    refine nm_X11_passes hM sK (sK 11) _ _ ?_
    intro v12
    refine nm_if ?_ ?_
    · exact hQj 1
    · refine nm_obj hM ?_
      refine hrJX11_readAtom _ _ ?_
      intro v19
      refine nm_if ?_ ?_
      · exact hQj 0
      · refine nm_obj hM ?_
        exact nm_X11_emits hM 11 0 _ _ hrec9
theorem nm_X11_readAllOfF {b : Nat} {w : Mu} (hM : MOK b w) (sK : Nat → Nat) {rJX11_readAllOf : Nat → (Int → MP) → MP} {rJX11_readAllOf' : (Int → NP) → NP} (hrJX11_readAllOf : ∀ (x0 : Int → MP) (X0 : Int → NP), (∀ (y0 : Int), NM b w (x0 y0) (X0 y0)) → NM b w (rJX11_readAllOf b x0) (rJX11_readAllOf' X0)) {rJX11_readAtom : Nat → (Int → MP) → MP} {rJX11_readAtom' : (Int → NP) → NP} (hrJX11_readAtom : ∀ (x0 : Int → MP) (X0 : Int → NP), (∀ (y0 : Int), NM b w (x0 y0) (X0 y0)) → NM b w (rJX11_readAtom b x0) (rJX11_readAtom' X0)) {rJX11_readCond : Nat → (Int → MP) → MP} {rJX11_readCond' : (Int → NP) → NP} (hrJX11_readCond : ∀ (x0 : Int → MP) (X0 : Int → NP), (∀ (y0 : Int), NM b w (x0 y0) (X0 y0)) → NM b w (rJX11_readCond b x0) (rJX11_readCond' X0)) : ∀ (x0 : Int → MP) (X0 : Int → NP), (∀ (y0 : Int), NM b w (x0 y0) (X0 y0)) → NM b w ((MX11_readAllOfF sK rJX11_readAllOf rJX11_readAtom rJX11_readCond b) x0) ((NX11_readAllOfF sK rJX11_readAllOf' rJX11_readAtom' rJX11_readCond') X0) := by
  intro Qj Qj' hQj
  unfold MX11_readAllOfF NX11_readAllOfF
  refine nm_obj hM ?_
  refine hrJX11_readAtom _ _ ?_
  intro v1
  refine nm_if ?_ ?_
  · exact hQj 0
  · refine nm_ex (fun n9 => ?_)
    exact nmFX11_readAllOf_9 hM sK hrJX11_readAtom hQj n9
theorem nm_X11_readAtomF {b : Nat} {w : Mu} (hM : MOK b w) (sK : Nat → Nat) {rJX11_readAllOf : Nat → (Int → MP) → MP} {rJX11_readAllOf' : (Int → NP) → NP} (hrJX11_readAllOf : ∀ (x0 : Int → MP) (X0 : Int → NP), (∀ (y0 : Int), NM b w (x0 y0) (X0 y0)) → NM b w (rJX11_readAllOf b x0) (rJX11_readAllOf' X0)) {rJX11_readAtom : Nat → (Int → MP) → MP} {rJX11_readAtom' : (Int → NP) → NP} (hrJX11_readAtom : ∀ (x0 : Int → MP) (X0 : Int → NP), (∀ (y0 : Int), NM b w (x0 y0) (X0 y0)) → NM b w (rJX11_readAtom b x0) (rJX11_readAtom' X0)) {rJX11_readCond : Nat → (Int → MP) → MP} {rJX11_readCond' : (Int → NP) → NP} (hrJX11_readCond : ∀ (x0 : Int → MP) (X0 : Int → NP), (∀ (y0 : Int), NM b w (x0 y0) (X0 y0)) → NM b w (rJX11_readCond b x0) (rJX11_readCond' X0)) : ∀ (x0 : Int → MP) (X0 : Int → NP), (∀ (y0 : Int), NM b w (x0 y0) (X0 y0)) → NM b w ((MX11_readAtomF sK rJX11_readAllOf rJX11_readAtom rJX11_readCond b) x0) ((NX11_readAtomF sK rJX11_readAllOf' rJX11_readAtom' rJX11_readCond') X0) := by
  intro Qj Qj' hQj
  unfold MX11_readAtomF NX11_readAtomF
  refine nm_obj hM ?_
  refine nm_X11_sign hM 40 _ _ ?_
  intro v3
  refine nm_if ?_ ?_
  · refine nm_obj hM ?_
    refine nm_X11_passes hM sK (sK 13) _ _ ?_
    intro v59
    refine nm_if ?_ ?_
    · refine nm_obj hM ?_
      refine nm_X11_passes hM sK (sK 14) _ _ ?_
      intro v117
      refine nm_join (fun (k134 : MP) (k134' : NP) => NM b w k134 k134') ?_ (fun k134 k134' hk134 => ?_)
      · refine nm_join (fun (k144 : Int → MP) (k144' : Int → NP) => ∀ (x0 : Int), NM b w (k144 x0) (k144' x0)) ?_ (fun k144 k144' hk144 => ?_)
        · intro s1_144
          refine nm_obj hM ?_
          refine nm_X11_emits hM s1_144 0 _ _ ?_
          exact hQj 1
        refine nm_if ?_ ?_
        · exact hk144 5
        · exact hk144 4
      refine nm_if ?_ ?_
      · refine nm_obj hM ?_
        refine nm_X11_passes hM sK (sK 15) _ _ ?_
        intro v128
        refine nm_if ?_ ?_
        · refine nm_obj hM ?_
          refine nm_X11_readSum hM sK _ _ ?_
          intro v151
          refine nm_if ?_ ?_
          · exact hQj 0
          · refine nm_obj hM ?_
            refine nm_X11_sign hM 60 _ _ ?_
            intro v162
            refine nm_join (fun (k179 : MP) (k179' : NP) => NM b w k179 k179') ?_ (fun k179 k179' hk179 => ?_)
            · refine nm_obj hM ?_
              refine nm_X11_readSum hM sK _ _ ?_
              intro v180
              refine nm_if ?_ ?_
              · exact hQj 0
              · refine nm_join (fun (k200 : Int → MP) (k200' : Int → NP) => ∀ (x0 : Int), NM b w (k200 x0) (k200' x0)) ?_ (fun k200 k200' hk200 => ?_)
                · intro s1_200
                  refine nm_obj hM ?_
                  refine nm_X11_emits hM s1_200 0 _ _ ?_
                  exact hQj 1
                refine nm_if ?_ ?_
                · exact hk200 9
                · exact hk200 8
            refine nm_if ?_ ?_
            · refine nm_obj hM ?_
              refine nm_X11_sign hM 62 _ _ ?_
              intro v173
              refine nm_if ?_ ?_
              · exact hQj 0
              · exact hk179
            · exact hk179
        · exact hk134
      · exact hk134
    · refine nm_getI hM (fun v66 => ?_)
      refine nm_if ?_ ?_
      · exact hQj 0
      · refine nm_getI hM (fun v78 => ?_)
        refine nm_putI hM ?_
        refine nm_obj hM ?_
        refine hrJX11_readAtom _ _ ?_
        intro v87
        refine nm_if ?_ ?_
        · exact hQj 0
        · refine nm_getI hM (fun v97 => ?_)
          refine nm_putI hM ?_
          refine nm_obj hM ?_
          refine nm_X11_emits hM 10 0 _ _ ?_
          exact hQj 1
  · refine nm_getI hM (fun v10 => ?_)
    refine nm_if ?_ ?_
    · exact hQj 0
    · refine nm_getI hM (fun v22 => ?_)
      refine nm_putI hM ?_
      refine nm_obj hM ?_
      refine hrJX11_readCond _ _ ?_
      intro v31
      refine nm_if ?_ ?_
      · exact hQj 0
      · refine nm_getI hM (fun v41 => ?_)
        refine nm_putI hM ?_
        refine nm_obj hM ?_
        refine nm_X11_sign hM 41 _ _ ?_
        intro v52
        refine nm_and ?_
        exact hQj v52
theorem nmFX11_readCond_9 {b : Nat} {w : Mu} (hM : MOK b w) (sK : Nat → Nat) {rJX11_readAllOf : Nat → (Int → MP) → MP} {rJX11_readAllOf' : (Int → NP) → NP} (hrJX11_readAllOf : ∀ (x0 : Int → MP) (X0 : Int → NP), (∀ (y0 : Int), NM b w (x0 y0) (X0 y0)) → NM b w (rJX11_readAllOf b x0) (rJX11_readAllOf' X0)) {Qj : Int → MP} {Qj' : Int → NP} (hQj : ∀ (x0 : Int), NM b w (Qj x0) (Qj' x0)) : ∀ n : Nat, NM b w (jit (GX11_readCond_9 sK rJX11_readAllOf b Qj) mbot n) (jit (HX11_readCond_9 sK rJX11_readAllOf' Qj') nbot n) := by
  intro n
  induction n with
  | zero =>
    exact NM.bot
  | succ n ih =>
    show NM b w (GX11_readCond_9 sK rJX11_readAllOf b Qj (jit (GX11_readCond_9 sK rJX11_readAllOf b Qj) mbot n)) (HX11_readCond_9 sK rJX11_readAllOf' Qj' (jit (HX11_readCond_9 sK rJX11_readAllOf' Qj') nbot n))
    generalize jit (GX11_readCond_9 sK rJX11_readAllOf b Qj) mbot n = rec9 at ih ⊢
    generalize jit (HX11_readCond_9 sK rJX11_readAllOf' Qj') nbot n = rec9' at ih ⊢
    have hrec9 := ih
    unfold GX11_readCond_9 HX11_readCond_9
    refine nm_obj hM ?_
    refine nm_X11_passes hM sK (sK 12) _ _ ?_
    intro v12
    refine nm_if ?_ ?_
    · exact hQj 1
    · refine nm_obj hM ?_
      refine hrJX11_readAllOf _ _ ?_
      intro v19
      refine nm_if ?_ ?_
      · exact hQj 0
      · refine nm_obj hM ?_
        exact nm_X11_emits hM 12 0 _ _ hrec9
theorem nm_X11_readCondF {b : Nat} {w : Mu} (hM : MOK b w) (sK : Nat → Nat) {rJX11_readAllOf : Nat → (Int → MP) → MP} {rJX11_readAllOf' : (Int → NP) → NP} (hrJX11_readAllOf : ∀ (x0 : Int → MP) (X0 : Int → NP), (∀ (y0 : Int), NM b w (x0 y0) (X0 y0)) → NM b w (rJX11_readAllOf b x0) (rJX11_readAllOf' X0)) {rJX11_readAtom : Nat → (Int → MP) → MP} {rJX11_readAtom' : (Int → NP) → NP} (hrJX11_readAtom : ∀ (x0 : Int → MP) (X0 : Int → NP), (∀ (y0 : Int), NM b w (x0 y0) (X0 y0)) → NM b w (rJX11_readAtom b x0) (rJX11_readAtom' X0)) {rJX11_readCond : Nat → (Int → MP) → MP} {rJX11_readCond' : (Int → NP) → NP} (hrJX11_readCond : ∀ (x0 : Int → MP) (X0 : Int → NP), (∀ (y0 : Int), NM b w (x0 y0) (X0 y0)) → NM b w (rJX11_readCond b x0) (rJX11_readCond' X0)) : ∀ (x0 : Int → MP) (X0 : Int → NP), (∀ (y0 : Int), NM b w (x0 y0) (X0 y0)) → NM b w ((MX11_readCondF sK rJX11_readAllOf rJX11_readAtom rJX11_readCond b) x0) ((NX11_readCondF sK rJX11_readAllOf' rJX11_readAtom' rJX11_readCond') X0) := by
  intro Qj Qj' hQj
  unfold MX11_readCondF NX11_readCondF
  refine nm_obj hM ?_
  refine hrJX11_readAllOf _ _ ?_
  intro v1
  refine nm_if ?_ ?_
  · exact hQj 0
  · refine nm_ex (fun n9 => ?_)
    exact nmFX11_readCond_9 hM sK hrJX11_readAllOf hQj n9
theorem nm_X11_readAllOfR {b : Nat} {w : Mu} (hM : MOK b w) (sK : Nat → Nat) : ∀ n : Nat, (∀ (x0 : Int → MP) (X0 : Int → NP), (∀ (y0 : Int), NM b w (x0 y0) (X0 y0)) → NM b w (MX11_readAllOf sK n b x0) (NX11_readAllOf sK n X0)) ∧ (∀ (x0 : Int → MP) (X0 : Int → NP), (∀ (y0 : Int), NM b w (x0 y0) (X0 y0)) → NM b w (MX11_readAtom sK n b x0) (NX11_readAtom sK n X0)) ∧ (∀ (x0 : Int → MP) (X0 : Int → NP), (∀ (y0 : Int), NM b w (x0 y0) (X0 y0)) → NM b w (MX11_readCond sK n b x0) (NX11_readCond sK n X0)) := by
  intro n
  induction n with
  | zero =>
    exact ⟨(by intros; exact NM.bot), (by intros; exact NM.bot), (by intros; exact NM.bot)⟩
  | succ n ih =>
    exact ⟨(nm_X11_readAllOfF hM sK ih.1 ih.2.1 ih.2.2), (nm_X11_readAtomF hM sK ih.1 ih.2.1 ih.2.2), (nm_X11_readCondF hM sK ih.1 ih.2.1 ih.2.2)⟩
theorem nm_X11_readAllOf {b : Nat} {w : Mu} (hM : MOK b w) (sK : Nat → Nat) (n : Nat) : ∀ (x0 : Int → MP) (X0 : Int → NP), (∀ (y0 : Int), NM b w (x0 y0) (X0 y0)) → NM b w (MX11_readAllOf sK n b x0) (NX11_readAllOf sK n X0) := (nm_X11_readAllOfR hM sK n).1
theorem nm_X11_readAtom {b : Nat} {w : Mu} (hM : MOK b w) (sK : Nat → Nat) (n : Nat) : ∀ (x0 : Int → MP) (X0 : Int → NP), (∀ (y0 : Int), NM b w (x0 y0) (X0 y0)) → NM b w (MX11_readAtom sK n b x0) (NX11_readAtom sK n X0) := (nm_X11_readAllOfR hM sK n).2.1
theorem nm_X11_readCond {b : Nat} {w : Mu} (hM : MOK b w) (sK : Nat → Nat) (n : Nat) : ∀ (x0 : Int → MP) (X0 : Int → NP), (∀ (y0 : Int), NM b w (x0 y0) (X0 y0)) → NM b w (MX11_readCond sK n b x0) (NX11_readCond sK n X0) := (nm_X11_readAllOfR hM sK n).2.2
theorem nm_X11_readMeasureLine {b : Nat} {w : Mu} (hM : MOK b w) (sK : Nat → Nat) : ∀ (x0 : Int), ∀ (x1 : Int → MP) (X1 : Int → NP), (∀ (y0 : Int), NM b w (x1 y0) (X1 y0)) → NM b w ((MX11_readMeasureLine sK b) x0 x1) ((NX11_readMeasureLine sK) x0 X1) := by
  intro p1 Qj Qj' hQj
  unfold MX11_readMeasureLine NX11_readMeasureLine
  refine nm_obj hM ?_
  refine nm_X11_isWord hM sK (sK 9) _ _ ?_
  intro v11
  refine nm_if ?_ ?_
  · exact hQj 0
  · refine nm_obj hM ?_
    refine nm_X11_number hM 0 999 _ _ ?_
    intro v24
    refine nm_obj hM ?_
    refine nm_X11_keepsAt hM (w32 (1285 + (w32 (4 * p1)))) v24 _ _ ?_
    intro v27
    refine nm_if ?_ ?_
    · exact hQj 0
    · refine nm_getA hM (j := 1) (by decide) ?_
      refine nm_ast hM (t := 0) (by decide) ?_
      refine nm_obj hM ?_
      refine nm_X11_sign hM 42 _ _ ?_
      intro v47
      refine nm_join (fun (k73 : MP) (k73' : NP) => NM b w k73 k73') ?_ (fun k73 k73' hk73 => ?_)
      · refine nm_getA hM (j := 1) (by decide) ?_
        refine nm_getI hM (fun v81 => ?_)
        refine nm_ast hM (t := 0) (by decide) ?_
        refine nm_putI hM ?_
        refine nm_obj hM ?_
        refine nm_X11_passes hM sK (sK 10) _ _ ?_
        intro v93
        refine nm_join (fun (k108 : MP) (k108' : NP) => NM b w k108 k108') ?_ (fun k108 k108' hk108 => ?_)
        · refine nm_getA hM (j := 1) (by decide) ?_
          refine nm_getI hM (fun v116 => ?_)
          refine nm_ast hM (t := 0) (by decide) ?_
          exact hQj 1
        refine nm_if ?_ ?_
        · exact hk108
        · refine nm_obj hM ?_
          refine nm_X11_readCond hM sK 40 _ _ ?_
          intro v100
          refine nm_if ?_ ?_
          · exact hQj 0
          · exact hk108
      refine nm_if ?_ ?_
      · exact hk73
      · refine nm_obj hM ?_
        refine nm_X11_letters hM _ _ ?_
        refine nm_obj hM ?_
        refine nm_X11_factAt hM sK _ _ ?_
        intro v62
        refine nm_obj hM ?_
        refine nm_X11_keepsAt hM (w32 ((w32 (1285 + (w32 (4 * p1)))) + 1)) v62 _ _ ?_
        intro v65
        refine nm_if ?_ ?_
        · exact hQj 0
        · exact hk73
theorem nmFX11_readAll_42 {b : Nat} {w : Mu} (hM : MOK b w) (sK : Nat → Nat) (p1 : Int) {Qj : Int → MP} {Qj' : Int → NP} (hQj : ∀ (x0 : Int), NM b w (Qj x0) (Qj' x0)) {k103 : Int → MP} {k103' : Int → NP} (hk103 : ∀ (x0 : Int), NM b w (k103 x0) (k103' x0)) : ∀ n : Nat, ∀ (x0 : Int), NM b w (jit (GX11_readAll_42 sK b p1 Qj k103) (fun _ => mbot) n x0) (jit (HX11_readAll_42 sK p1 Qj' k103') (fun _ => nbot) n x0) := by
  intro n
  induction n with
  | zero =>
    intro x2_42
    exact NM.bot
  | succ n ih =>
    intro x2_42
    show NM b w (GX11_readAll_42 sK b p1 Qj k103 (jit (GX11_readAll_42 sK b p1 Qj k103) (fun _ => mbot) n) x2_42) (HX11_readAll_42 sK p1 Qj' k103' (jit (HX11_readAll_42 sK p1 Qj' k103') (fun _ => nbot) n) x2_42)
    generalize jit (GX11_readAll_42 sK b p1 Qj k103) (fun _ => mbot) n = rec42 at ih ⊢
    generalize jit (HX11_readAll_42 sK p1 Qj' k103') (fun _ => nbot) n = rec42' at ih ⊢
    have hrec42 := ih
    unfold GX11_readAll_42 HX11_readAll_42
    refine nm_obj hM ?_
    refine nm_X11_letters hM _ _ ?_
    refine nm_join (fun (k58 : Int → MP) (k58' : Int → NP) => ∀ (x0 : Int), NM b w (k58 x0) (k58' x0)) ?_ (fun k58 k58' hk58 => ?_)
    · intro s1_58
      refine nm_if ?_ ?_
      · exact hQj (-1)
      · refine nm_join (fun (k88 : MP) (k88' : NP) => NM b w k88 k88') ?_ (fun k88 k88' hk88 => ?_)
        · refine nm_obj hM ?_
          refine nm_X11_blanks hM _ _ ?_
          refine nm_getI hM (fun v93 => ?_)
          refine nm_getI hM (fun v97 => ?_)
          refine nm_if ?_ ?_
          · exact hk103 x2_42
          · refine nm_obj hM ?_
            refine nm_X11_isAt hM 59 59 _ _ ?_
            intro v112
            refine nm_if ?_ ?_
            · exact hQj (-1)
            · refine nm_getI hM (fun v122 => ?_)
              refine nm_putI hM ?_
              exact hrec42 (w32 (x2_42 + 1))
        refine nm_if ?_ ?_
        · refine nm_obj hM ?_
          refine nm_X11_readMeasureLine hM sK x2_42 _ _ ?_
          intro v80
          refine nm_if ?_ ?_
          · exact hQj (-1)
          · exact hk88
        · refine nm_obj hM ?_
          refine nm_X11_readKindLine hM sK x2_42 _ _ ?_
          intro v69
          refine nm_if ?_ ?_
          · exact hQj (-1)
          · exact hk88
    refine nm_if ?_ ?_
    · exact hk58 10
    · exact hk58 6
theorem nm_X11_readAll {b : Nat} {w : Mu} (hM : MOK b w) (sK : Nat → Nat) : ∀ (x0 : Int), ∀ (x1 : Int → MP) (X1 : Int → NP), (∀ (y0 : Int), NM b w (x1 y0) (X1 y0)) → NM b w ((MX11_readAll sK b) x0 x1) ((NX11_readAll sK) x0 X1) := by
  intro p1 Qj Qj' hQj
  unfold MX11_readAll NX11_readAll
  refine nm_getI hM (fun v2 => ?_)
  refine nm_putI hM ?_
  refine nm_putI hM ?_
  refine nm_putI hM ?_
  refine nm_putI hM ?_
  refine nm_obj hM ?_
  refine nm_X11_blanks hM _ _ ?_
  refine nm_getI hM (fun v28 => ?_)
  refine nm_getI hM (fun v32 => ?_)
  refine nm_if ?_ ?_
  · exact hQj 0
  · refine nm_ex (fun n42 => ?_)
    refine nmFX11_readAll_42 hM sK p1 hQj ?_ n42 0
    · intro y2_103
      exact hQj (w32 (y2_103 + 1))
theorem nm_X11_in {b : Nat} {w : Mu} (hM : MOK b w) : ∀ (x0 : Int), ∀ (x1 : Int), ∀ (x2 : Int), ∀ (x3 : Int → MP) (X3 : Int → NP), (∀ (y0 : Int), NM b w (x3 y0) (X3 y0)) → NM b w (MX11_in x0 x1 x2 x3) (NX11_in x0 x1 x2 X3) := by
  intro p0 p1 p2 Qj Qj' hQj
  unfold MX11_in NX11_in
  refine nm_join (fun (k14 : MP) (k14' : NP) => NM b w k14 k14') ?_ (fun k14 k14' hk14 => ?_)
  · exact hQj 0
  refine nm_if ?_ ?_
  · exact hk14
  · refine nm_if ?_ ?_
    · exact hk14
    · exact hQj 1
theorem nm_X11_throwsIf {b : Nat} {w : Mu} (hM : MOK b w) : ∀ (x0 : Int), ∀ (x1 : Int), ∀ (x2 : Int → MP) (X2 : Int → NP), (∀ (y0 : Int), NM b w (x2 y0) (X2 y0)) → NM b w ((MX11_throwsIf b) x0 x1 x2) (NX11_throwsIf x0 x1 X2) := by
  intro p1 p2 Qj Qj' hQj
  unfold MX11_throwsIf NX11_throwsIf
  refine nm_if ?_ ?_
  · refine nm_and ?_
    exact hQj p1
  · refine nm_putI hM ?_
    refine nm_and ?_
    exact hQj p1
theorem nmFX11_kind_111 {b : Nat} {w : Mu} (hM : MOK b w) (v7 : Int) (v88 : Int) {k143 : MP} {k143' : NP} (hk143 : NM b w k143 k143') : ∀ n : Nat, ∀ (x0 : Int), NM b w (jit (GX11_kind_111 b v7 v88 k143) (fun _ => mbot) n x0) (jit (HX11_kind_111 v7 v88 k143') (fun _ => nbot) n x0) := by
  intro n
  induction n with
  | zero =>
    intro x4_111
    exact NM.bot
  | succ n ih =>
    intro x4_111
    show NM b w (GX11_kind_111 b v7 v88 k143 (jit (GX11_kind_111 b v7 v88 k143) (fun _ => mbot) n) x4_111) (HX11_kind_111 v7 v88 k143' (jit (HX11_kind_111 v7 v88 k143') (fun _ => nbot) n) x4_111)
    generalize jit (GX11_kind_111 b v7 v88 k143) (fun _ => mbot) n = rec111 at ih ⊢
    generalize jit (HX11_kind_111 v7 v88 k143') (fun _ => nbot) n = rec111' at ih ⊢
    have hrec111 := ih
    unfold GX11_kind_111 HX11_kind_111
    refine nm_if ?_ ?_
    · exact hk143
    · refine nm_getA hM (j := 1) (by decide) ?_
      refine nm_getA hM (j := 5) (by decide) ?_
      refine nm_aldI hM (t := 0) (by decide) (fun v135 => ?_)
      refine nm_ast hM (t := 0) (by decide) ?_
      exact hrec111 (w32 (x4_111 + 1))
theorem nm_X11_kind {b : Nat} {w : Mu} (hM : MOK b w) (sK : Nat → Nat) : ∀ (x0 : Int), ∀ (x1 : Int → MP) (X1 : Int → NP), (∀ (y0 : Int), NM b w (x1 y0) (X1 y0)) → NM b w ((MX11_kind sK b) x0 x1) ((NX11_kind sK) x0 X1) := by
  intro p1 Qj Qj' hQj
  unfold MX11_kind NX11_kind
  refine nm_putI hM ?_
  refine nm_obj hM ?_
  refine nm_X11_readAll hM sK 1 _ _ ?_
  intro v7
  refine nm_join (fun (k24 : Int → MP) (k24' : Int → NP) => ∀ (x0 : Int), NM b w (k24 x0) (k24' x0)) ?_ (fun k24 k24' hk24 => ?_)
  · intro s1_24
    refine nm_putI hM ?_
    refine nm_join (fun (k47 : Int → MP) (k47' : Int → NP) => ∀ (x0 : Int), NM b w (k47 x0) (k47' x0)) ?_ (fun k47 k47' hk47 => ?_)
    · intro s1_47
      refine nm_obj hM ?_
      refine nm_X11_throwsIf hM s1_47 1 _ _ ?_
      intro v48
      refine nm_if ?_ ?_
      · refine nm_getA hM (j := 1) (by decide) ?_
        refine nm_aldI hM (t := 0) (by decide) (fun v60 => ?_)
        refine nm_join (fun (k70 : Int → MP) (k70' : Int → NP) => ∀ (x0 : Int), NM b w (k70 x0) (k70' x0)) ?_ (fun k70 k70' hk70 => ?_)
        · intro s1_70
          refine nm_obj hM ?_
          refine nm_X11_throwsIf hM s1_70 2 _ _ ?_
          intro v71
          refine nm_if ?_ ?_
          · refine nm_getA hM (j := 1) (by decide) ?_
            refine nm_aldI hM (t := 0) (by decide) (fun v88 => ?_)
            refine nm_getA hM (j := 1) (by decide) ?_
            refine nm_ast hM (t := 0) (by decide) ?_
            refine nm_getA hM (j := 1) (by decide) ?_
            refine nm_ast hM (t := 0) (by decide) ?_
            refine nm_ex (fun n111 => ?_)
            refine nmFX11_kind_111 hM v7 v88 ?_ n111 0
            · refine nm_getA hM (j := 1) (by decide) ?_
              refine nm_aldI hM (t := 0) (by decide) (fun v149 => ?_)
              refine nm_ast hM (t := 0) (by decide) ?_
              refine nm_getA hM (j := 1) (by decide) ?_
              refine nm_aldI hM (t := 0) (by decide) (fun v158 => ?_)
              exact hQj (w32 (v158 - 1))
          · exact hQj 0
        refine nm_if ?_ ?_
        · exact hk70 1
        · exact hk70 0
      · exact hQj 0
    refine nm_join (fun (k42 : MP) (k42' : NP) => NM b w k42 k42') ?_ (fun k42 k42' hk42 => ?_)
    · exact hk47 1
    refine nm_if ?_ ?_
    · exact hk42
    · refine nm_X11_in hM p1 0 20 _ _ ?_
      intro v36
      refine nm_if ?_ ?_
      · exact hk42
      · exact hk47 0
  refine nm_if ?_ ?_
  · exact hk24 (-1)
  · refine nm_getI hM (fun v17 => ?_)
    exact hk24 v17
theorem nm_X11_thrown {b : Nat} {w : Mu} (hM : MOK b w) : ∀ (x0 : Int → MP) (X0 : Int → NP), (∀ (y0 : Int), NM b w (x0 y0) (X0 y0)) → NM b w ((MX11_thrown b) x0) (NX11_thrown X0) := by
  intro Qj Qj' hQj
  unfold MX11_thrown NX11_thrown
  refine nm_getI hM (fun v1 => ?_)
  exact hQj v1
theorem nmFX11_measure_57 {b : Nat} {w : Mu} (hM : MOK b w) {k90 : MP} {k90' : NP} (hk90 : NM b w k90 k90') : ∀ n : Nat, ∀ (x0 : Int), NM b w (jit (GX11_measure_57 b k90) (fun _ => mbot) n x0) (jit (HX11_measure_57 k90') (fun _ => nbot) n x0) := by
  intro n
  induction n with
  | zero =>
    intro x2_57
    exact NM.bot
  | succ n ih =>
    intro x2_57
    show NM b w (GX11_measure_57 b k90 (jit (GX11_measure_57 b k90) (fun _ => mbot) n) x2_57) (HX11_measure_57 k90' (jit (HX11_measure_57 k90') (fun _ => nbot) n) x2_57)
    generalize jit (GX11_measure_57 b k90) (fun _ => mbot) n = rec57 at ih ⊢
    generalize jit (HX11_measure_57 k90') (fun _ => nbot) n = rec57' at ih ⊢
    have hrec57 := ih
    unfold GX11_measure_57 HX11_measure_57
    refine nm_if ?_ ?_
    · exact hk90
    · refine nm_getA hM (j := 1) (by decide) ?_
      refine nm_getA hM (j := 1) (by decide) ?_
      refine nm_aldI hM (t := 0) (by decide) (fun v82 => ?_)
      refine nm_ast hM (t := 0) (by decide) ?_
      exact hrec57 (w32 (x2_57 + 1))
theorem nm_X11_measure {b : Nat} {w : Mu} (hM : MOK b w) (sK : Nat → Nat) : ∀ (x0 : Int → MP) (X0 : Int → NP), (∀ (y0 : Int), NM b w (x0 y0) (X0 y0)) → NM b w ((MX11_measure sK b) x0) ((NX11_measure sK) X0) := by
  intro Qj Qj' hQj
  unfold MX11_measure NX11_measure
  refine nm_putI hM ?_
  refine nm_obj hM ?_
  refine nm_X11_readAll hM sK 0 _ _ ?_
  intro v7
  refine nm_join (fun (k24 : Int → MP) (k24' : Int → NP) => ∀ (x0 : Int), NM b w (k24 x0) (k24' x0)) ?_ (fun k24 k24' hk24 => ?_)
  · intro s1_24
    refine nm_putI hM ?_
    refine nm_join (fun (k37 : Int → MP) (k37' : Int → NP) => ∀ (x0 : Int), NM b w (k37 x0) (k37' x0)) ?_ (fun k37 k37' hk37 => ?_)
    · intro s1_37
      refine nm_obj hM ?_
      refine nm_X11_throwsIf hM s1_37 1 _ _ ?_
      intro v38
      refine nm_if ?_ ?_
      · refine nm_getA hM (j := 1) (by decide) ?_
        refine nm_ast hM (t := 0) (by decide) ?_
        refine nm_ex (fun n57 => ?_)
        refine nmFX11_measure_57 hM ?_ n57 0
        · refine nm_getA hM (j := 1) (by decide) ?_
          refine nm_ast hM (t := 0) (by decide) ?_
          exact hQj v7
      · exact hQj 0
    refine nm_if ?_ ?_
    · exact hk37 0
    · exact hk37 1
  refine nm_if ?_ ?_
  · exact hk24 (-1)
  · refine nm_getI hM (fun v17 => ?_)
    exact hk24 v17
theorem nm_X11_fault {b : Nat} {w : Mu} (hM : MOK b w) : ∀ (x0 : Int → MP) (X0 : Int → NP), (∀ (y0 : Int), NM b w (x0 y0) (X0 y0)) → NM b w ((MX11_fault b) x0) (NX11_fault X0) := by
  intro Qj Qj' hQj
  unfold MX11_fault NX11_fault
  refine nm_putI hM ?_
  refine nm_getI hM (fun v6 => ?_)
  exact hQj v6
theorem nm_X11_noSquare {b : Nat} {w : Mu} (hM : MOK b w) : ∀ (x0 : Int), ∀ (x1 : Int → MP) (X1 : Int → NP), (∀ (y0 : Int), NM b w (x1 y0) (X1 y0)) → NM b w (MX11_noSquare x0 x1) (NX11_noSquare x0 X1) := by
  intro p0 Qj Qj' hQj
  unfold MX11_noSquare NX11_noSquare
  refine nm_X11_in hM p0 0 35 _ _ ?_
  intro v4
  refine nm_if ?_ ?_
  · exact hQj 1
  · exact hQj 0
theorem nm_X11_none {b : Nat} {w : Mu} (hM : MOK b w) : ∀ (x0 : Int), ∀ (x1 : Int), ∀ (x2 : Int → MP) (X2 : Int → NP), (∀ (y0 : Int), NM b w (x2 y0) (X2 y0)) → NM b w ((MX11_none b) x0 x1 x2) (NX11_none x0 x1 X2) := by
  intro p1 p2 Qj Qj' hQj
  unfold MX11_none NX11_none
  refine nm_getA hM (j := 1) (by decide) ?_
  refine nm_aldI hM (t := 0) (by decide) (fun v7 => ?_)
  refine nm_X11_in hM p1 0 (w32 (v7 - 1)) _ _ ?_
  intro v10
  refine nm_if ?_ ?_
  · exact hQj 1
  · exact hQj 0
theorem nm_X11_noKind {b : Nat} {w : Mu} (hM : MOK b w) : ∀ (x0 : Int), ∀ (x1 : Int → MP) (X1 : Int → NP), (∀ (y0 : Int), NM b w (x1 y0) (X1 y0)) → NM b w ((MX11_noKind b) x0 x1) (NX11_noKind x0 X1) := by
  intro p1 Qj Qj' hQj
  unfold MX11_noKind NX11_noKind
  refine nm_obj hM ?_
  refine nm_X11_none hM p1 0 _ _ ?_
  intro v3
  refine nm_and ?_
  exact hQj v3
theorem nm_X11_man {b : Nat} {w : Mu} (hM : MOK b w) : ∀ (x0 : Int), ∀ (x1 : Int), ∀ (x2 : Int → MP) (X2 : Int → NP), (∀ (y0 : Int), NM b w (x2 y0) (X2 y0)) → NM b w (MX11_man x0 x1 x2) (NX11_man x0 x1 X2) := by
  intro p0 p1 Qj Qj' hQj
  unfold MX11_man NX11_man
  refine nm_if ?_ ?_
  · exact hQj (w32 ((w32 (2 * p0)) + p1))
  · exact hQj (-1)
theorem nm_X11_put {b : Nat} {w : Mu} (hM : MOK b w) : ∀ (x0 : Int), ∀ (x1 : Int), ∀ (x2 : Int), ∀ (x3 : MP) (X3 : NP), NM b w x3 X3 → NM b w ((MX11_put b) x0 x1 x2 x3) (NX11_put x0 x1 x2 X3) := by
  intro p1 p2 p3 Qj Qj' hQj
  unfold MX11_put NX11_put
  refine nm_putI hM ?_
  refine nm_X11_noSquare hM p1 _ _ ?_
  intro v7
  refine nm_join (fun (k31 : Int → MP) (k31' : Int → NP) => ∀ (x0 : Int), NM b w (k31 x0) (k31' x0)) ?_ (fun k31 k31' hk31 => ?_)
  · intro s1_31
    refine nm_obj hM ?_
    refine nm_X11_throwsIf hM s1_31 1 _ _ ?_
    intro v32
    refine nm_if ?_ ?_
    · refine nm_join (fun (k58 : Int → MP) (k58' : Int → NP) => ∀ (x0 : Int), NM b w (k58 x0) (k58' x0)) ?_ (fun k58 k58' hk58 => ?_)
      · intro s1_58
        refine nm_obj hM ?_
        refine nm_X11_throwsIf hM s1_58 2 _ _ ?_
        intro v59
        refine nm_if ?_ ?_
        · refine nm_getA hM (j := 1) (by decide) ?_
          refine nm_X11_man hM p2 p3 _ _ ?_
          intro v76
          refine nm_ast hM (t := 0) (by decide) ?_
          exact hQj
        · exact hQj
      refine nm_join (fun (k57 : MP) (k57' : NP) => NM b w k57 k57') ?_ (fun k57 k57' hk57 => ?_)
      · exact hk58 0
      refine nm_if ?_ ?_
      · exact hk57
      · refine nm_X11_in hM p3 0 1 _ _ ?_
        intro v47
        refine nm_if ?_ ?_
        · exact hk58 1
        · exact hk57
    · exact hQj
  refine nm_join (fun (k26 : MP) (k26' : NP) => NM b w k26 k26') ?_ (fun k26 k26' hk26 => ?_)
  · exact hk31 1
  refine nm_if ?_ ?_
  · refine nm_join (fun (k30 : MP) (k30' : NP) => NM b w k30 k30') ?_ (fun k30 k30' hk30 => ?_)
    · exact hk31 0
    refine nm_if ?_ ?_
    · exact hk30
    · refine nm_obj hM ?_
      refine nm_X11_noKind hM p2 _ _ ?_
      intro v20
      refine nm_if ?_ ?_
      · exact hk30
      · exact hk26
  · exact hk26
theorem nmFX11_begins_2 {b : Nat} {w : Mu} (hM : MOK b w) {Qj : MP} {Qj' : NP} (hQj : NM b w Qj Qj') : ∀ n : Nat, ∀ (x0 : Int), NM b w (jit (GX11_begins_2 b Qj) (fun _ => mbot) n x0) (jit (HX11_begins_2 Qj') (fun _ => nbot) n x0) := by
  intro n
  induction n with
  | zero =>
    intro x1_2
    exact NM.bot
  | succ n ih =>
    intro x1_2
    show NM b w (GX11_begins_2 b Qj (jit (GX11_begins_2 b Qj) (fun _ => mbot) n) x1_2) (HX11_begins_2 Qj' (jit (HX11_begins_2 Qj') (fun _ => nbot) n) x1_2)
    generalize jit (GX11_begins_2 b Qj) (fun _ => mbot) n = rec2 at ih ⊢
    generalize jit (HX11_begins_2 Qj') (fun _ => nbot) n = rec2' at ih ⊢
    have hrec2 := ih
    unfold GX11_begins_2 HX11_begins_2
    refine nm_if ?_ ?_
    · exact hQj
    · refine nm_getA hM (j := 8) (by decide) ?_
      refine nm_getA hM (j := 1) (by decide) ?_
      refine nm_aldI hM (t := 0) (by decide) (fun v21 => ?_)
      refine nm_ast hM (t := 0) (by decide) ?_
      exact hrec2 (w32 (x1_2 + 1))
theorem nm_X11_begins {b : Nat} {w : Mu} (hM : MOK b w) : ∀ (x0 : MP) (X0 : NP), NM b w x0 X0 → NM b w ((MX11_begins b) x0) (NX11_begins X0) := by
  intro Qj Qj' hQj
  unfold MX11_begins NX11_begins
  refine nm_ex (fun n2 => ?_)
  exact nmFX11_begins_2 hM hQj n2 0
theorem nm_X11_at {b : Nat} {w : Mu} (hM : MOK b w) : ∀ (x0 : Int), ∀ (x1 : Int), ∀ (x2 : Int → MP) (X2 : Int → NP), (∀ (y0 : Int), NM b w (x2 y0) (X2 y0)) → NM b w ((MX11_at b) x0 x1 x2) (NX11_at x0 x1 X2) := by
  intro p1 p2 Qj Qj' hQj
  unfold MX11_at NX11_at
  refine nm_getA hM (j := 8) (by decide) ?_
  refine nm_aldI hM (t := 0) (by decide) (fun v10 => ?_)
  exact hQj v10
theorem nm_X11_sideOf {b : Nat} {w : Mu} (hM : MOK b w) : ∀ (x0 : Int), ∀ (x1 : Int → MP) (X1 : Int → NP), (∀ (y0 : Int), NM b w (x1 y0) (X1 y0)) → NM b w (MX11_sideOf x0 x1) (NX11_sideOf x0 X1) := by
  intro p0 Qj Qj' hQj
  unfold MX11_sideOf NX11_sideOf
  exact hQj (mand32 p0 1)
theorem nm_X11_off {b : Nat} {w : Mu} (hM : MOK b w) : ∀ (x0 : Int), ∀ (x1 : Int), ∀ (x2 : Int), ∀ (x3 : Int → MP) (X3 : Int → NP), (∀ (y0 : Int), NM b w (x3 y0) (X3 y0)) → NM b w (MX11_off x0 x1 x2 x3) (NX11_off x0 x1 x2 X3) := by
  intro p0 p1 p2 Qj Qj' hQj
  unfold MX11_off NX11_off
  refine nm_X11_in hM (w32 ((Int.tmod p0 6) + p1)) 0 5 _ _ ?_
  intro v18
  refine nm_join (fun (k44 : MP) (k44' : NP) => NM b w k44 k44') ?_ (fun k44 k44' hk44 => ?_)
  · exact hQj (-1)
  refine nm_if ?_ ?_
  · exact hk44
  · refine nm_X11_in hM (w32 ((w32 (Int.tdiv p0 6)) + p2)) 0 5 _ _ ?_
    intro v28
    refine nm_if ?_ ?_
    · exact hk44
    · exact hQj (w32 ((w32 (6 * (w32 ((w32 (Int.tdiv p0 6)) + p2)))) + (w32 ((Int.tmod p0 6) + p1))))
theorem nm_X11_may {b : Nat} {w : Mu} (hM : MOK b w) : ∀ (x0 : Int), ∀ (x1 : Int), ∀ (x2 : Int), ∀ (x3 : MP) (X3 : NP), NM b w x3 X3 → NM b w ((MX11_may b) x0 x1 x2 x3) (NX11_may x0 x1 x2 X3) := by
  intro p1 p2 p3 Qj Qj' hQj
  unfold MX11_may NX11_may
  refine nm_getA hM (j := 9) (by decide) ?_
  refine nm_ast hM (t := 1) (by decide) ?_
  exact hQj
theorem nmFX11_along_6 {b : Nat} {w : Mu} (hM : MOK b w) (p1 : Int) (p2 : Int) (p3 : Int) (p4 : Int) (p5 : Int) (p6 : Int) {Qj : MP} {Qj' : NP} (hQj : NM b w Qj Qj') : ∀ n : Nat, ∀ (x0 : Int), ∀ (x1 : Int), NM b w (jit (GX11_along_6 b p1 p2 p3 p4 p5 p6 Qj) (fun _ _ => mbot) n x0 x1) (jit (HX11_along_6 p1 p2 p3 p4 p5 p6 Qj') (fun _ _ => nbot) n x0 x1) := by
  intro n
  induction n with
  | zero =>
    intro x7_6 x8_6
    exact NM.bot
  | succ n ih =>
    intro x7_6 x8_6
    show NM b w (GX11_along_6 b p1 p2 p3 p4 p5 p6 Qj (jit (GX11_along_6 b p1 p2 p3 p4 p5 p6 Qj) (fun _ _ => mbot) n) x7_6 x8_6) (HX11_along_6 p1 p2 p3 p4 p5 p6 Qj' (jit (HX11_along_6 p1 p2 p3 p4 p5 p6 Qj') (fun _ _ => nbot) n) x7_6 x8_6)
    generalize jit (GX11_along_6 b p1 p2 p3 p4 p5 p6 Qj) (fun _ _ => mbot) n = rec6 at ih ⊢
    generalize jit (HX11_along_6 p1 p2 p3 p4 p5 p6 Qj') (fun _ _ => nbot) n = rec6' at ih ⊢
    have hrec6 := ih
    unfold GX11_along_6 HX11_along_6
    refine nm_if ?_ ?_
    · exact hQj
    · refine nm_X11_off hM x7_6 p3 p4 _ _ ?_
      intro v18
      refine nm_if ?_ ?_
      · refine nm_obj hM ?_
        refine nm_X11_at hM p1 v18 _ _ ?_
        intro v33
        refine nm_join (fun (k73 : MP) (k73' : NP) => NM b w k73 k73') ?_ (fun k73 k73' hk73 => ?_)
        · refine nm_if ?_ ?_
          · exact hrec6 v18 (w32 (x8_6 + 1))
          · exact hQj
        refine nm_join (fun (k65 : MP) (k65' : NP) => NM b w k65 k65') ?_ (fun k65 k65' hk65 => ?_)
        · refine nm_obj hM ?_
          exact nm_X11_may hM p1 p2 v18 _ _ hk73
        refine nm_if ?_ ?_
        · exact hk65
        · refine nm_if ?_ ?_
          · refine nm_X11_sideOf hM v33 _ _ ?_
            intro v50
            refine nm_obj hM ?_
            refine nm_X11_at hM p1 p2 _ _ ?_
            intro v56
            refine nm_X11_sideOf hM v56 _ _ ?_
            intro v59
            refine nm_if ?_ ?_
            · exact hk73
            · exact hk65
          · exact hk73
      · exact hQj
theorem nm_X11_along {b : Nat} {w : Mu} (hM : MOK b w) : ∀ (x0 : Int), ∀ (x1 : Int), ∀ (x2 : Int), ∀ (x3 : Int), ∀ (x4 : Int), ∀ (x5 : Int), ∀ (x6 : MP) (X6 : NP), NM b w x6 X6 → NM b w ((MX11_along b) x0 x1 x2 x3 x4 x5 x6) (NX11_along x0 x1 x2 x3 x4 x5 X6) := by
  intro p1 p2 p3 p4 p5 p6 Qj Qj' hQj
  unfold MX11_along NX11_along
  refine nm_ex (fun n6 => ?_)
  exact nmFX11_along_6 hM p1 p2 p3 p4 p5 p6 hQj n6 p2 0
theorem nmFX11_leaps_12 {b : Nat} {w : Mu} (hM : MOK b w) (p1 : Int) (p2 : Int) (x3_3 : Int) {k48 : MP} {k48' : NP} (hk48 : NM b w k48 k48') : ∀ n : Nat, ∀ (x0 : Int), NM b w (jit (GX11_leaps_12 b p1 p2 x3_3 k48) (fun _ => mbot) n x0) (jit (HX11_leaps_12 p1 p2 x3_3 k48') (fun _ => nbot) n x0) := by
  intro n
  induction n with
  | zero =>
    intro x4_12
    exact NM.bot
  | succ n ih =>
    intro x4_12
    show NM b w (GX11_leaps_12 b p1 p2 x3_3 k48 (jit (GX11_leaps_12 b p1 p2 x3_3 k48) (fun _ => mbot) n) x4_12) (HX11_leaps_12 p1 p2 x3_3 k48' (jit (HX11_leaps_12 p1 p2 x3_3 k48') (fun _ => nbot) n) x4_12)
    generalize jit (GX11_leaps_12 b p1 p2 x3_3 k48) (fun _ => mbot) n = rec12 at ih ⊢
    generalize jit (HX11_leaps_12 p1 p2 x3_3 k48') (fun _ => nbot) n = rec12' at ih ⊢
    have hrec12 := ih
    unfold GX11_leaps_12 HX11_leaps_12
    refine nm_if ?_ ?_
    · exact hk48
    · refine nm_join (fun (k42 : MP) (k42' : NP) => NM b w k42 k42') ?_ (fun k42 k42' hk42 => ?_)
      · exact hrec12 (w32 (x4_12 + 1))
      refine nm_if ?_ ?_
      · refine nm_obj hM ?_
        exact nm_X11_along hM p1 p2 x3_3 x4_12 1 0 _ _ hk42
      · exact hk42
theorem nmFX11_leaps_3 {b : Nat} {w : Mu} (hM : MOK b w) (p1 : Int) (p2 : Int) {Qj : MP} {Qj' : NP} (hQj : NM b w Qj Qj') : ∀ n : Nat, ∀ (x0 : Int), NM b w (jit (GX11_leaps_3 b p1 p2 Qj) (fun _ => mbot) n x0) (jit (HX11_leaps_3 p1 p2 Qj') (fun _ => nbot) n x0) := by
  intro n
  induction n with
  | zero =>
    intro x3_3
    exact NM.bot
  | succ n ih =>
    intro x3_3
    show NM b w (GX11_leaps_3 b p1 p2 Qj (jit (GX11_leaps_3 b p1 p2 Qj) (fun _ => mbot) n) x3_3) (HX11_leaps_3 p1 p2 Qj' (jit (HX11_leaps_3 p1 p2 Qj') (fun _ => nbot) n) x3_3)
    generalize jit (GX11_leaps_3 b p1 p2 Qj) (fun _ => mbot) n = rec3 at ih ⊢
    generalize jit (HX11_leaps_3 p1 p2 Qj') (fun _ => nbot) n = rec3' at ih ⊢
    have hrec3 := ih
    unfold GX11_leaps_3 HX11_leaps_3
    refine nm_if ?_ ?_
    · exact hQj
    · refine nm_ex (fun n12 => ?_)
      refine nmFX11_leaps_12 hM p1 p2 x3_3 ?_ n12 (-2)
      · exact hrec3 (w32 (x3_3 + 1))
theorem nm_X11_leaps {b : Nat} {w : Mu} (hM : MOK b w) : ∀ (x0 : Int), ∀ (x1 : Int), ∀ (x2 : MP) (X2 : NP), NM b w x2 X2 → NM b w ((MX11_leaps b) x0 x1 x2) (NX11_leaps x0 x1 X2) := by
  intro p1 p2 Qj Qj' hQj
  unfold MX11_leaps NX11_leaps
  refine nm_ex (fun n3 => ?_)
  exact nmFX11_leaps_3 hM p1 p2 hQj n3 (-2)
theorem nmFX11_bites_3 {b : Nat} {w : Mu} (hM : MOK b w) (p1 : Int) (p2 : Int) (p3 : Int) {Qj : MP} {Qj' : NP} (hQj : NM b w Qj Qj') : ∀ n : Nat, ∀ (x0 : Int), NM b w (jit (GX11_bites_3 b p1 p2 p3 Qj) (fun _ => mbot) n x0) (jit (HX11_bites_3 p1 p2 p3 Qj') (fun _ => nbot) n x0) := by
  intro n
  induction n with
  | zero =>
    intro x4_3
    exact NM.bot
  | succ n ih =>
    intro x4_3
    show NM b w (GX11_bites_3 b p1 p2 p3 Qj (jit (GX11_bites_3 b p1 p2 p3 Qj) (fun _ => mbot) n) x4_3) (HX11_bites_3 p1 p2 p3 Qj' (jit (HX11_bites_3 p1 p2 p3 Qj') (fun _ => nbot) n) x4_3)
    generalize jit (GX11_bites_3 b p1 p2 p3 Qj) (fun _ => mbot) n = rec3 at ih ⊢
    generalize jit (HX11_bites_3 p1 p2 p3 Qj') (fun _ => nbot) n = rec3' at ih ⊢
    have hrec3 := ih
    unfold GX11_bites_3 HX11_bites_3
    refine nm_if ?_ ?_
    · exact hQj
    · refine nm_X11_off hM p2 x4_3 p3 _ _ ?_
      intro v13
      refine nm_join (fun (k44 : MP) (k44' : NP) => NM b w k44 k44') ?_ (fun k44 k44' hk44 => ?_)
      · exact hrec3 (w32 (x4_3 + 2))
      refine nm_if ?_ ?_
      · exact hk44
      · refine nm_obj hM ?_
        refine nm_X11_at hM p1 v13 _ _ ?_
        intro v27
        refine nm_if ?_ ?_
        · exact hk44
        · refine nm_obj hM ?_
          exact nm_X11_along hM p1 p2 x4_3 p3 1 0 _ _ hk44
theorem nm_X11_bites {b : Nat} {w : Mu} (hM : MOK b w) : ∀ (x0 : Int), ∀ (x1 : Int), ∀ (x2 : Int), ∀ (x3 : MP) (X3 : NP), NM b w x3 X3 → NM b w ((MX11_bites b) x0 x1 x2 x3) (NX11_bites x0 x1 x2 X3) := by
  intro p1 p2 p3 Qj Qj' hQj
  unfold MX11_bites NX11_bites
  refine nm_ex (fun n3 => ?_)
  exact nmFX11_bites_3 hM p1 p2 p3 hQj n3 (-1)
theorem nmFX11_goes_187 {b : Nat} {w : Mu} (hM : MOK b w) (p1 : Int) (p2 : Int) (v78 : Int) (x9_172 : Int) {k212 : MP} {k212' : NP} (hk212 : NM b w k212 k212') : ∀ n : Nat, ∀ (x0 : Int), NM b w (jit (GX11_goes_187 b p1 p2 v78 x9_172 k212) (fun _ => mbot) n x0) (jit (HX11_goes_187 p1 p2 v78 x9_172 k212') (fun _ => nbot) n x0) := by
  intro n
  induction n with
  | zero =>
    intro x10_187
    exact NM.bot
  | succ n ih =>
    intro x10_187
    show NM b w (GX11_goes_187 b p1 p2 v78 x9_172 k212 (jit (GX11_goes_187 b p1 p2 v78 x9_172 k212) (fun _ => mbot) n) x10_187) (HX11_goes_187 p1 p2 v78 x9_172 k212' (jit (HX11_goes_187 p1 p2 v78 x9_172 k212') (fun _ => nbot) n) x10_187)
    generalize jit (GX11_goes_187 b p1 p2 v78 x9_172 k212) (fun _ => mbot) n = rec187 at ih ⊢
    generalize jit (HX11_goes_187 p1 p2 v78 x9_172 k212') (fun _ => nbot) n = rec187' at ih ⊢
    have hrec187 := ih
    unfold GX11_goes_187 HX11_goes_187
    refine nm_if ?_ ?_
    · exact hk212
    · refine nm_obj hM ?_
      refine nm_X11_along hM p1 p2 x9_172 x10_187 v78 0 _ _ ?_
      exact hrec187 (w32 (x10_187 + 2))
theorem nmFX11_goes_172 {b : Nat} {w : Mu} (hM : MOK b w) (p1 : Int) (p2 : Int) (v62 : Int) (v78 : Int) {k218 : MP} {k218' : NP} (hk218 : NM b w k218 k218') : ∀ n : Nat, ∀ (x0 : Int), NM b w (jit (GX11_goes_172 b p1 p2 v62 v78 k218) (fun _ => mbot) n x0) (jit (HX11_goes_172 p1 p2 v62 v78 k218') (fun _ => nbot) n x0) := by
  intro n
  induction n with
  | zero =>
    intro x9_172
    exact NM.bot
  | succ n ih =>
    intro x9_172
    show NM b w (GX11_goes_172 b p1 p2 v62 v78 k218 (jit (GX11_goes_172 b p1 p2 v62 v78 k218) (fun _ => mbot) n) x9_172) (HX11_goes_172 p1 p2 v62 v78 k218' (jit (HX11_goes_172 p1 p2 v62 v78 k218') (fun _ => nbot) n) x9_172)
    generalize jit (GX11_goes_172 b p1 p2 v62 v78 k218) (fun _ => mbot) n = rec172 at ih ⊢
    generalize jit (HX11_goes_172 p1 p2 v62 v78 k218') (fun _ => nbot) n = rec172' at ih ⊢
    have hrec172 := ih
    unfold GX11_goes_172 HX11_goes_172
    refine nm_if ?_ ?_
    · exact hk218
    · refine nm_if ?_ ?_
      · refine nm_ex (fun n187 => ?_)
        refine nmFX11_goes_187 hM p1 p2 v78 x9_172 ?_ n187 (-1)
        · exact hrec172 (w32 (x9_172 + 2))
      · exact hk218
theorem nmFX11_goes_128 {b : Nat} {w : Mu} (hM : MOK b w) (p1 : Int) (p2 : Int) (v62 : Int) (v78 : Int) {k169 : MP} {k169' : NP} (hk169 : NM b w k169 k169') : ∀ n : Nat, ∀ (x0 : Int), NM b w (jit (GX11_goes_128 b p1 p2 v62 v78 k169) (fun _ => mbot) n x0) (jit (HX11_goes_128 p1 p2 v62 v78 k169') (fun _ => nbot) n x0) := by
  intro n
  induction n with
  | zero =>
    intro x9_128
    exact NM.bot
  | succ n ih =>
    intro x9_128
    show NM b w (GX11_goes_128 b p1 p2 v62 v78 k169 (jit (GX11_goes_128 b p1 p2 v62 v78 k169) (fun _ => mbot) n) x9_128) (HX11_goes_128 p1 p2 v62 v78 k169' (jit (HX11_goes_128 p1 p2 v62 v78 k169') (fun _ => nbot) n) x9_128)
    generalize jit (GX11_goes_128 b p1 p2 v62 v78 k169) (fun _ => mbot) n = rec128 at ih ⊢
    generalize jit (HX11_goes_128 p1 p2 v62 v78 k169') (fun _ => nbot) n = rec128' at ih ⊢
    have hrec128 := ih
    unfold GX11_goes_128 HX11_goes_128
    refine nm_if ?_ ?_
    · exact hk169
    · refine nm_if ?_ ?_
      · refine nm_obj hM ?_
        refine nm_X11_along hM p1 p2 x9_128 0 v78 0 _ _ ?_
        refine nm_obj hM ?_
        refine nm_X11_along hM p1 p2 0 x9_128 v78 0 _ _ ?_
        exact hrec128 (w32 (x9_128 + 2))
      · exact hk169
theorem nmFX11_goes_35 {b : Nat} {w : Mu} (hM : MOK b w) (p1 : Int) (p2 : Int) {Qj : MP} {Qj' : NP} (hQj : NM b w Qj Qj') (v3 : Int) (s0_19 : Int) : ∀ n : Nat, ∀ (x0 : Int), NM b w (jit (GX11_goes_35 b p1 p2 Qj v3 s0_19) (fun _ => mbot) n x0) (jit (HX11_goes_35 p1 p2 Qj' v3 s0_19) (fun _ => nbot) n x0) := by
  intro n
  induction n with
  | zero =>
    intro x6_35
    exact NM.bot
  | succ n ih =>
    intro x6_35
    show NM b w (GX11_goes_35 b p1 p2 Qj v3 s0_19 (jit (GX11_goes_35 b p1 p2 Qj v3 s0_19) (fun _ => mbot) n) x6_35) (HX11_goes_35 p1 p2 Qj' v3 s0_19 (jit (HX11_goes_35 p1 p2 Qj' v3 s0_19) (fun _ => nbot) n) x6_35)
    generalize jit (GX11_goes_35 b p1 p2 Qj v3 s0_19) (fun _ => mbot) n = rec35 at ih ⊢
    generalize jit (HX11_goes_35 p1 p2 Qj' v3 s0_19) (fun _ => nbot) n = rec35' at ih ⊢
    have hrec35 := ih
    unfold GX11_goes_35 HX11_goes_35
    refine nm_getA hM (j := 1) (by decide) ?_
    refine nm_aldI hM (t := 0) (by decide) (fun v45 => ?_)
    refine nm_if ?_ ?_
    · exact hQj
    · refine nm_getA hM (j := 1) (by decide) ?_
      refine nm_aldI hM (t := 0) (by decide) (fun v62 => ?_)
      refine nm_getA hM (j := 1) (by decide) ?_
      refine nm_aldI hM (t := 0) (by decide) (fun v78 => ?_)
      refine nm_join (fun (k99 : MP) (k99' : NP) => NM b w k99 k99') ?_ (fun k99 k99' hk99 => ?_)
      · refine nm_join (fun (k111 : MP) (k111' : NP) => NM b w k111 k111') ?_ (fun k111 k111' hk111 => ?_)
        · refine nm_join (fun (k125 : MP) (k125' : NP) => NM b w k125 k125') ?_ (fun k125 k125' hk125 => ?_)
          · refine nm_ex (fun n128 => ?_)
            refine nmFX11_goes_128 hM p1 p2 v62 v78 ?_ n128 (-1)
            · refine nm_ex (fun n172 => ?_)
              refine nmFX11_goes_172 hM p1 p2 v62 v78 ?_ n172 (-1)
              · exact hrec35 (w32 (x6_35 + 1))
          refine nm_if ?_ ?_
          · refine nm_obj hM ?_
            exact nm_X11_bites hM p1 p2 s0_19 _ _ hk125
          · exact hk125
        refine nm_if ?_ ?_
        · refine nm_obj hM ?_
          exact nm_X11_leaps hM p1 p2 _ _ hk111
        · exact hk111
      refine nm_if ?_ ?_
      · refine nm_obj hM ?_
        exact nm_X11_along hM p1 p2 0 s0_19 v78 1 _ _ hk99
      · exact hk99
theorem nm_X11_goes {b : Nat} {w : Mu} (hM : MOK b w) : ∀ (x0 : Int), ∀ (x1 : Int), ∀ (x2 : MP) (X2 : NP), NM b w x2 X2 → NM b w ((MX11_goes b) x0 x1 x2) (NX11_goes x0 x1 X2) := by
  intro p1 p2 Qj Qj' hQj
  unfold MX11_goes NX11_goes
  refine nm_obj hM ?_
  refine nm_X11_at hM p1 p2 _ _ ?_
  intro v3
  refine nm_X11_sideOf hM v3 _ _ ?_
  intro v8
  refine nm_join (fun (k19 : Int → MP) (k19' : Int → NP) => ∀ (x0 : Int), NM b w (k19 x0) (k19' x0)) ?_ (fun k19 k19' hk19 => ?_)
  · intro s0_19
    refine nm_ex (fun n35 => ?_)
    exact nmFX11_goes_35 hM p1 p2 hQj v3 s0_19 n35 0
  refine nm_if ?_ ?_
  · exact hk19 1
  · exact hk19 (-1)
theorem nmFX11_finds_30 {b : Nat} {w : Mu} (hM : MOK b w) (p1 : Int) (p2 : Int) {Qj : MP} {Qj' : NP} (hQj : NM b w Qj Qj') : ∀ n : Nat, ∀ (x0 : Int), NM b w (jit (GX11_finds_30 b p1 p2 Qj) (fun _ => mbot) n x0) (jit (HX11_finds_30 p1 p2 Qj') (fun _ => nbot) n x0) := by
  intro n
  induction n with
  | zero =>
    intro x3_30
    exact NM.bot
  | succ n ih =>
    intro x3_30
    show NM b w (GX11_finds_30 b p1 p2 Qj (jit (GX11_finds_30 b p1 p2 Qj) (fun _ => mbot) n) x3_30) (HX11_finds_30 p1 p2 Qj' (jit (HX11_finds_30 p1 p2 Qj') (fun _ => nbot) n) x3_30)
    generalize jit (GX11_finds_30 b p1 p2 Qj) (fun _ => mbot) n = rec30 at ih ⊢
    generalize jit (HX11_finds_30 p1 p2 Qj') (fun _ => nbot) n = rec30' at ih ⊢
    have hrec30 := ih
    unfold GX11_finds_30 HX11_finds_30
    refine nm_if ?_ ?_
    · exact hQj
    · refine nm_obj hM ?_
      refine nm_X11_at hM p1 x3_30 _ _ ?_
      intro v39
      refine nm_join (fun (k64 : MP) (k64' : NP) => NM b w k64 k64') ?_ (fun k64 k64' hk64 => ?_)
      · exact hrec30 (w32 (x3_30 + 1))
      refine nm_if ?_ ?_
      · exact hk64
      · refine nm_obj hM ?_
        refine nm_X11_at hM p1 x3_30 _ _ ?_
        intro v48
        refine nm_X11_sideOf hM v48 _ _ ?_
        intro v51
        refine nm_if ?_ ?_
        · refine nm_obj hM ?_
          exact nm_X11_goes hM p1 x3_30 _ _ hk64
        · exact hk64
theorem nmFX11_finds_2 {b : Nat} {w : Mu} (hM : MOK b w) (p1 : Int) {k28 : MP} {k28' : NP} (hk28 : NM b w k28 k28') : ∀ n : Nat, ∀ (x0 : Int), NM b w (jit (GX11_finds_2 b p1 k28) (fun _ => mbot) n x0) (jit (HX11_finds_2 p1 k28') (fun _ => nbot) n x0) := by
  intro n
  induction n with
  | zero =>
    intro x3_2
    exact NM.bot
  | succ n ih =>
    intro x3_2
    show NM b w (GX11_finds_2 b p1 k28 (jit (GX11_finds_2 b p1 k28) (fun _ => mbot) n) x3_2) (HX11_finds_2 p1 k28' (jit (HX11_finds_2 p1 k28') (fun _ => nbot) n) x3_2)
    generalize jit (GX11_finds_2 b p1 k28) (fun _ => mbot) n = rec2 at ih ⊢
    generalize jit (HX11_finds_2 p1 k28') (fun _ => nbot) n = rec2' at ih ⊢
    have hrec2 := ih
    unfold GX11_finds_2 HX11_finds_2
    refine nm_if ?_ ?_
    · exact hk28
    · refine nm_getA hM (j := 9) (by decide) ?_
      refine nm_ast hM (t := 1) (by decide) ?_
      exact hrec2 (w32 (x3_2 + 1))
theorem nm_X11_finds {b : Nat} {w : Mu} (hM : MOK b w) : ∀ (x0 : Int), ∀ (x1 : Int), ∀ (x2 : MP) (X2 : NP), NM b w x2 X2 → NM b w ((MX11_finds b) x0 x1 x2) (NX11_finds x0 x1 X2) := by
  intro p1 p2 Qj Qj' hQj
  unfold MX11_finds NX11_finds
  refine nm_ex (fun n2 => ?_)
  refine nmFX11_finds_2 hM p1 ?_ n2 0
  · refine nm_ex (fun n30 => ?_)
    exact nmFX11_finds_30 hM p1 p2 hQj n30 0
theorem nmFX11_manyAt_4 {b : Nat} {w : Mu} (hM : MOK b w) (p1 : Int) {Qj : Int → MP} {Qj' : Int → NP} (hQj : ∀ (x0 : Int), NM b w (Qj x0) (Qj' x0)) : ∀ n : Nat, ∀ (x0 : Int), ∀ (x1 : Int), NM b w (jit (GX11_manyAt_4 b p1 Qj) (fun _ _ => mbot) n x0 x1) (jit (HX11_manyAt_4 p1 Qj') (fun _ _ => nbot) n x0 x1) := by
  intro n
  induction n with
  | zero =>
    intro x2_4 x3_4
    exact NM.bot
  | succ n ih =>
    intro x2_4 x3_4
    show NM b w (GX11_manyAt_4 b p1 Qj (jit (GX11_manyAt_4 b p1 Qj) (fun _ _ => mbot) n) x2_4 x3_4) (HX11_manyAt_4 p1 Qj' (jit (HX11_manyAt_4 p1 Qj') (fun _ _ => nbot) n) x2_4 x3_4)
    generalize jit (GX11_manyAt_4 b p1 Qj) (fun _ _ => mbot) n = rec4 at ih ⊢
    generalize jit (HX11_manyAt_4 p1 Qj') (fun _ _ => nbot) n = rec4' at ih ⊢
    have hrec4 := ih
    unfold GX11_manyAt_4 HX11_manyAt_4
    refine nm_if ?_ ?_
    · exact hQj x2_4
    · refine nm_getA hM (j := 9) (by decide) ?_
      refine nm_aldI hM (t := 1) (by decide) (fun v23 => ?_)
      refine nm_join (fun (k32 : Int → MP) (k32' : Int → NP) => ∀ (x0 : Int), NM b w (k32 x0) (k32' x0)) ?_ (fun k32 k32' hk32 => ?_)
      · intro s1_32
        exact hrec4 (w32 (x2_4 + s1_32)) (w32 (x3_4 + 1))
      refine nm_if ?_ ?_
      · exact hk32 0
      · exact hk32 1
theorem nm_X11_manyAt {b : Nat} {w : Mu} (hM : MOK b w) : ∀ (x0 : Int), ∀ (x1 : Int → MP) (X1 : Int → NP), (∀ (y0 : Int), NM b w (x1 y0) (X1 y0)) → NM b w ((MX11_manyAt b) x0 x1) (NX11_manyAt x0 X1) := by
  intro p1 Qj Qj' hQj
  unfold MX11_manyAt NX11_manyAt
  refine nm_ex (fun n4 => ?_)
  exact nmFX11_manyAt_4 hM p1 hQj n4 0 0
theorem nmFX11_moveAt_5 {b : Nat} {w : Mu} (hM : MOK b w) (p1 : Int) {Qj : Int → MP} {Qj' : Int → NP} (hQj : ∀ (x0 : Int), NM b w (Qj x0) (Qj' x0)) : ∀ n : Nat, ∀ (x0 : Int), ∀ (x1 : Int), NM b w (jit (GX11_moveAt_5 b p1 Qj) (fun _ _ => mbot) n x0 x1) (jit (HX11_moveAt_5 p1 Qj') (fun _ _ => nbot) n x0 x1) := by
  intro n
  induction n with
  | zero =>
    intro x3_5 x4_5
    exact NM.bot
  | succ n ih =>
    intro x3_5 x4_5
    show NM b w (GX11_moveAt_5 b p1 Qj (jit (GX11_moveAt_5 b p1 Qj) (fun _ _ => mbot) n) x3_5 x4_5) (HX11_moveAt_5 p1 Qj' (jit (HX11_moveAt_5 p1 Qj') (fun _ _ => nbot) n) x3_5 x4_5)
    generalize jit (GX11_moveAt_5 b p1 Qj) (fun _ _ => mbot) n = rec5 at ih ⊢
    generalize jit (HX11_moveAt_5 p1 Qj') (fun _ _ => nbot) n = rec5' at ih ⊢
    have hrec5 := ih
    unfold GX11_moveAt_5 HX11_moveAt_5
    refine nm_if ?_ ?_
    · exact hQj (-1)
    · refine nm_getA hM (j := 9) (by decide) ?_
      refine nm_aldI hM (t := 1) (by decide) (fun v25 => ?_)
      refine nm_join (fun (k42 : Int → MP) (k42' : Int → NP) => ∀ (x0 : Int), NM b w (k42 x0) (k42' x0)) ?_ (fun k42 k42' hk42 => ?_)
      · intro x3_42
        exact hrec5 x3_42 (w32 (x4_5 + 1))
      refine nm_if ?_ ?_
      · exact hk42 x3_5
      · refine nm_if ?_ ?_
        · exact hQj x4_5
        · exact hk42 (w32 (x3_5 + (-1)))
theorem nm_X11_moveAt {b : Nat} {w : Mu} (hM : MOK b w) : ∀ (x0 : Int), ∀ (x1 : Int), ∀ (x2 : Int → MP) (X2 : Int → NP), (∀ (y0 : Int), NM b w (x2 y0) (X2 y0)) → NM b w ((MX11_moveAt b) x0 x1 x2) (NX11_moveAt x0 x1 X2) := by
  intro p1 p2 Qj Qj' hQj
  unfold MX11_moveAt NX11_moveAt
  refine nm_ex (fun n5 => ?_)
  exact nmFX11_moveAt_5 hM p1 hQj n5 p2 0
theorem nm_X11_moves {b : Nat} {w : Mu} (hM : MOK b w) : ∀ (x0 : Int), ∀ (x1 : Int), ∀ (x2 : Int → MP) (X2 : Int → NP), (∀ (y0 : Int), NM b w (x2 y0) (X2 y0)) → NM b w ((MX11_moves b) x0 x1 x2) (NX11_moves x0 x1 X2) := by
  intro p1 p2 Qj Qj' hQj
  unfold MX11_moves NX11_moves
  refine nm_putI hM ?_
  refine nm_X11_in hM p1 0 1 _ _ ?_
  intro v9
  refine nm_join (fun (k25 : Int → MP) (k25' : Int → NP) => ∀ (x0 : Int), NM b w (k25 x0) (k25' x0)) ?_ (fun k25 k25' hk25 => ?_)
  · intro s1_25
    refine nm_obj hM ?_
    refine nm_X11_throwsIf hM s1_25 1 _ _ ?_
    intro v26
    refine nm_if ?_ ?_
    · refine nm_obj hM ?_
      refine nm_X11_begins hM _ _ ?_
      refine nm_obj hM ?_
      refine nm_X11_finds hM 0 p1 _ _ ?_
      refine nm_if ?_ ?_
      · refine nm_obj hM ?_
        refine nm_X11_moveAt hM 0 p2 _ _ ?_
        intro v59
        exact hQj v59
      · refine nm_obj hM ?_
        refine nm_X11_manyAt hM 0 _ _ ?_
        intro v50
        exact hQj v50
    · exact hQj 0
  refine nm_join (fun (k20 : MP) (k20' : NP) => NM b w k20 k20') ?_ (fun k20 k20' hk20 => ?_)
  · exact hk25 1
  refine nm_if ?_ ?_
  · exact hk20
  · refine nm_if ?_ ?_
    · exact hk25 0
    · exact hk20
theorem nm_X11_book {b : Nat} {w : Mu} (hM : MOK b w) : ∀ (x0 : Int), ∀ (x1 : Int → MP) (X1 : Int → NP), (∀ (y0 : Int), NM b w (x1 y0) (X1 y0)) → NM b w ((MX11_book b) x0 x1) (NX11_book x0 X1) := by
  intro p1 Qj Qj' hQj
  unfold MX11_book NX11_book
  refine nm_putI hM ?_
  refine nm_X11_in hM p1 0 1 _ _ ?_
  intro v9
  refine nm_join (fun (k20 : Int → MP) (k20' : Int → NP) => ∀ (x0 : Int), NM b w (k20 x0) (k20' x0)) ?_ (fun k20 k20' hk20 => ?_)
  · intro s1_20
    refine nm_obj hM ?_
    refine nm_X11_throwsIf hM s1_20 1 _ _ ?_
    intro v21
    refine nm_if ?_ ?_
    · refine nm_getA hM (j := 1) (by decide) ?_
      refine nm_aldI hM (t := 0) (by decide) (fun v33 => ?_)
      refine nm_join (fun (k43 : Int → MP) (k43' : Int → NP) => ∀ (x0 : Int), NM b w (k43 x0) (k43' x0)) ?_ (fun k43 k43' hk43 => ?_)
      · intro s1_43
        refine nm_obj hM ?_
        refine nm_X11_throwsIf hM s1_43 2 _ _ ?_
        intro v44
        refine nm_if ?_ ?_
        · refine nm_getA hM (j := 1) (by decide) ?_
          refine nm_aldI hM (t := 0) (by decide) (fun v57 => ?_)
          refine nm_getA hM (j := 1) (by decide) ?_
          refine nm_ast hM (t := 0) (by decide) ?_
          refine nm_getA hM (j := 1) (by decide) ?_
          refine nm_ast hM (t := 0) (by decide) ?_
          refine nm_getA hM (j := 1) (by decide) ?_
          refine nm_aldI hM (t := 0) (by decide) (fun v93 => ?_)
          refine nm_ast hM (t := 0) (by decide) ?_
          exact hQj v57
        · exact hQj 0
      refine nm_if ?_ ?_
      · exact hk43 1
      · exact hk43 0
    · exact hQj 0
  refine nm_if ?_ ?_
  · exact hk20 1
  · exact hk20 0
theorem nm_X11_noBook {b : Nat} {w : Mu} (hM : MOK b w) : ∀ (x0 : Int), ∀ (x1 : Int → MP) (X1 : Int → NP), (∀ (y0 : Int), NM b w (x1 y0) (X1 y0)) → NM b w ((MX11_noBook b) x0 x1) (NX11_noBook x0 X1) := by
  intro p1 Qj Qj' hQj
  unfold MX11_noBook NX11_noBook
  refine nm_obj hM ?_
  refine nm_X11_none hM p1 1 _ _ ?_
  intro v3
  refine nm_and ?_
  exact hQj v3
theorem nm_X11_badNote {b : Nat} {w : Mu} (hM : MOK b w) : ∀ (x0 : Int), ∀ (x1 : Int), ∀ (x2 : Int), ∀ (x3 : Int → MP) (X3 : Int → NP), (∀ (y0 : Int), NM b w (x3 y0) (X3 y0)) → NM b w (MX11_badNote x0 x1 x2 x3) (NX11_badNote x0 x1 x2 X3) := by
  intro p0 p1 p2 Qj Qj' hQj
  unfold MX11_badNote NX11_badNote
  refine nm_X11_in hM p0 (-1) 5 _ _ ?_
  intro v3
  refine nm_join (fun (k27 : MP) (k27' : NP) => NM b w k27 k27') ?_ (fun k27 k27' hk27 => ?_)
  · exact hQj 1
  refine nm_if ?_ ?_
  · exact hk27
  · refine nm_X11_in hM p1 0 5 _ _ ?_
    intro v12
    refine nm_if ?_ ?_
    · exact hk27
    · refine nm_X11_in hM p2 0 5 _ _ ?_
      intro v21
      refine nm_if ?_ ?_
      · exact hk27
      · exact hQj 0
theorem nm_X11_ofBook {b : Nat} {w : Mu} (hM : MOK b w) : ∀ (x0 : Int), ∀ (x1 : Int), ∀ (x2 : Int → MP) (X2 : Int → NP), (∀ (y0 : Int), NM b w (x2 y0) (X2 y0)) → NM b w ((MX11_ofBook b) x0 x1 x2) (NX11_ofBook x0 x1 X2) := by
  intro p1 p2 Qj Qj' hQj
  unfold MX11_ofBook NX11_ofBook
  refine nm_getA hM (j := 1) (by decide) ?_
  refine nm_aldI hM (t := 0) (by decide) (fun v13 => ?_)
  exact hQj v13
theorem nm_X11_notes {b : Nat} {w : Mu} (hM : MOK b w) : ∀ (x0 : Int), ∀ (x1 : Int → MP) (X1 : Int → NP), (∀ (y0 : Int), NM b w (x1 y0) (X1 y0)) → NM b w ((MX11_notes b) x0 x1) (NX11_notes x0 X1) := by
  intro p1 Qj Qj' hQj
  unfold MX11_notes NX11_notes
  refine nm_obj hM ?_
  refine nm_X11_ofBook hM p1 1 _ _ ?_
  intro v3
  exact hQj v3
theorem nm_X11_setsNote {b : Nat} {w : Mu} (hM : MOK b w) : ∀ (x0 : Int), ∀ (x1 : Int), ∀ (x2 : Int), ∀ (x3 : Int), ∀ (x4 : Int), ∀ (x5 : Int), ∀ (x6 : MP) (X6 : NP), NM b w x6 X6 → NM b w ((MX11_setsNote b) x0 x1 x2 x3 x4 x5 x6) (NX11_setsNote x0 x1 x2 x3 x4 x5 X6) := by
  intro p1 p2 p3 p4 p5 p6 Qj Qj' hQj
  unfold MX11_setsNote NX11_setsNote
  refine nm_getA hM (j := 1) (by decide) ?_
  refine nm_ast hM (t := 0) (by decide) ?_
  refine nm_getA hM (j := 1) (by decide) ?_
  refine nm_ast hM (t := 0) (by decide) ?_
  refine nm_getA hM (j := 1) (by decide) ?_
  refine nm_ast hM (t := 0) (by decide) ?_
  refine nm_getA hM (j := 1) (by decide) ?_
  refine nm_ast hM (t := 0) (by decide) ?_
  exact hQj
theorem nm_X11_addsNote {b : Nat} {w : Mu} (hM : MOK b w) : ∀ (x0 : Int), ∀ (x1 : Int), ∀ (x2 : Int), ∀ (x3 : Int), ∀ (x4 : Int), ∀ (x5 : Int → MP) (X5 : Int → NP), (∀ (y0 : Int), NM b w (x5 y0) (X5 y0)) → NM b w ((MX11_addsNote b) x0 x1 x2 x3 x4 x5) (NX11_addsNote x0 x1 x2 x3 x4 X5) := by
  intro p1 p2 p3 p4 p5 Qj Qj' hQj
  unfold MX11_addsNote NX11_addsNote
  refine nm_obj hM ?_
  refine nm_X11_notes hM p1 _ _ ?_
  intro v4
  refine nm_obj hM ?_
  refine nm_X11_setsNote hM p1 v4 p2 p3 p4 p5 _ _ ?_
  refine nm_getA hM (j := 1) (by decide) ?_
  refine nm_aldI hM (t := 0) (by decide) (fun v30 => ?_)
  refine nm_ast hM (t := 0) (by decide) ?_
  refine nm_obj hM ?_
  refine nm_X11_notes hM p1 _ _ ?_
  intro v36
  exact hQj (w32 (v36 - 1))
theorem nm_X11_note {b : Nat} {w : Mu} (hM : MOK b w) : ∀ (x0 : Int), ∀ (x1 : Int), ∀ (x2 : Int), ∀ (x3 : Int), ∀ (x4 : Int), ∀ (x5 : Int → MP) (X5 : Int → NP), (∀ (y0 : Int), NM b w (x5 y0) (X5 y0)) → NM b w ((MX11_note b) x0 x1 x2 x3 x4 x5) (NX11_note x0 x1 x2 x3 x4 X5) := by
  intro p1 p2 p3 p4 p5 Qj Qj' hQj
  unfold MX11_note NX11_note
  refine nm_putI hM ?_
  refine nm_obj hM ?_
  refine nm_X11_noBook hM p1 _ _ ?_
  intro v8
  refine nm_join (fun (k27 : Int → MP) (k27' : Int → NP) => ∀ (x0 : Int), NM b w (k27 x0) (k27' x0)) ?_ (fun k27 k27' hk27 => ?_)
  · intro s1_27
    refine nm_obj hM ?_
    refine nm_X11_throwsIf hM s1_27 1 _ _ ?_
    intro v28
    refine nm_if ?_ ?_
    · refine nm_X11_badNote hM p3 p4 p5 _ _ ?_
      intro v40
      refine nm_obj hM ?_
      refine nm_X11_throwsIf hM v40 2 _ _ ?_
      intro v44
      refine nm_if ?_ ?_
      · refine nm_obj hM ?_
        refine nm_X11_notes hM p1 _ _ ?_
        intro v53
        refine nm_join (fun (k66 : Int → MP) (k66' : Int → NP) => ∀ (x0 : Int), NM b w (k66 x0) (k66' x0)) ?_ (fun k66 k66' hk66 => ?_)
        · intro s1_66
          refine nm_obj hM ?_
          refine nm_X11_throwsIf hM s1_66 3 _ _ ?_
          intro v67
          refine nm_if ?_ ?_
          · refine nm_obj hM ?_
            refine nm_X11_addsNote hM p1 p2 p3 p4 p5 _ _ ?_
            intro v83
            exact hQj v83
          · exact hQj 0
        refine nm_if ?_ ?_
        · exact hk66 1
        · exact hk66 0
      · exact hQj 0
    · exact hQj 0
  refine nm_join (fun (k22 : MP) (k22' : NP) => NM b w k22 k22') ?_ (fun k22 k22' hk22 => ?_)
  · exact hk27 1
  refine nm_if ?_ ?_
  · refine nm_obj hM ?_
    refine nm_X11_noKind hM p2 _ _ ?_
    intro v16
    refine nm_if ?_ ?_
    · exact hk27 0
    · exact hk22
  · exact hk22
theorem nm_X11_noNote {b : Nat} {w : Mu} (hM : MOK b w) : ∀ (x0 : Int), ∀ (x1 : Int), ∀ (x2 : Int → MP) (X2 : Int → NP), (∀ (y0 : Int), NM b w (x2 y0) (X2 y0)) → NM b w ((MX11_noNote b) x0 x1 x2) (NX11_noNote x0 x1 X2) := by
  intro p1 p2 Qj Qj' hQj
  unfold MX11_noNote NX11_noNote
  refine nm_obj hM ?_
  refine nm_X11_noBook hM p1 _ _ ?_
  intro v2
  refine nm_join (fun (k23 : MP) (k23' : NP) => NM b w k23 k23') ?_ (fun k23 k23' hk23 => ?_)
  · exact hQj 1
  refine nm_if ?_ ?_
  · refine nm_obj hM ?_
    refine nm_X11_notes hM p1 _ _ ?_
    intro v12
    refine nm_X11_in hM p2 0 (w32 (v12 - 1)) _ _ ?_
    intro v17
    refine nm_if ?_ ?_
    · exact hk23
    · exact hQj 0
  · exact hk23
theorem nm_X11_ofNote {b : Nat} {w : Mu} (hM : MOK b w) : ∀ (x0 : Int), ∀ (x1 : Int), ∀ (x2 : Int), ∀ (x3 : Int → MP) (X3 : Int → NP), (∀ (y0 : Int), NM b w (x3 y0) (X3 y0)) → NM b w ((MX11_ofNote b) x0 x1 x2 x3) (NX11_ofNote x0 x1 x2 X3) := by
  intro p1 p2 p3 Qj Qj' hQj
  unfold MX11_ofNote NX11_ofNote
  refine nm_obj hM ?_
  refine nm_X11_ofBook hM p1 (w32 ((w32 (2 + (w32 (4 * p2)))) + p3)) _ _ ?_
  intro v9
  exact hQj v9
theorem nm_X11_change {b : Nat} {w : Mu} (hM : MOK b w) : ∀ (x0 : Int), ∀ (x1 : Int), ∀ (x2 : Int), ∀ (x3 : Int), ∀ (x4 : Int), ∀ (x5 : Int), ∀ (x6 : Int → MP) (X6 : Int → NP), (∀ (y0 : Int), NM b w (x6 y0) (X6 y0)) → NM b w ((MX11_change b) x0 x1 x2 x3 x4 x5 x6) (NX11_change x0 x1 x2 x3 x4 x5 X6) := by
  intro p1 p2 p3 p4 p5 p6 Qj Qj' hQj
  unfold MX11_change NX11_change
  refine nm_putI hM ?_
  refine nm_obj hM ?_
  refine nm_X11_noNote hM p1 p2 _ _ ?_
  intro v9
  refine nm_join (fun (k28 : Int → MP) (k28' : Int → NP) => ∀ (x0 : Int), NM b w (k28 x0) (k28' x0)) ?_ (fun k28 k28' hk28 => ?_)
  · intro s1_28
    refine nm_obj hM ?_
    refine nm_X11_throwsIf hM s1_28 1 _ _ ?_
    intro v29
    refine nm_if ?_ ?_
    · refine nm_X11_badNote hM p4 p5 p6 _ _ ?_
      intro v42
      refine nm_obj hM ?_
      refine nm_X11_throwsIf hM v42 2 _ _ ?_
      intro v46
      refine nm_if ?_ ?_
      · refine nm_obj hM ?_
        refine nm_X11_ofNote hM p1 p2 0 _ _ ?_
        intro v58
        refine nm_join (fun (k106 : Int → MP) (k106' : Int → NP) => ∀ (x0 : Int), NM b w (k106 x0) (k106' x0)) ?_ (fun k106 k106' hk106 => ?_)
        · intro s0_106
          refine nm_obj hM ?_
          refine nm_X11_setsNote hM p1 p2 p3 p4 p5 p6 _ _ ?_
          refine nm_and ?_
          exact hQj s0_106
        refine nm_join (fun (k101 : MP) (k101' : NP) => NM b w k101 k101') ?_ (fun k101 k101' hk101 => ?_)
        · exact hk106 1
        refine nm_if ?_ ?_
        · refine nm_obj hM ?_
          refine nm_X11_ofNote hM p1 p2 1 _ _ ?_
          intro v69
          refine nm_if ?_ ?_
          · refine nm_obj hM ?_
            refine nm_X11_ofNote hM p1 p2 2 _ _ ?_
            intro v81
            refine nm_if ?_ ?_
            · refine nm_obj hM ?_
              refine nm_X11_ofNote hM p1 p2 3 _ _ ?_
              intro v93
              refine nm_if ?_ ?_
              · exact hk106 0
              · exact hk101
            · exact hk101
          · exact hk101
        · exact hk101
      · exact hQj 0
    · exact hQj 0
  refine nm_join (fun (k23 : MP) (k23' : NP) => NM b w k23 k23') ?_ (fun k23 k23' hk23 => ?_)
  · exact hk28 1
  refine nm_if ?_ ?_
  · refine nm_obj hM ?_
    refine nm_X11_noKind hM p3 _ _ ?_
    intro v17
    refine nm_if ?_ ?_
    · exact hk28 0
    · exact hk23
  · exact hk23
theorem nm_X11_look {b : Nat} {w : Mu} (hM : MOK b w) : ∀ (x0 : Int), ∀ (x1 : Int), ∀ (x2 : Int), ∀ (x3 : Int → MP) (X3 : Int → NP), (∀ (y0 : Int), NM b w (x3 y0) (X3 y0)) → NM b w ((MX11_look b) x0 x1 x2 x3) (NX11_look x0 x1 x2 X3) := by
  intro p1 p2 p3 Qj Qj' hQj
  unfold MX11_look NX11_look
  refine nm_putI hM ?_
  refine nm_obj hM ?_
  refine nm_X11_noNote hM p1 p2 _ _ ?_
  intro v9
  refine nm_obj hM ?_
  refine nm_X11_throwsIf hM v9 1 _ _ ?_
  intro v13
  refine nm_join (fun (k41 : MP) (k41' : NP) => NM b w k41 k41') ?_ (fun k41 k41' hk41 => ?_)
  · exact hQj 0
  refine nm_if ?_ ?_
  · refine nm_X11_in hM p3 0 3 _ _ ?_
    intro v23
    refine nm_join (fun (k34 : Int → MP) (k34' : Int → NP) => ∀ (x0 : Int), NM b w (k34 x0) (k34' x0)) ?_ (fun k34 k34' hk34 => ?_)
    · intro s1_34
      refine nm_obj hM ?_
      refine nm_X11_throwsIf hM s1_34 2 _ _ ?_
      intro v35
      refine nm_if ?_ ?_
      · refine nm_obj hM ?_
        refine nm_X11_ofNote hM p1 p2 p3 _ _ ?_
        intro v49
        exact hQj v49
      · exact hk41
    refine nm_if ?_ ?_
    · exact hk34 1
    · exact hk34 0
  · exact hk41
theorem nm_X11_draw {b : Nat} {w : Mu} (hM : MOK b w) : ∀ (x0 : Int → MP) (X0 : Int → NP), (∀ (y0 : Int), NM b w (x0 y0) (X0 y0)) → NM b w ((MX11_draw b) x0) (NX11_draw X0) := by
  intro Qj Qj' hQj
  unfold MX11_draw NX11_draw
  refine nm_getI hM (fun v5 => ?_)
  refine nm_putI hM ?_
  refine nm_getI hM (fun v17 => ?_)
  exact hQj (mand32 (mshr v17 16) 32767)
theorem nmFX11_makes_2 {b : Nat} {w : Mu} (hM : MOK b w) (p1 : Int) {k33 : MP} {k33' : NP} (hk33 : NM b w k33 k33') : ∀ n : Nat, ∀ (x0 : Int), NM b w (jit (GX11_makes_2 b p1 k33) (fun _ => mbot) n x0) (jit (HX11_makes_2 p1 k33') (fun _ => nbot) n x0) := by
  intro n
  induction n with
  | zero =>
    intro x3_2
    exact NM.bot
  | succ n ih =>
    intro x3_2
    show NM b w (GX11_makes_2 b p1 k33 (jit (GX11_makes_2 b p1 k33) (fun _ => mbot) n) x3_2) (HX11_makes_2 p1 k33' (jit (HX11_makes_2 p1 k33') (fun _ => nbot) n) x3_2)
    generalize jit (GX11_makes_2 b p1 k33) (fun _ => mbot) n = rec2 at ih ⊢
    generalize jit (HX11_makes_2 p1 k33') (fun _ => nbot) n = rec2' at ih ⊢
    have hrec2 := ih
    unfold GX11_makes_2 HX11_makes_2
    refine nm_if ?_ ?_
    · exact hk33
    · refine nm_getA hM (j := 8) (by decide) ?_
      refine nm_obj hM ?_
      refine nm_X11_at hM p1 x3_2 _ _ ?_
      intro v23
      refine nm_ast hM (t := 0) (by decide) ?_
      exact hrec2 (w32 (x3_2 + 1))
theorem nm_X11_makes {b : Nat} {w : Mu} (hM : MOK b w) : ∀ (x0 : Int), ∀ (x1 : Int), ∀ (x2 : MP) (X2 : NP), NM b w x2 X2 → NM b w ((MX11_makes b) x0 x1 x2) (NX11_makes x0 x1 X2) := by
  intro p1 p2 Qj Qj' hQj
  unfold MX11_makes NX11_makes
  refine nm_ex (fun n2 => ?_)
  refine nmFX11_makes_2 hM p1 ?_ n2 0
  · refine nm_getA hM (j := 8) (by decide) ?_
    refine nm_obj hM ?_
    refine nm_X11_at hM p1 (w32 (Int.tdiv p2 36)) _ _ ?_
    intro v54
    refine nm_ast hM (t := 0) (by decide) ?_
    refine nm_getA hM (j := 8) (by decide) ?_
    refine nm_ast hM (t := 0) (by decide) ?_
    exact hQj
theorem nmFX11_write_133 {b : Nat} {w : Mu} (hM : MOK b w) (p1 : Int) (p2 : Int) (p3 : Int) {Qj : Int → MP} {Qj' : Int → NP} (hQj : ∀ (x0 : Int), NM b w (Qj x0) (Qj' x0)) (v77 : Int) : ∀ n : Nat, ∀ (x0 : Int), NM b w (jit (GX11_write_133 b p1 p2 p3 Qj v77) (fun _ => mbot) n x0) (jit (HX11_write_133 p1 p2 p3 Qj' v77) (fun _ => nbot) n x0) := by
  intro n
  induction n with
  | zero =>
    intro x6_133
    exact NM.bot
  | succ n ih =>
    intro x6_133
    show NM b w (GX11_write_133 b p1 p2 p3 Qj v77 (jit (GX11_write_133 b p1 p2 p3 Qj v77) (fun _ => mbot) n) x6_133) (HX11_write_133 p1 p2 p3 Qj' v77 (jit (HX11_write_133 p1 p2 p3 Qj' v77) (fun _ => nbot) n) x6_133)
    generalize jit (GX11_write_133 b p1 p2 p3 Qj v77) (fun _ => mbot) n = rec133 at ih ⊢
    generalize jit (HX11_write_133 p1 p2 p3 Qj' v77) (fun _ => nbot) n = rec133' at ih ⊢
    have hrec133 := ih
    unfold GX11_write_133 HX11_write_133
    refine nm_if ?_ ?_
    · exact hQj v77
    · refine nm_obj hM ?_
      refine nm_X11_finds hM x6_133 (Int.tmod x6_133 2) _ _ ?_
      refine nm_obj hM ?_
      refine nm_X11_manyAt hM x6_133 _ _ ?_
      intro v152
      refine nm_if ?_ ?_
      · exact hQj v77
      · refine nm_obj hM ?_
        refine nm_X11_draw hM _ _ ?_
        intro v169
        refine nm_and ?_
        refine nm_obj hM ?_
        refine nm_X11_moveAt hM x6_133 (Int.tmod v169 v152) _ _ ?_
        intro v175
        refine nm_obj hM ?_
        refine nm_X11_at hM x6_133 (w32 (Int.tdiv v175 36)) _ _ ?_
        intro v195
        refine nm_join (fun (k237 : Int → MP) (k237' : Int → NP) => ∀ (x0 : Int), NM b w (k237 x0) (k237' x0)) ?_ (fun k237 k237' hk237 => ?_)
        · intro s0_237
          refine nm_obj hM ?_
          refine nm_X11_draw hM _ _ ?_
          intro v240
          refine nm_join (fun (k326 : Int → Int → Int → MP) (k326' : Int → Int → Int → NP) => ∀ (x0 : Int), ∀ (x1 : Int), ∀ (x2 : Int), NM b w (k326 x0 x1 x2) (k326' x0 x1 x2)) ?_ (fun k326 k326' hk326 => ?_)
          · intro x10_326 x11_326 x12_326
            refine nm_obj hM ?_
            refine nm_X11_addsNote hM v77 x10_326 (-1) x11_326 x12_326 _ _ ?_
            intro v336
            refine nm_obj hM ?_
            refine nm_X11_makes hM x6_133 v175 _ _ ?_
            exact hrec133 (w32 (x6_133 + 1))
          refine nm_if ?_ ?_
          · exact hk326 (w32 (Int.tdiv v195 2)) (Int.tmod (Int.tmod v175 36) 6) s0_237
          · refine nm_obj hM ?_
            refine nm_X11_draw hM _ _ ?_
            intro v251
            refine nm_if ?_ ?_
            · refine nm_getA hM (j := 1) (by decide) ?_
              refine nm_aldI hM (t := 0) (by decide) (fun v272 => ?_)
              refine nm_and ?_
              exact hk326 (Int.tmod (w32 ((w32 (Int.tdiv v195 2)) + 1)) v272) (Int.tmod (Int.tmod v175 36) 6) s0_237
            · refine nm_if ?_ ?_
              · refine nm_join (fun (k302 : Int → MP) (k302' : Int → NP) => ∀ (x0 : Int), NM b w (k302 x0) (k302' x0)) ?_ (fun k302 k302' hk302 => ?_)
                · intro s0_302
                  exact hk326 (w32 (Int.tdiv v195 2)) s0_302 s0_237
                refine nm_if ?_ ?_
                · exact hk302 (w32 ((Int.tmod (Int.tmod v175 36) 6) - 1))
                · exact hk302 (w32 ((Int.tmod (Int.tmod v175 36) 6) + 1))
              · refine nm_join (fun (k324 : Int → MP) (k324' : Int → NP) => ∀ (x0 : Int), NM b w (k324 x0) (k324' x0)) ?_ (fun k324 k324' hk324 => ?_)
                · intro s0_324
                  exact hk326 (w32 (Int.tdiv v195 2)) (Int.tmod (Int.tmod v175 36) 6) s0_324
                refine nm_if ?_ ?_
                · exact hk324 (w32 (s0_237 - 1))
                · exact hk324 (w32 (s0_237 + 1))
        refine nm_join (fun (k232 : MP) (k232' : NP) => NM b w k232 k232') ?_ (fun k232 k232' hk232 => ?_)
        · exact hk237 (w32 (Int.tdiv (Int.tmod v175 36) 6))
        refine nm_if ?_ ?_
        · refine nm_if ?_ ?_
          · exact hk237 (w32 (5 - (w32 (Int.tdiv (Int.tmod v175 36) 6))))
          · exact hk232
        · exact hk232
theorem nm_X11_write {b : Nat} {w : Mu} (hM : MOK b w) : ∀ (x0 : Int), ∀ (x1 : Int), ∀ (x2 : Int), ∀ (x3 : Int), ∀ (x4 : Int → MP) (X4 : Int → NP), (∀ (y0 : Int), NM b w (x4 y0) (X4 y0)) → NM b w ((MX11_write b) x0 x1 x2 x3 x4) (NX11_write x0 x1 x2 x3 X4) := by
  intro p1 p2 p3 p4 Qj Qj' hQj
  unfold MX11_write NX11_write
  refine nm_putI hM ?_
  refine nm_X11_in hM p1 0 1 _ _ ?_
  intro v9
  refine nm_join (fun (k40 : Int → MP) (k40' : Int → NP) => ∀ (x0 : Int), NM b w (k40 x0) (k40' x0)) ?_ (fun k40 k40' hk40 => ?_)
  · intro s1_40
    refine nm_obj hM ?_
    refine nm_X11_throwsIf hM s1_40 1 _ _ ?_
    intro v41
    refine nm_if ?_ ?_
    · refine nm_getA hM (j := 1) (by decide) ?_
      refine nm_aldI hM (t := 0) (by decide) (fun v53 => ?_)
      refine nm_join (fun (k63 : Int → MP) (k63' : Int → NP) => ∀ (x0 : Int), NM b w (k63 x0) (k63' x0)) ?_ (fun k63 k63' hk63 => ?_)
      · intro s1_63
        refine nm_obj hM ?_
        refine nm_X11_throwsIf hM s1_63 2 _ _ ?_
        intro v64
        refine nm_if ?_ ?_
        · refine nm_getA hM (j := 1) (by decide) ?_
          refine nm_aldI hM (t := 0) (by decide) (fun v77 => ?_)
          refine nm_getA hM (j := 1) (by decide) ?_
          refine nm_ast hM (t := 0) (by decide) ?_
          refine nm_getA hM (j := 1) (by decide) ?_
          refine nm_ast hM (t := 0) (by decide) ?_
          refine nm_getA hM (j := 1) (by decide) ?_
          refine nm_aldI hM (t := 0) (by decide) (fun v116 => ?_)
          refine nm_ast hM (t := 0) (by decide) ?_
          refine nm_putI hM ?_
          refine nm_obj hM ?_
          refine nm_X11_begins hM _ _ ?_
          refine nm_ex (fun n133 => ?_)
          exact nmFX11_write_133 hM p1 p2 p3 hQj v77 n133 0
        · exact hQj 0
      refine nm_if ?_ ?_
      · exact hk63 1
      · exact hk63 0
    · exact hQj 0
  refine nm_join (fun (k35 : MP) (k35' : NP) => NM b w k35 k35') ?_ (fun k35 k35' hk35 => ?_)
  · exact hk40 1
  refine nm_if ?_ ?_
  · exact hk35
  · refine nm_X11_in hM p2 1 24 _ _ ?_
    intro v19
    refine nm_if ?_ ?_
    · exact hk35
    · refine nm_X11_in hM p3 0 9 _ _ ?_
      intro v29
      refine nm_if ?_ ?_
      · exact hk35
      · exact hk40 0
theorem nm_X11_price {b : Nat} {w : Mu} (hM : MOK b w) : ∀ (x0 : Int), ∀ (x1 : Int), ∀ (x2 : Int → MP) (X2 : Int → NP), (∀ (y0 : Int), NM b w (x2 y0) (X2 y0)) → NM b w ((MX11_price b) x0 x1 x2) (NX11_price x0 x1 X2) := by
  intro p1 p2 Qj Qj' hQj
  unfold MX11_price NX11_price
  refine nm_putI hM ?_
  refine nm_X11_in hM p1 1 7 _ _ ?_
  intro v10
  refine nm_join (fun (k21 : Int → MP) (k21' : Int → NP) => ∀ (x0 : Int), NM b w (k21 x0) (k21' x0)) ?_ (fun k21 k21' hk21 => ?_)
  · intro s1_21
    refine nm_obj hM ?_
    refine nm_X11_throwsIf hM s1_21 1 _ _ ?_
    intro v22
    refine nm_if ?_ ?_
    · refine nm_X11_in hM p2 0 9 _ _ ?_
      intro v33
      refine nm_join (fun (k44 : Int → MP) (k44' : Int → NP) => ∀ (x0 : Int), NM b w (k44 x0) (k44' x0)) ?_ (fun k44 k44' hk44 => ?_)
      · intro s1_44
        refine nm_obj hM ?_
        refine nm_X11_throwsIf hM s1_44 2 _ _ ?_
        intro v45
        refine nm_if ?_ ?_
        · refine nm_getA hM (j := 1) (by decide) ?_
          refine nm_aldI hM (t := 0) (by decide) (fun v60 => ?_)
          refine nm_getA hM (j := 1) (by decide) ?_
          refine nm_ast hM (t := 0) (by decide) ?_
          exact hQj v60
        · exact hQj 0
      refine nm_if ?_ ?_
      · exact hk44 1
      · exact hk44 0
    · exact hQj 0
  refine nm_if ?_ ?_
  · exact hk21 1
  · exact hk21 0
theorem nm_X11_length {b : Nat} {w : Mu} (hM : MOK b w) : ∀ (x0 : Int), ∀ (x1 : MP) (X1 : NP), NM b w x1 X1 → NM b w ((MX11_length b) x0 x1) (NX11_length x0 X1) := by
  intro p1 Qj Qj' hQj
  unfold MX11_length NX11_length
  refine nm_putI hM ?_
  refine nm_X11_in hM p1 (-1) 30 _ _ ?_
  intro v10
  refine nm_join (fun (k21 : Int → MP) (k21' : Int → NP) => ∀ (x0 : Int), NM b w (k21 x0) (k21' x0)) ?_ (fun k21 k21' hk21 => ?_)
  · intro s1_21
    refine nm_obj hM ?_
    refine nm_X11_throwsIf hM s1_21 1 _ _ ?_
    intro v22
    refine nm_if ?_ ?_
    · refine nm_getA hM (j := 1) (by decide) ?_
      refine nm_ast hM (t := 0) (by decide) ?_
      exact hQj
    · exact hQj
  refine nm_if ?_ ?_
  · exact hk21 1
  · exact hk21 0
theorem nm_X11_picture {b : Nat} {w : Mu} (hM : MOK b w) : ∀ (x0 : Int), ∀ (x1 : Int), ∀ (x2 : Int), ∀ (x3 : Int), ∀ (x4 : Int → MP) (X4 : Int → NP), (∀ (y0 : Int), NM b w (x4 y0) (X4 y0)) → NM b w ((MX11_picture b) x0 x1 x2 x3 x4) (NX11_picture x0 x1 x2 x3 X4) := by
  intro p1 p2 p3 p4 Qj Qj' hQj
  unfold MX11_picture NX11_picture
  refine nm_putI hM ?_
  refine nm_X11_noSquare hM p2 _ _ ?_
  intro v7
  refine nm_join (fun (k31 : Int → MP) (k31' : Int → NP) => ∀ (x0 : Int), NM b w (k31 x0) (k31' x0)) ?_ (fun k31 k31' hk31 => ?_)
  · intro s1_31
    refine nm_obj hM ?_
    refine nm_X11_throwsIf hM s1_31 1 _ _ ?_
    intro v32
    refine nm_if ?_ ?_
    · refine nm_X11_in hM p1 0 30 _ _ ?_
      intro v43
      refine nm_join (fun (k69 : Int → MP) (k69' : Int → NP) => ∀ (x0 : Int), NM b w (k69 x0) (k69' x0)) ?_ (fun k69 k69' hk69 => ?_)
      · intro s1_69
        refine nm_obj hM ?_
        refine nm_X11_throwsIf hM s1_69 2 _ _ ?_
        intro v70
        refine nm_if ?_ ?_
        · refine nm_getA hM (j := 1) (by decide) ?_
          refine nm_aldI hM (t := 0) (by decide) (fun v82 => ?_)
          refine nm_join (fun (k93 : Int → MP) (k93' : Int → NP) => ∀ (x0 : Int), NM b w (k93 x0) (k93' x0)) ?_ (fun k93 k93' hk93 => ?_)
          · intro s1_93
            refine nm_obj hM ?_
            refine nm_X11_throwsIf hM s1_93 3 _ _ ?_
            intro v94
            refine nm_if ?_ ?_
            · refine nm_getA hM (j := 1) (by decide) ?_
              refine nm_aldI hM (t := 0) (by decide) (fun v111 => ?_)
              refine nm_getA hM (j := 1) (by decide) ?_
              refine nm_ast hM (t := 0) (by decide) ?_
              refine nm_getA hM (j := 1) (by decide) ?_
              refine nm_ast hM (t := 0) (by decide) ?_
              refine nm_getA hM (j := 1) (by decide) ?_
              refine nm_X11_man hM p3 p4 _ _ ?_
              intro v145
              refine nm_ast hM (t := 0) (by decide) ?_
              refine nm_getA hM (j := 1) (by decide) ?_
              refine nm_aldI hM (t := 0) (by decide) (fun v155 => ?_)
              refine nm_ast hM (t := 0) (by decide) ?_
              refine nm_getA hM (j := 1) (by decide) ?_
              refine nm_aldI hM (t := 0) (by decide) (fun v164 => ?_)
              exact hQj v164
            · exact hQj 0
          refine nm_if ?_ ?_
          · exact hk93 1
          · exact hk93 0
        · exact hQj 0
      refine nm_join (fun (k64 : MP) (k64' : NP) => NM b w k64 k64') ?_ (fun k64 k64' hk64 => ?_)
      · exact hk69 1
      refine nm_if ?_ ?_
      · exact hk64
      · refine nm_join (fun (k68 : MP) (k68' : NP) => NM b w k68 k68') ?_ (fun k68 k68' hk68 => ?_)
        · exact hk69 0
        refine nm_if ?_ ?_
        · exact hk68
        · refine nm_X11_in hM p4 0 1 _ _ ?_
          intro v58
          refine nm_if ?_ ?_
          · exact hk64
          · exact hk68
    · exact hQj 0
  refine nm_join (fun (k26 : MP) (k26' : NP) => NM b w k26 k26') ?_ (fun k26 k26' hk26 => ?_)
  · exact hk31 1
  refine nm_if ?_ ?_
  · refine nm_join (fun (k30 : MP) (k30' : NP) => NM b w k30 k30') ?_ (fun k30 k30' hk30 => ?_)
    · exact hk31 0
    refine nm_if ?_ ?_
    · exact hk30
    · refine nm_obj hM ?_
      refine nm_X11_noKind hM p3 _ _ ?_
      intro v20
      refine nm_if ?_ ?_
      · exact hk30
      · exact hk26
  · exact hk26
theorem nmFX11_asksAll_46 {b : Nat} {w : Mu} (hM : MOK b w) {Qj : MP} {Qj' : NP} (hQj : NM b w Qj Qj') : ∀ n : Nat, ∀ (x0 : Int), NM b w (jit (GX11_asksAll_46 b Qj) (fun _ => mbot) n x0) (jit (HX11_asksAll_46 Qj') (fun _ => nbot) n x0) := by
  intro n
  induction n with
  | zero =>
    intro x1_46
    exact NM.bot
  | succ n ih =>
    intro x1_46
    show NM b w (GX11_asksAll_46 b Qj (jit (GX11_asksAll_46 b Qj) (fun _ => mbot) n) x1_46) (HX11_asksAll_46 Qj' (jit (HX11_asksAll_46 Qj') (fun _ => nbot) n) x1_46)
    generalize jit (GX11_asksAll_46 b Qj) (fun _ => mbot) n = rec46 at ih ⊢
    generalize jit (HX11_asksAll_46 Qj') (fun _ => nbot) n = rec46' at ih ⊢
    have hrec46 := ih
    unfold GX11_asksAll_46 HX11_asksAll_46
    refine nm_if ?_ ?_
    · exact hQj
    · refine nm_getA hM (j := 11) (by decide) ?_
      refine nm_getA hM (j := 1) (by decide) ?_
      refine nm_aldI hM (t := 0) (by decide) (fun v64 => ?_)
      refine nm_ast hM (t := 0) (by decide) ?_
      exact hrec46 (w32 (x1_46 + 1))
theorem nmFX11_asksAll_16 {b : Nat} {w : Mu} (hM : MOK b w) {k44 : MP} {k44' : NP} (hk44 : NM b w k44 k44') : ∀ n : Nat, ∀ (x0 : Int), NM b w (jit (GX11_asksAll_16 b k44) (fun _ => mbot) n x0) (jit (HX11_asksAll_16 k44') (fun _ => nbot) n x0) := by
  intro n
  induction n with
  | zero =>
    intro x1_16
    exact NM.bot
  | succ n ih =>
    intro x1_16
    show NM b w (GX11_asksAll_16 b k44 (jit (GX11_asksAll_16 b k44) (fun _ => mbot) n) x1_16) (HX11_asksAll_16 k44' (jit (HX11_asksAll_16 k44') (fun _ => nbot) n) x1_16)
    generalize jit (GX11_asksAll_16 b k44) (fun _ => mbot) n = rec16 at ih ⊢
    generalize jit (HX11_asksAll_16 k44') (fun _ => nbot) n = rec16' at ih ⊢
    have hrec16 := ih
    unfold GX11_asksAll_16 HX11_asksAll_16
    refine nm_getA hM (j := 1) (by decide) ?_
    refine nm_aldI hM (t := 0) (by decide) (fun v22 => ?_)
    refine nm_if ?_ ?_
    · exact hk44
    · refine nm_getA hM (j := 10) (by decide) ?_
      refine nm_obj hM ?_
      refine nm_X11_ofBook hM x1_16 0 _ _ ?_
      intro v34
      refine nm_ast hM (t := 0) (by decide) ?_
      exact hrec16 (w32 (x1_16 + 1))
theorem nm_X11_asksAll {b : Nat} {w : Mu} (hM : MOK b w) : ∀ (x0 : MP) (X0 : NP), NM b w x0 X0 → NM b w ((MX11_asksAll b) x0) (NX11_asksAll X0) := by
  intro Qj Qj' hQj
  unfold MX11_asksAll NX11_asksAll
  refine nm_getA hM (j := 1) (by decide) ?_
  refine nm_aldI hM (t := 0) (by decide) (fun v7 => ?_)
  refine nm_putI hM ?_
  refine nm_ex (fun n16 => ?_)
  refine nmFX11_asksAll_16 hM ?_ n16 0
  · refine nm_ex (fun n46 => ?_)
    exact nmFX11_asksAll_46 hM hQj n46 0
theorem nm_X11_isAsked {b : Nat} {w : Mu} (hM : MOK b w) : ∀ (x0 : Int), ∀ (x1 : Int → MP) (X1 : Int → NP), (∀ (y0 : Int), NM b w (x1 y0) (X1 y0)) → NM b w ((MX11_isAsked b) x0 x1) (NX11_isAsked x0 X1) := by
  intro p1 Qj Qj' hQj
  unfold MX11_isAsked NX11_isAsked
  refine nm_getI hM (fun v1 => ?_)
  refine nm_if ?_ ?_
  · exact hQj 1
  · exact hQj 0
theorem nm_X11_sumAt {b : Nat} {w : Mu} (hM : MOK b w) : ∀ (x0 : Int), ∀ (x1 : Int), ∀ (x2 : Int), ∀ (x3 : Int → MP) (X3 : Int → NP), (∀ (y0 : Int), NM b w (x3 y0) (X3 y0)) → NM b w (MX11_sumAt x0 x1 x2 x3) (NX11_sumAt x0 x1 x2 X3) := by
  intro p0 p1 p2 Qj Qj' hQj
  unfold MX11_sumAt NX11_sumAt
  exact hQj (w32 ((w32 (25 * (w32 ((w32 (31 * p0)) + p1)))) + p2))
theorem nm_X11_fitAt {b : Nat} {w : Mu} (hM : MOK b w) : ∀ (x0 : Int), ∀ (x1 : Int), ∀ (x2 : Int), ∀ (x3 : Int → MP) (X3 : Int → NP), (∀ (y0 : Int), NM b w (x3 y0) (X3 y0)) → NM b w (MX11_fitAt x0 x1 x2 x3) (NX11_fitAt x0 x1 x2 X3) := by
  intro p0 p1 p2 Qj Qj' hQj
  unfold MX11_fitAt NX11_fitAt
  exact hQj (w32 ((w32 ((w32 ((w32 (3 * p0)) + p1)) * 24)) + p2))
theorem nm_X11_ofMove {b : Nat} {w : Mu} (hM : MOK b w) : ∀ (x0 : Int), ∀ (x1 : Int), ∀ (x2 : Int), ∀ (x3 : Int → MP) (X3 : Int → NP), (∀ (y0 : Int), NM b w (x3 y0) (X3 y0)) → NM b w ((MX11_ofMove b) x0 x1 x2 x3) (NX11_ofMove x0 x1 x2 X3) := by
  intro p1 p2 p3 Qj Qj' hQj
  unfold MX11_ofMove NX11_ofMove
  refine nm_join (fun (k8 : MP) (k8' : NP) => NM b w k8 k8') ?_ (fun k8 k8' hk8 => ?_)
  · exact hQj 1000
  refine nm_if ?_ ?_
  · exact hk8
  · refine nm_if ?_ ?_
    · exact hk8
    · refine nm_getA hM (j := 15) (by decide) ?_
      refine nm_X11_sumAt hM p3 (w32 (p1 - 1)) (w32 (p2 - 1)) _ _ ?_
      intro v25
      refine nm_aldI hM (t := 0) (by decide) (fun v28 => ?_)
      refine nm_getA hM (j := 13) (by decide) ?_
      refine nm_X11_fitAt hM (w32 (p1 - 1)) p3 (w32 (p2 - 1)) _ _ ?_
      intro v40
      refine nm_aldI hM (t := 0) (by decide) (fun v43 => ?_)
      exact hQj (w32 (v28 + v43))
theorem nm_X11_ofLost {b : Nat} {w : Mu} (hM : MOK b w) : ∀ (x0 : Int), ∀ (x1 : Int), ∀ (x2 : Int), ∀ (x3 : Int → MP) (X3 : Int → NP), (∀ (y0 : Int), NM b w (x3 y0) (X3 y0)) → NM b w ((MX11_ofLost b) x0 x1 x2 x3) (NX11_ofLost x0 x1 x2 X3) := by
  intro p1 p2 p3 Qj Qj' hQj
  unfold MX11_ofLost NX11_ofLost
  refine nm_join (fun (k14 : MP) (k14' : NP) => NM b w k14 k14') ?_ (fun k14 k14' hk14 => ?_)
  · exact hQj 1000
  refine nm_if ?_ ?_
  · exact hk14
  · refine nm_getA hM (j := 11) (by decide) ?_
    refine nm_aldI hM (t := 0) (by decide) (fun v10 => ?_)
    refine nm_if ?_ ?_
    · exact hk14
    · refine nm_getA hM (j := 15) (by decide) ?_
      refine nm_X11_sumAt hM p3 (w32 (p1 - 1)) p2 _ _ ?_
      intro v29
      refine nm_aldI hM (t := 0) (by decide) (fun v32 => ?_)
      refine nm_getA hM (j := 11) (by decide) ?_
      refine nm_aldI hM (t := 0) (by decide) (fun v39 => ?_)
      exact hQj (w32 (v32 + v39))
theorem nmFX11_isTwice_23 {b : Nat} {w : Mu} (hM : MOK b w) (p1 : Int) (p2 : Int) {Qj : Int → MP} {Qj' : Int → NP} (hQj : ∀ (x0 : Int), NM b w (Qj x0) (Qj' x0)) : ∀ n : Nat, ∀ (x0 : Int), ∀ (x1 : Int), NM b w (jit (GX11_isTwice_23 b p1 p2 Qj) (fun _ _ => mbot) n x0 x1) (jit (HX11_isTwice_23 p1 p2 Qj') (fun _ _ => nbot) n x0 x1) := by
  intro n
  induction n with
  | zero =>
    intro x3_23 x4_23
    exact NM.bot
  | succ n ih =>
    intro x3_23 x4_23
    show NM b w (GX11_isTwice_23 b p1 p2 Qj (jit (GX11_isTwice_23 b p1 p2 Qj) (fun _ _ => mbot) n) x3_23 x4_23) (HX11_isTwice_23 p1 p2 Qj' (jit (HX11_isTwice_23 p1 p2 Qj') (fun _ _ => nbot) n) x3_23 x4_23)
    generalize jit (GX11_isTwice_23 b p1 p2 Qj) (fun _ _ => mbot) n = rec23 at ih ⊢
    generalize jit (HX11_isTwice_23 p1 p2 Qj') (fun _ _ => nbot) n = rec23' at ih ⊢
    have hrec23 := ih
    unfold GX11_isTwice_23 HX11_isTwice_23
    refine nm_if ?_ ?_
    · refine nm_and ?_
      exact hQj x3_23
    · refine nm_if ?_ ?_
      · refine nm_and ?_
        exact hQj x3_23
      · refine nm_obj hM ?_
        refine nm_X11_ofNote hM p1 p2 x4_23 _ _ ?_
        intro v38
        refine nm_obj hM ?_
        refine nm_X11_ofNote hM p1 (w32 (p2 - 1)) x4_23 _ _ ?_
        intro v48
        refine nm_join (fun (k59 : Int → MP) (k59' : Int → NP) => ∀ (x0 : Int), NM b w (k59 x0) (k59' x0)) ?_ (fun k59 k59' hk59 => ?_)
        · intro s0_59
          exact hrec23 s0_59 (w32 (x4_23 + 1))
        refine nm_if ?_ ?_
        · exact hk59 1
        · exact hk59 0
theorem nm_X11_isTwice {b : Nat} {w : Mu} (hM : MOK b w) : ∀ (x0 : Int), ∀ (x1 : Int), ∀ (x2 : Int → MP) (X2 : Int → NP), (∀ (y0 : Int), NM b w (x2 y0) (X2 y0)) → NM b w ((MX11_isTwice b) x0 x1 x2) (NX11_isTwice x0 x1 X2) := by
  intro p1 p2 Qj Qj' hQj
  unfold MX11_isTwice NX11_isTwice
  refine nm_join (fun (k19 : Int → MP) (k19' : Int → NP) => ∀ (x0 : Int), NM b w (k19 x0) (k19' x0)) ?_ (fun k19 k19' hk19 => ?_)
  · intro s0_19
    refine nm_ex (fun n23 => ?_)
    exact nmFX11_isTwice_23 hM p1 p2 hQj n23 s0_19 0
  refine nm_join (fun (k18 : MP) (k18' : NP) => NM b w k18 k18') ?_ (fun k18 k18' hk18 => ?_)
  · exact hk19 0
  refine nm_if ?_ ?_
  · exact hk18
  · refine nm_getA hM (j := 11) (by decide) ?_
    refine nm_aldI hM (t := 0) (by decide) (fun v10 => ?_)
    refine nm_if ?_ ?_
    · exact hk18
    · exact hk19 1
theorem nm_X11_ofTwice {b : Nat} {w : Mu} (hM : MOK b w) : ∀ (x0 : Int), ∀ (x1 : Int), ∀ (x2 : Int), ∀ (x3 : Int → MP) (X3 : Int → NP), (∀ (y0 : Int), NM b w (x3 y0) (X3 y0)) → NM b w ((MX11_ofTwice b) x0 x1 x2 x3) (NX11_ofTwice x0 x1 x2 X3) := by
  intro p1 p2 p3 Qj Qj' hQj
  unfold MX11_ofTwice NX11_ofTwice
  refine nm_join (fun (k15 : MP) (k15' : NP) => NM b w k15 k15') ?_ (fun k15 k15' hk15 => ?_)
  · exact hQj 1000
  refine nm_if ?_ ?_
  · exact hk15
  · refine nm_obj hM ?_
    refine nm_X11_isTwice hM p3 (w32 (p2 - 1)) _ _ ?_
    intro v9
    refine nm_if ?_ ?_
    · exact hk15
    · refine nm_getA hM (j := 15) (by decide) ?_
      refine nm_X11_sumAt hM p3 p1 (w32 (p2 - 1)) _ _ ?_
      intro v30
      refine nm_aldI hM (t := 0) (by decide) (fun v33 => ?_)
      refine nm_getA hM (j := 11) (by decide) ?_
      refine nm_aldI hM (t := 0) (by decide) (fun v40 => ?_)
      exact hQj (w32 (v33 + v40))
theorem nmFX11_sums_2 {b : Nat} {w : Mu} (hM : MOK b w) (p1 : Int) (p2 : Int) {Qj : MP} {Qj' : NP} (hQj : NM b w Qj Qj') : ∀ n : Nat, ∀ (x0 : Int), NM b w (jit (GX11_sums_2 b p1 p2 Qj) (fun _ => mbot) n x0) (jit (HX11_sums_2 p1 p2 Qj') (fun _ => nbot) n x0) := by
  intro n
  induction n with
  | zero =>
    intro x3_2
    exact NM.bot
  | succ n ih =>
    intro x3_2
    show NM b w (GX11_sums_2 b p1 p2 Qj (jit (GX11_sums_2 b p1 p2 Qj) (fun _ => mbot) n) x3_2) (HX11_sums_2 p1 p2 Qj' (jit (HX11_sums_2 p1 p2 Qj') (fun _ => nbot) n) x3_2)
    generalize jit (GX11_sums_2 b p1 p2 Qj) (fun _ => mbot) n = rec2 at ih ⊢
    generalize jit (HX11_sums_2 p1 p2 Qj') (fun _ => nbot) n = rec2' at ih ⊢
    have hrec2 := ih
    unfold GX11_sums_2 HX11_sums_2
    refine nm_obj hM ?_
    refine nm_X11_notes hM p1 _ _ ?_
    intro v5
    refine nm_if ?_ ?_
    · exact hQj
    · refine nm_join (fun (k48 : Int → MP) (k48' : Int → NP) => ∀ (x0 : Int), NM b w (k48 x0) (k48' x0)) ?_ (fun k48 k48' hk48 => ?_)
      · intro s0_48
        refine nm_getA hM (j := 15) (by decide) ?_
        refine nm_X11_sumAt hM p1 p2 x3_2 _ _ ?_
        intro v57
        refine nm_ast hM (t := 0) (by decide) ?_
        exact hrec2 (w32 (x3_2 + 1))
      refine nm_if ?_ ?_
      · exact hk48 0
      · refine nm_obj hM ?_
        refine nm_X11_ofMove hM p2 x3_2 p1 _ _ ?_
        intro v25
        refine nm_obj hM ?_
        refine nm_X11_ofLost hM p2 x3_2 p1 _ _ ?_
        intro v32
        refine nm_obj hM ?_
        refine nm_X11_ofTwice hM p2 x3_2 p1 _ _ ?_
        intro v39
        exact hk48 (min v25 (min v32 v39))
theorem nm_X11_sums {b : Nat} {w : Mu} (hM : MOK b w) : ∀ (x0 : Int), ∀ (x1 : Int), ∀ (x2 : MP) (X2 : NP), NM b w x2 X2 → NM b w ((MX11_sums b) x0 x1 x2) (NX11_sums x0 x1 X2) := by
  intro p1 p2 Qj Qj' hQj
  unfold MX11_sums NX11_sums
  refine nm_ex (fun n2 => ?_)
  exact nmFX11_sums_2 hM p1 p2 hQj n2 0
theorem nmFX11_prices_46 {b : Nat} {w : Mu} (hM : MOK b w) (p1 : Int) (x2_12 : Int) {k79 : Int → MP} {k79' : Int → NP} (hk79 : ∀ (x0 : Int), NM b w (k79 x0) (k79' x0)) : ∀ n : Nat, ∀ (x0 : Int), ∀ (x1 : Int), NM b w (jit (GX11_prices_46 b p1 x2_12 k79) (fun _ _ => mbot) n x0 x1) (jit (HX11_prices_46 p1 x2_12 k79') (fun _ _ => nbot) n x0 x1) := by
  intro n
  induction n with
  | zero =>
    intro x3_46 x4_46
    exact NM.bot
  | succ n ih =>
    intro x3_46 x4_46
    show NM b w (GX11_prices_46 b p1 x2_12 k79 (jit (GX11_prices_46 b p1 x2_12 k79) (fun _ _ => mbot) n) x3_46 x4_46) (HX11_prices_46 p1 x2_12 k79' (jit (HX11_prices_46 p1 x2_12 k79') (fun _ _ => nbot) n) x3_46 x4_46)
    generalize jit (GX11_prices_46 b p1 x2_12 k79) (fun _ _ => mbot) n = rec46 at ih ⊢
    generalize jit (HX11_prices_46 p1 x2_12 k79') (fun _ _ => nbot) n = rec46' at ih ⊢
    have hrec46 := ih
    unfold GX11_prices_46 HX11_prices_46
    refine nm_obj hM ?_
    refine nm_X11_notes hM x2_12 _ _ ?_
    intro v50
    refine nm_if ?_ ?_
    · exact hk79 x3_46
    · refine nm_getA hM (j := 15) (by decide) ?_
      refine nm_X11_sumAt hM x2_12 p1 x4_46 _ _ ?_
      intro v65
      refine nm_aldI hM (t := 0) (by decide) (fun v68 => ?_)
      exact hrec46 (min x3_46 v68) (w32 (x4_46 + 1))
theorem nmFX11_prices_12 {b : Nat} {w : Mu} (hM : MOK b w) (p1 : Int) {Qj : MP} {Qj' : NP} (hQj : NM b w Qj Qj') : ∀ n : Nat, ∀ (x0 : Int), NM b w (jit (GX11_prices_12 b p1 Qj) (fun _ => mbot) n x0) (jit (HX11_prices_12 p1 Qj') (fun _ => nbot) n x0) := by
  intro n
  induction n with
  | zero =>
    intro x2_12
    exact NM.bot
  | succ n ih =>
    intro x2_12
    show NM b w (GX11_prices_12 b p1 Qj (jit (GX11_prices_12 b p1 Qj) (fun _ => mbot) n) x2_12) (HX11_prices_12 p1 Qj' (jit (HX11_prices_12 p1 Qj') (fun _ => nbot) n) x2_12)
    generalize jit (GX11_prices_12 b p1 Qj) (fun _ => mbot) n = rec12 at ih ⊢
    generalize jit (HX11_prices_12 p1 Qj') (fun _ => nbot) n = rec12' at ih ⊢
    have hrec12 := ih
    unfold GX11_prices_12 HX11_prices_12
    refine nm_getA hM (j := 1) (by decide) ?_
    refine nm_aldI hM (t := 0) (by decide) (fun v18 => ?_)
    refine nm_if ?_ ?_
    · exact hQj
    · refine nm_obj hM ?_
      refine nm_X11_isAsked hM x2_12 _ _ ?_
      intro v24
      refine nm_join (fun (k113 : MP) (k113' : NP) => NM b w k113 k113') ?_ (fun k113 k113' hk113 => ?_)
      · exact hrec12 (w32 (x2_12 + 1))
      refine nm_if ?_ ?_
      · exact hk113
      · refine nm_obj hM ?_
        refine nm_X11_sums hM x2_12 p1 _ _ ?_
        refine nm_ex (fun n46 => ?_)
        refine nmFX11_prices_46 hM p1 x2_12 ?_ n46 1000 0
        · intro y3_79
          refine nm_getI hM (fun v81 => ?_)
          refine nm_putI hM ?_
          refine nm_getI hM (fun v91 => ?_)
          refine nm_getA hM (j := 15) (by decide) ?_
          refine nm_obj hM ?_
          refine nm_X11_notes hM x2_12 _ _ ?_
          intro v102
          refine nm_X11_sumAt hM x2_12 p1 v102 _ _ ?_
          intro v105
          refine nm_aldI hM (t := 0) (by decide) (fun v108 => ?_)
          refine nm_putI hM ?_
          exact hk113
theorem nm_X11_prices {b : Nat} {w : Mu} (hM : MOK b w) : ∀ (x0 : Int), ∀ (x1 : MP) (X1 : NP), NM b w x1 X1 → NM b w ((MX11_prices b) x0 x1) (NX11_prices x0 X1) := by
  intro p1 Qj Qj' hQj
  unfold MX11_prices NX11_prices
  refine nm_putI hM ?_
  refine nm_putI hM ?_
  refine nm_ex (fun n12 => ?_)
  exact nmFX11_prices_12 hM p1 hQj n12 0
theorem nm_X11_valueOf {b : Nat} {w : Mu} (hM : MOK b w) : ∀ (x0 : Int), ∀ (x1 : Int → MP) (X1 : Int → NP), (∀ (y0 : Int), NM b w (x1 y0) (X1 y0)) → NM b w ((MX11_valueOf b) x0 x1) (NX11_valueOf x0 X1) := by
  intro p1 Qj Qj' hQj
  unfold MX11_valueOf NX11_valueOf
  refine nm_getA hM (j := 1) (by decide) ?_
  refine nm_aldI hM (t := 0) (by decide) (fun v11 => ?_)
  exact hQj v11
theorem nmFX11_holdsLine_11 {b : Nat} {w : Mu} (hM : MOK b w) (p1 : Int) {k258 : Int → MP} {k258' : Int → NP} (hk258 : ∀ (x0 : Int), NM b w (k258 x0) (k258' x0)) : ∀ n : Nat, ∀ (x0 : Int), ∀ (x1 : Int), NM b w (jit (GX11_holdsLine_11 b p1 k258) (fun _ _ => mbot) n x0 x1) (jit (HX11_holdsLine_11 p1 k258') (fun _ _ => nbot) n x0 x1) := by
  intro n
  induction n with
  | zero =>
    intro x2_11 x3_11
    exact NM.bot
  | succ n ih =>
    intro x2_11 x3_11
    show NM b w (GX11_holdsLine_11 b p1 k258 (jit (GX11_holdsLine_11 b p1 k258) (fun _ _ => mbot) n) x2_11 x3_11) (HX11_holdsLine_11 p1 k258' (jit (HX11_holdsLine_11 p1 k258') (fun _ _ => nbot) n) x2_11 x3_11)
    generalize jit (GX11_holdsLine_11 b p1 k258) (fun _ _ => mbot) n = rec11 at ih ⊢
    generalize jit (HX11_holdsLine_11 p1 k258') (fun _ _ => nbot) n = rec11' at ih ⊢
    have hrec11 := ih
    unfold GX11_holdsLine_11 HX11_holdsLine_11
    refine nm_getA hM (j := 1) (by decide) ?_
    refine nm_aldI hM (t := 0) (by decide) (fun v19 => ?_)
    refine nm_if ?_ ?_
    · exact hk258 x2_11
    · refine nm_getA hM (j := 1) (by decide) ?_
      refine nm_aldI hM (t := 0) (by decide) (fun v34 => ?_)
      refine nm_join (fun (k252 : Int → MP) (k252' : Int → NP) => ∀ (x0 : Int), NM b w (k252 x0) (k252' x0)) ?_ (fun k252 k252' hk252 => ?_)
      · intro x2_252
        exact hrec11 x2_252 (w32 (x3_11 + 1))
      refine nm_if ?_ ?_
      · refine nm_if ?_ ?_
        · refine nm_getA hM (j := 7) (by decide) ?_
          refine nm_getA hM (j := 7) (by decide) ?_
          refine nm_aldI hM (t := 0) (by decide) (fun v109 => ?_)
          refine nm_ast hM (t := 0) (by decide) ?_
          exact hk252 x2_11
        · refine nm_getA hM (j := 7) (by decide) ?_
          refine nm_aldI hM (t := 0) (by decide) (fun v125 => ?_)
          refine nm_getA hM (j := 7) (by decide) ?_
          refine nm_aldI hM (t := 0) (by decide) (fun v133 => ?_)
          refine nm_join (fun (k217 : Int → MP) (k217' : Int → NP) => ∀ (x0 : Int), NM b w (k217 x0) (k217' x0)) ?_ (fun k217 k217' hk217 => ?_)
          · intro s0_217
            refine nm_getA hM (j := 7) (by decide) ?_
            refine nm_join (fun (k251 : Int → MP) (k251' : Int → NP) => ∀ (x0 : Int), NM b w (k251 x0) (k251' x0)) ?_ (fun k251 k251' hk251 => ?_)
            · intro s2_251
              refine nm_ast hM (t := 0) (by decide) ?_
              exact hk252 (w32 (x2_11 + (-1)))
            refine nm_if ?_ ?_
            · exact hk251 (w32 (v125 + v133))
            · refine nm_if ?_ ?_
              · exact hk251 0
              · exact hk251 1
          refine nm_if ?_ ?_
          · refine nm_if ?_ ?_
            · exact hk217 0
            · exact hk217 1
          · refine nm_if ?_ ?_
            · refine nm_if ?_ ?_
              · exact hk217 0
              · exact hk217 1
            · refine nm_if ?_ ?_
              · refine nm_if ?_ ?_
                · exact hk217 1
                · exact hk217 0
              · refine nm_if ?_ ?_
                · exact hk217 0
                · exact hk217 1
      · refine nm_getA hM (j := 7) (by decide) ?_
        refine nm_join (fun (k80 : Int → MP) (k80' : Int → NP) => ∀ (x0 : Int), NM b w (k80 x0) (k80' x0)) ?_ (fun k80 k80' hk80 => ?_)
        · intro s2_80
          refine nm_ast hM (t := 0) (by decide) ?_
          exact hk252 (w32 (x2_11 + 1))
        refine nm_if ?_ ?_
        · refine nm_getA hM (j := 1) (by decide) ?_
          refine nm_aldI hM (t := 0) (by decide) (fun v69 => ?_)
          exact hk80 v69
        · refine nm_getA hM (j := 6) (by decide) ?_
          refine nm_aldI hM (t := 0) (by decide) (fun v79 => ?_)
          exact hk80 v79
theorem nm_X11_holdsLine {b : Nat} {w : Mu} (hM : MOK b w) : ∀ (x0 : Int), ∀ (x1 : Int → MP) (X1 : Int → NP), (∀ (y0 : Int), NM b w (x1 y0) (X1 y0)) → NM b w ((MX11_holdsLine b) x0 x1) (NX11_holdsLine x0 X1) := by
  intro p1 Qj Qj' hQj
  unfold MX11_holdsLine NX11_holdsLine
  refine nm_getA hM (j := 1) (by decide) ?_
  refine nm_aldI hM (t := 0) (by decide) (fun v9 => ?_)
  refine nm_ex (fun n11 => ?_)
  refine nmFX11_holdsLine_11 hM p1 ?_ n11 0 v9
  · intro y2_258
    refine nm_join (fun (k272 : MP) (k272' : NP) => NM b w k272 k272') ?_ (fun k272 k272' hk272 => ?_)
    · exact hQj 1
    refine nm_if ?_ ?_
    · exact hk272
    · refine nm_getA hM (j := 7) (by decide) ?_
      refine nm_aldI hM (t := 0) (by decide) (fun v267 => ?_)
      refine nm_if ?_ ?_
      · exact hk272
      · exact hQj 0
theorem nmFX11_measured_4 {b : Nat} {w : Mu} (hM : MOK b w) {Qj : Int → MP} {Qj' : Int → NP} (hQj : ∀ (x0 : Int), NM b w (Qj x0) (Qj' x0)) : ∀ n : Nat, ∀ (x0 : Int), ∀ (x1 : Int), NM b w (jit (GX11_measured_4 b Qj) (fun _ _ => mbot) n x0 x1) (jit (HX11_measured_4 Qj') (fun _ _ => nbot) n x0 x1) := by
  intro n
  induction n with
  | zero =>
    intro x1_4 x2_4
    exact NM.bot
  | succ n ih =>
    intro x1_4 x2_4
    show NM b w (GX11_measured_4 b Qj (jit (GX11_measured_4 b Qj) (fun _ _ => mbot) n) x1_4 x2_4) (HX11_measured_4 Qj' (jit (HX11_measured_4 Qj') (fun _ _ => nbot) n) x1_4 x2_4)
    generalize jit (GX11_measured_4 b Qj) (fun _ _ => mbot) n = rec4 at ih ⊢
    generalize jit (HX11_measured_4 Qj') (fun _ _ => nbot) n = rec4' at ih ⊢
    have hrec4 := ih
    unfold GX11_measured_4 HX11_measured_4
    refine nm_getA hM (j := 1) (by decide) ?_
    refine nm_aldI hM (t := 0) (by decide) (fun v12 => ?_)
    refine nm_if ?_ ?_
    · exact hQj x1_4
    · refine nm_obj hM ?_
      refine nm_X11_holdsLine hM (w32 (444 + (w32 (4 * x2_4)))) _ _ ?_
      intro v26
      refine nm_join (fun (k70 : Int → MP) (k70' : Int → NP) => ∀ (x0 : Int), NM b w (k70 x0) (k70' x0)) ?_ (fun k70 k70' hk70 => ?_)
      · intro x1_70
        exact hrec4 x1_70 (w32 (x2_4 + 1))
      refine nm_if ?_ ?_
      · exact hk70 x1_4
      · refine nm_getA hM (j := 1) (by decide) ?_
        refine nm_aldI hM (t := 0) (by decide) (fun v38 => ?_)
        refine nm_getA hM (j := 1) (by decide) ?_
        refine nm_aldI hM (t := 0) (by decide) (fun v46 => ?_)
        refine nm_join (fun (k67 : Int → MP) (k67' : Int → NP) => ∀ (x0 : Int), NM b w (k67 x0) (k67' x0)) ?_ (fun k67 k67' hk67 => ?_)
        · intro s2_67
          exact hk70 (w32 (x1_4 + (w32 (v38 * s2_67))))
        refine nm_if ?_ ?_
        · refine nm_getA hM (j := 6) (by decide) ?_
          refine nm_getA hM (j := 1) (by decide) ?_
          refine nm_aldI hM (t := 0) (by decide) (fun v65 => ?_)
          refine nm_aldI hM (t := 0) (by decide) (fun v66 => ?_)
          exact hk67 v66
        · exact hk67 1
theorem nm_X11_measured {b : Nat} {w : Mu} (hM : MOK b w) : ∀ (x0 : Int → MP) (X0 : Int → NP), (∀ (y0 : Int), NM b w (x0 y0) (X0 y0)) → NM b w ((MX11_measured b) x0) (NX11_measured X0) := by
  intro Qj Qj' hQj
  unfold MX11_measured NX11_measured
  refine nm_ex (fun n4 => ?_)
  exact nmFX11_measured_4 hM hQj n4 0 0
theorem nmFX11_measures_121 {b : Nat} {w : Mu} (hM : MOK b w) (p1 : Int) (v19 : Int) (v39 : Int) {k204 : MP} {k204' : NP} (hk204 : NM b w k204 k204') : ∀ n : Nat, ∀ (x0 : Int), NM b w (jit (GX11_measures_121 b p1 v19 v39 k204) (fun _ => mbot) n x0) (jit (HX11_measures_121 p1 v19 v39 k204') (fun _ => nbot) n x0) := by
  intro n
  induction n with
  | zero =>
    intro x6_121
    exact NM.bot
  | succ n ih =>
    intro x6_121
    show NM b w (GX11_measures_121 b p1 v19 v39 k204 (jit (GX11_measures_121 b p1 v19 v39 k204) (fun _ => mbot) n) x6_121) (HX11_measures_121 p1 v19 v39 k204' (jit (HX11_measures_121 p1 v19 v39 k204') (fun _ => nbot) n) x6_121)
    generalize jit (GX11_measures_121 b p1 v19 v39 k204) (fun _ => mbot) n = rec121 at ih ⊢
    generalize jit (HX11_measures_121 p1 v19 v39 k204') (fun _ => nbot) n = rec121' at ih ⊢
    have hrec121 := ih
    unfold GX11_measures_121 HX11_measures_121
    refine nm_if ?_ ?_
    · exact hk204
    · refine nm_getA hM (j := 6) (by decide) ?_
      refine nm_aldI hM (t := 0) (by decide) (fun v134 => ?_)
      refine nm_obj hM ?_
      refine nm_X11_at hM p1 x6_121 _ _ ?_
      intro v139
      refine nm_join (fun (k168 : Int → MP) (k168' : Int → NP) => ∀ (x0 : Int), NM b w (k168 x0) (k168' x0)) ?_ (fun k168 k168' hk168 => ?_)
      · intro s3_168
        refine nm_ast hM (t := 0) (by decide) ?_
        refine nm_getA hM (j := 9) (by decide) ?_
        refine nm_aldI hM (t := 1) (by decide) (fun v187 => ?_)
        refine nm_join (fun (k198 : MP) (k198' : NP) => NM b w k198 k198') ?_ (fun k198 k198' hk198 => ?_)
        · exact hrec121 (w32 (x6_121 + 1))
        refine nm_if ?_ ?_
        · exact hk198
        · refine nm_getA hM (j := 6) (by decide) ?_
          refine nm_ast hM (t := 0) (by decide) ?_
          exact hk198
      refine nm_join (fun (k167 : MP) (k167' : NP) => NM b w k167 k167') ?_ (fun k167 k167' hk167 => ?_)
      · exact hk168 0
      refine nm_if ?_ ?_
      · exact hk167
      · refine nm_obj hM ?_
        refine nm_X11_at hM p1 x6_121 _ _ ?_
        intro v149
        refine nm_X11_sideOf hM v149 _ _ ?_
        intro v152
        refine nm_X11_sideOf hM v39 _ _ ?_
        intro v157
        refine nm_if ?_ ?_
        · exact hk168 1
        · exact hk167
theorem nm_X11_measures {b : Nat} {w : Mu} (hM : MOK b w) : ∀ (x0 : Int), ∀ (x1 : MP) (X1 : NP), NM b w x1 X1 → NM b w ((MX11_measures b) x0 x1) (NX11_measures x0 X1) := by
  intro p1 Qj Qj' hQj
  unfold MX11_measures NX11_measures
  refine nm_if ?_ ?_
  · refine nm_getA hM (j := 22) (by decide) ?_
    refine nm_ast hM (t := 0) (by decide) ?_
    exact hQj
  · refine nm_getA hM (j := 12) (by decide) ?_
    refine nm_aldI hM (t := 0) (by decide) (fun v19 => ?_)
    refine nm_obj hM ?_
    refine nm_X11_at hM (w32 (p1 - 1)) (Int.tmod v19 36) _ _ ?_
    intro v31
    refine nm_obj hM ?_
    refine nm_X11_at hM p1 (Int.tmod v19 36) _ _ ?_
    intro v39
    refine nm_getA hM (j := 6) (by decide) ?_
    refine nm_join (fun (k66 : Int → MP) (k66' : Int → NP) => ∀ (x0 : Int), NM b w (k66 x0) (k66' x0)) ?_ (fun k66 k66' hk66 => ?_)
    · intro s2_66
      refine nm_ast hM (t := 0) (by decide) ?_
      refine nm_getA hM (j := 6) (by decide) ?_
      refine nm_obj hM ?_
      refine nm_X11_valueOf hM (w32 (Int.tdiv v39 2)) _ _ ?_
      intro v77
      refine nm_ast hM (t := 0) (by decide) ?_
      refine nm_getA hM (j := 6) (by decide) ?_
      refine nm_ast hM (t := 0) (by decide) ?_
      refine nm_getA hM (j := 6) (by decide) ?_
      refine nm_join (fun (k103 : Int → MP) (k103' : Int → NP) => ∀ (x0 : Int), NM b w (k103 x0) (k103' x0)) ?_ (fun k103 k103' hk103 => ?_)
      · intro s2_103
        refine nm_ast hM (t := 0) (by decide) ?_
        refine nm_getA hM (j := 6) (by decide) ?_
        refine nm_ast hM (t := 0) (by decide) ?_
        refine nm_getA hM (j := 6) (by decide) ?_
        refine nm_ast hM (t := 0) (by decide) ?_
        refine nm_ex (fun n121 => ?_)
        refine nmFX11_measures_121 hM p1 v19 v39 ?_ n121 0
        · refine nm_getA hM (j := 22) (by decide) ?_
          refine nm_getA hM (j := 22) (by decide) ?_
          refine nm_aldI hM (t := 0) (by decide) (fun v216 => ?_)
          refine nm_getA hM (j := 1) (by decide) ?_
          refine nm_aldI hM (t := 0) (by decide) (fun v222 => ?_)
          refine nm_join (fun (k235 : Int → MP) (k235' : Int → NP) => ∀ (x0 : Int), NM b w (k235 x0) (k235' x0)) ?_ (fun k235 k235' hk235 => ?_)
          · intro s3_235
            refine nm_ast hM (t := 0) (by decide) ?_
            exact hQj
          refine nm_if ?_ ?_
          · refine nm_obj hM ?_
            refine nm_X11_measured hM _ _ ?_
            intro v228
            exact hk235 v228
          · exact hk235 0
      refine nm_if ?_ ?_
      · exact hk103 1
      · exact hk103 0
    refine nm_if ?_ ?_
    · refine nm_obj hM ?_
      refine nm_X11_valueOf hM (w32 (Int.tdiv v31 2)) _ _ ?_
      intro v63
      exact hk66 v63
    · exact hk66 0
theorem nmFX11_isBarred_4 {b : Nat} {w : Mu} (hM : MOK b w) (p1 : Int) {Qj : Int → MP} {Qj' : Int → NP} (hQj : ∀ (x0 : Int), NM b w (Qj x0) (Qj' x0)) : ∀ n : Nat, ∀ (x0 : Int), ∀ (x1 : Int), NM b w (jit (GX11_isBarred_4 b p1 Qj) (fun _ _ => mbot) n x0 x1) (jit (HX11_isBarred_4 p1 Qj') (fun _ _ => nbot) n x0 x1) := by
  intro n
  induction n with
  | zero =>
    intro x2_4 x3_4
    exact NM.bot
  | succ n ih =>
    intro x2_4 x3_4
    show NM b w (GX11_isBarred_4 b p1 Qj (jit (GX11_isBarred_4 b p1 Qj) (fun _ _ => mbot) n) x2_4 x3_4) (HX11_isBarred_4 p1 Qj' (jit (HX11_isBarred_4 p1 Qj') (fun _ _ => nbot) n) x2_4 x3_4)
    generalize jit (GX11_isBarred_4 b p1 Qj) (fun _ _ => mbot) n = rec4 at ih ⊢
    generalize jit (HX11_isBarred_4 p1 Qj') (fun _ _ => nbot) n = rec4' at ih ⊢
    have hrec4 := ih
    unfold GX11_isBarred_4 HX11_isBarred_4
    refine nm_getA hM (j := 1) (by decide) ?_
    refine nm_aldI hM (t := 0) (by decide) (fun v10 => ?_)
    refine nm_if ?_ ?_
    · refine nm_and ?_
      exact hQj x2_4
    · refine nm_getI hM (fun v15 => ?_)
      refine nm_if ?_ ?_
      · refine nm_join (fun (k76 : Int → MP) (k76' : Int → NP) => ∀ (x0 : Int), NM b w (k76 x0) (k76' x0)) ?_ (fun k76 k76' hk76 => ?_)
        · intro s0_76
          exact hrec4 s0_76 (w32 (x3_4 + 1))
        refine nm_join (fun (k71 : MP) (k71' : NP) => NM b w k71 k71') ?_ (fun k71 k71' hk71 => ?_)
        · exact hk76 1
        refine nm_if ?_ ?_
        · refine nm_getA hM (j := 1) (by decide) ?_
          refine nm_aldI hM (t := 0) (by decide) (fun v40 => ?_)
          refine nm_join (fun (k75 : MP) (k75' : NP) => NM b w k75 k75') ?_ (fun k75 k75' hk75 => ?_)
          · exact hk76 0
          refine nm_if ?_ ?_
          · refine nm_getA hM (j := 1) (by decide) ?_
            refine nm_aldI hM (t := 0) (by decide) (fun v55 => ?_)
            refine nm_obj hM ?_
            refine nm_X11_at hM p1 v55 _ _ ?_
            intro v56
            refine nm_getA hM (j := 1) (by decide) ?_
            refine nm_aldI hM (t := 0) (by decide) (fun v67 => ?_)
            refine nm_if ?_ ?_
            · exact hk75
            · exact hk71
          · exact hk75
        · exact hk71
      · refine nm_and ?_
        exact hQj x2_4
theorem nm_X11_isBarred {b : Nat} {w : Mu} (hM : MOK b w) : ∀ (x0 : Int), ∀ (x1 : Int → MP) (X1 : Int → NP), (∀ (y0 : Int), NM b w (x1 y0) (X1 y0)) → NM b w ((MX11_isBarred b) x0 x1) (NX11_isBarred x0 X1) := by
  intro p1 Qj Qj' hQj
  unfold MX11_isBarred NX11_isBarred
  refine nm_ex (fun n4 => ?_)
  exact nmFX11_isBarred_4 hM p1 hQj n4 0 0
theorem nmFX11_isLongEnough_34 {b : Nat} {w : Mu} (hM : MOK b w) (p1 : Int) {Qj : Int → MP} {Qj' : Int → NP} (hQj : ∀ (x0 : Int), NM b w (Qj x0) (Qj' x0)) : ∀ n : Nat, ∀ (x0 : Int), ∀ (x1 : Int), NM b w (jit (GX11_isLongEnough_34 b p1 Qj) (fun _ _ => mbot) n x0 x1) (jit (HX11_isLongEnough_34 p1 Qj') (fun _ _ => nbot) n x0 x1) := by
  intro n
  induction n with
  | zero =>
    intro x2_34 x3_34
    exact NM.bot
  | succ n ih =>
    intro x2_34 x3_34
    show NM b w (GX11_isLongEnough_34 b p1 Qj (jit (GX11_isLongEnough_34 b p1 Qj) (fun _ _ => mbot) n) x2_34 x3_34) (HX11_isLongEnough_34 p1 Qj' (jit (HX11_isLongEnough_34 p1 Qj') (fun _ _ => nbot) n) x2_34 x3_34)
    generalize jit (GX11_isLongEnough_34 b p1 Qj) (fun _ _ => mbot) n = rec34 at ih ⊢
    generalize jit (HX11_isLongEnough_34 p1 Qj') (fun _ _ => nbot) n = rec34' at ih ⊢
    have hrec34 := ih
    unfold GX11_isLongEnough_34 HX11_isLongEnough_34
    refine nm_getA hM (j := 1) (by decide) ?_
    refine nm_aldI hM (t := 0) (by decide) (fun v40 => ?_)
    refine nm_if ?_ ?_
    · refine nm_and ?_
      exact hQj x2_34
    · refine nm_getI hM (fun v45 => ?_)
      refine nm_if ?_ ?_
      · refine nm_join (fun (k76 : Int → MP) (k76' : Int → NP) => ∀ (x0 : Int), NM b w (k76 x0) (k76' x0)) ?_ (fun k76 k76' hk76 => ?_)
        · intro s0_76
          exact hrec34 s0_76 (w32 (x3_34 + 1))
        refine nm_join (fun (k75 : MP) (k75' : NP) => NM b w k75 k75') ?_ (fun k75 k75' hk75 => ?_)
        · exact hk76 0
        refine nm_if ?_ ?_
        · exact hk75
        · refine nm_getA hM (j := 1) (by decide) ?_
          refine nm_aldI hM (t := 0) (by decide) (fun v66 => ?_)
          refine nm_if ?_ ?_
          · exact hk75
          · exact hk76 1
      · refine nm_and ?_
        exact hQj x2_34
theorem nm_X11_isLongEnough {b : Nat} {w : Mu} (hM : MOK b w) : ∀ (x0 : Int), ∀ (x1 : Int → MP) (X1 : Int → NP), (∀ (y0 : Int), NM b w (x1 y0) (X1 y0)) → NM b w ((MX11_isLongEnough b) x0 x1) (NX11_isLongEnough x0 X1) := by
  intro p1 Qj Qj' hQj
  unfold MX11_isLongEnough NX11_isLongEnough
  refine nm_getI hM (fun v1 => ?_)
  refine nm_join (fun (k31 : Int → MP) (k31' : Int → NP) => ∀ (x0 : Int), NM b w (k31 x0) (k31' x0)) ?_ (fun k31 k31' hk31 => ?_)
  · intro s0_31
    refine nm_ex (fun n34 => ?_)
    exact nmFX11_isLongEnough_34 hM p1 hQj n34 s0_31 0
  refine nm_join (fun (k26 : MP) (k26' : NP) => NM b w k26 k26') ?_ (fun k26 k26' hk26 => ?_)
  · exact hk31 1
  refine nm_if ?_ ?_
  · refine nm_getA hM (j := 1) (by decide) ?_
    refine nm_aldI hM (t := 0) (by decide) (fun v12 => ?_)
    refine nm_if ?_ ?_
    · exact hk26
    · refine nm_getA hM (j := 1) (by decide) ?_
      refine nm_aldI hM (t := 0) (by decide) (fun v21 => ?_)
      refine nm_if ?_ ?_
      · exact hk26
      · exact hk31 0
  · exact hk26
theorem nmFX11_takes_2 {b : Nat} {w : Mu} (hM : MOK b w) {p1 : Nat} (hp1 : (p1, 0, 30) ∈ narrs) (p2 : Int) {Qj : Int → MP} {Qj' : Int → NP} (hQj : ∀ (x0 : Int), NM b w (Qj x0) (Qj' x0)) : ∀ n : Nat, ∀ (x0 : Int), NM b w (jit (GX11_takes_2 b (b + p1) p2 Qj) (fun _ => mbot) n x0) (jit (HX11_takes_2 p1 p2 Qj') (fun _ => nbot) n x0) := by
  intro n
  induction n with
  | zero =>
    intro x3_2
    exact NM.bot
  | succ n ih =>
    intro x3_2
    show NM b w (GX11_takes_2 b (b + p1) p2 Qj (jit (GX11_takes_2 b (b + p1) p2 Qj) (fun _ => mbot) n) x3_2) (HX11_takes_2 p1 p2 Qj' (jit (HX11_takes_2 p1 p2 Qj') (fun _ => nbot) n) x3_2)
    generalize jit (GX11_takes_2 b (b + p1) p2 Qj) (fun _ => mbot) n = rec2 at ih ⊢
    generalize jit (HX11_takes_2 p1 p2 Qj') (fun _ => nbot) n = rec2' at ih ⊢
    have hrec2 := ih
    unfold GX11_takes_2 HX11_takes_2
    refine nm_if ?_ ?_
    · exact hQj p2
    · refine nm_getA hM (j := 12) (by decide) ?_
      refine nm_aldI hM (t := 0) (by decide) (fun v14 => ?_)
      refine nm_ast hM (t := 0) hp1 ?_
      exact hrec2 (w32 (x3_2 + 1))
theorem nm_X11_takes {b : Nat} {w : Mu} (hM : MOK b w) {p1 : Nat} (hp1 : (p1, 0, 30) ∈ narrs) : ∀ (x0 : Int), ∀ (x1 : Int → MP) (X1 : Int → NP), (∀ (y0 : Int), NM b w (x1 y0) (X1 y0)) → NM b w ((MX11_takes b (b + p1)) x0 x1) ((NX11_takes p1) x0 X1) := by
  intro p2 Qj Qj' hQj
  unfold MX11_takes NX11_takes
  refine nm_ex (fun n2 => ?_)
  exact nmFX11_takes_2 hM hp1 p2 hQj n2 0
theorem nm_X11_meets {b : Nat} {w : Mu} (hM : MOK b w) : ∀ (x0 : Int), ∀ (x1 : Int), ∀ (x2 : MP) (X2 : NP), NM b w x2 X2 → NM b w ((MX11_meets b) x0 x1 x2) (NX11_meets x0 x1 X2) := by
  intro p1 p2 Qj Qj' hQj
  unfold MX11_meets NX11_meets
  refine nm_getI hM (fun v1 => ?_)
  refine nm_if ?_ ?_
  · exact hQj
  · refine nm_obj hM ?_
    refine nm_X11_isBarred hM p1 _ _ ?_
    intro v10
    refine nm_if ?_ ?_
    · refine nm_obj hM ?_
      refine nm_X11_isLongEnough hM p1 _ _ ?_
      intro v18
      refine nm_if ?_ ?_
      · exact hQj
      · refine nm_getA hM (j := 17) (by decide) ?_
        refine nm_getI hM (fun v30 => ?_)
        refine nm_aldI hM (t := 3) (by decide) (fun v34 => ?_)
        refine nm_ast hM (t := 3) (by decide) ?_
        refine nm_getI hM (fun v39 => ?_)
        refine nm_join (fun (k75 : MP) (k75' : NP) => NM b w k75 k75') ?_ (fun k75 k75' hk75 => ?_)
        · refine nm_getI hM (fun v77 => ?_)
          refine nm_putI hM ?_
          refine nm_getI hM (fun v86 => ?_)
          refine nm_join (fun (k106 : MP) (k106' : NP) => NM b w k106 k106') ?_ (fun k106 k106' hk106 => ?_)
          · refine nm_getI hM (fun v107 => ?_)
            refine nm_join (fun (k127 : MP) (k127' : NP) => NM b w k127 k127') ?_ (fun k127 k127' hk127 => ?_)
            · refine nm_getI hM (fun v128 => ?_)
              refine nm_if ?_ ?_
              · exact hQj
              · refine nm_getI hM (fun v138 => ?_)
                refine nm_join (fun (k159 : MP) (k159' : NP) => NM b w k159 k159') ?_ (fun k159 k159' hk159 => ?_)
                · refine nm_getA hM (j := 21) (by decide) ?_
                  refine nm_obj hM ?_
                  refine nm_X11_takes hM (by decide : (21, 0, 30) ∈ narrs) p1 _ _ ?_
                  intro v166
                  refine nm_putI hM ?_
                  refine nm_getA hM (j := 22) (by decide) ?_
                  refine nm_aldI hM (t := 0) (by decide) (fun v178 => ?_)
                  refine nm_putI hM ?_
                  exact hQj
                refine nm_if ?_ ?_
                · exact hk159
                · refine nm_getA hM (j := 22) (by decide) ?_
                  refine nm_aldI hM (t := 0) (by decide) (fun v150 => ?_)
                  refine nm_getI hM (fun v152 => ?_)
                  refine nm_if ?_ ?_
                  · exact hk159
                  · exact hQj
            refine nm_if ?_ ?_
            · refine nm_getA hM (j := 20) (by decide) ?_
              refine nm_obj hM ?_
              refine nm_X11_takes hM (by decide : (20, 0, 30) ∈ narrs) p1 _ _ ?_
              intro v121
              refine nm_putI hM ?_
              exact hk127
            · exact hk127
          refine nm_if ?_ ?_
          · refine nm_getA hM (j := 19) (by decide) ?_
            refine nm_obj hM ?_
            refine nm_X11_takes hM (by decide : (19, 0, 30) ∈ narrs) p1 _ _ ?_
            intro v100
            refine nm_putI hM ?_
            exact hk106
          · exact hk106
        refine nm_if ?_ ?_
        · exact hk75
        · refine nm_getA hM (j := 12) (by decide) ?_
          refine nm_getI hM (fun v51 => ?_)
          refine nm_aldI hM (t := 0) (by decide) (fun v54 => ?_)
          refine nm_getI hM (fun v56 => ?_)
          refine nm_if ?_ ?_
          · refine nm_getA hM (j := 18) (by decide) ?_
            refine nm_getI hM (fun v67 => ?_)
            refine nm_aldI hM (t := 3) (by decide) (fun v71 => ?_)
            refine nm_ast hM (t := 3) (by decide) ?_
            exact hk75
          · exact hk75
    · exact hQj
theorem nm_X11_goesOn {b : Nat} {w : Mu} (hM : MOK b w) : ∀ (x0 : Int), ∀ (x1 : Int → MP) (X1 : Int → NP), (∀ (y0 : Int), NM b w (x1 y0) (X1 y0)) → NM b w ((MX11_goesOn b) x0 x1) (NX11_goesOn x0 X1) := by
  intro p1 Qj Qj' hQj
  unfold MX11_goesOn NX11_goesOn
  refine nm_join (fun (k35 : MP) (k35' : NP) => NM b w k35 k35') ?_ (fun k35 k35' hk35 => ?_)
  · exact hQj 0
  refine nm_if ?_ ?_
  · exact hk35
  · refine nm_getI hM (fun v7 => ?_)
    refine nm_join (fun (k23 : MP) (k23' : NP) => NM b w k23 k23') ?_ (fun k23 k23' hk23 => ?_)
    · refine nm_obj hM ?_
      refine nm_X11_isBarred hM p1 _ _ ?_
      intro v25
      refine nm_if ?_ ?_
      · exact hQj 1
      · exact hk35
    refine nm_if ?_ ?_
    · refine nm_getA hM (j := 1) (by decide) ?_
      refine nm_aldI hM (t := 0) (by decide) (fun v18 => ?_)
      refine nm_if ?_ ?_
      · exact hk35
      · exact hk23
    · exact hk23
theorem nm_X11_lays {b : Nat} {w : Mu} (hM : MOK b w) : ∀ (x0 : Int), ∀ (x1 : Int), ∀ (x2 : MP) (X2 : NP), NM b w x2 X2 → NM b w ((MX11_lays b) x0 x1 x2) (NX11_lays x0 x1 X2) := by
  intro p1 p2 Qj Qj' hQj
  unfold MX11_lays NX11_lays
  refine nm_getI hM (fun v2 => ?_)
  refine nm_putI hM ?_
  refine nm_getI hM (fun v12 => ?_)
  refine nm_join (fun (k33 : Int → MP) (k33' : Int → NP) => ∀ (x0 : Int), NM b w (k33 x0) (k33' x0)) ?_ (fun k33 k33' hk33 => ?_)
  · intro s1_33
    refine nm_putZ hM ?_
    refine nm_getI hM (fun v38 => ?_)
    refine nm_putI hM ?_
    refine nm_obj hM ?_
    refine nm_X11_finds hM p1 (Int.tmod p1 2) _ _ ?_
    refine nm_obj hM ?_
    refine nm_X11_measures hM p1 _ _ ?_
    refine nm_obj hM ?_
    refine nm_X11_meets hM p1 p2 _ _ ?_
    refine nm_getA hM (j := 16) (by decide) ?_
    refine nm_obj hM ?_
    refine nm_X11_goesOn hM p1 _ _ ?_
    intro v74
    refine nm_if ?_ ?_
    · refine nm_ast hM (t := 0) (by decide) ?_
      exact hQj
    · refine nm_ast hM (t := 0) (by decide) ?_
      exact hQj
  refine nm_join (fun (k28 : MP) (k28' : NP) => NM b w k28 k28') ?_ (fun k28 k28' hk28 => ?_)
  · exact hk33 1
  refine nm_if ?_ ?_
  · refine nm_getI hM (fun v19 => ?_)
    refine nm_if ?_ ?_
    · exact hk33 0
    · exact hk28
  · exact hk28
theorem nm_X11_fits {b : Nat} {w : Mu} (hM : MOK b w) : ∀ (x0 : Int), ∀ (x1 : Int), ∀ (x2 : Int), ∀ (x3 : Int), ∀ (x4 : Int), ∀ (x5 : Int), ∀ (x6 : Int), ∀ (x7 : Int → MP) (X7 : Int → NP), (∀ (y0 : Int), NM b w (x7 y0) (X7 y0)) → NM b w (MX11_fits x0 x1 x2 x3 x4 x5 x6 x7) (NX11_fits x0 x1 x2 x3 x4 x5 x6 X7) := by
  intro p0 p1 p2 p3 p4 p5 p6 Qj Qj' hQj
  unfold MX11_fits NX11_fits
  refine nm_join (fun (k11 : Int → MP) (k11' : Int → NP) => ∀ (x0 : Int), NM b w (k11 x0) (k11' x0)) ?_ (fun k11 k11' hk11 => ?_)
  · intro s0_11
    refine nm_join (fun (k25 : Int → MP) (k25' : Int → NP) => ∀ (x0 : Int), NM b w (k25 x0) (k25' x0)) ?_ (fun k25 k25' hk25 => ?_)
    · intro s0_25
      refine nm_if ?_ ?_
      · refine nm_join (fun (k86 : MP) (k86' : NP) => NM b w k86 k86') ?_ (fun k86 k86' hk86 => ?_)
        · exact hQj 0
        refine nm_if ?_ ?_
        · exact hk86
        · refine nm_if ?_ ?_
          · exact hk86
          · refine nm_if ?_ ?_
            · exact hk86
            · refine nm_if ?_ ?_
              · exact hk86
              · exact hQj 1
      · refine nm_if ?_ ?_
        · refine nm_join (fun (k110 : MP) (k110' : NP) => NM b w k110 k110') ?_ (fun k110 k110' hk110 => ?_)
          · exact hQj 0
          refine nm_if ?_ ?_
          · refine nm_if ?_ ?_
            · exact hk110
            · refine nm_if ?_ ?_
              · exact hk110
              · refine nm_if ?_ ?_
                · exact hk110
                · exact hQj 1
          · exact hk110
        · refine nm_if ?_ ?_
          · refine nm_join (fun (k140 : MP) (k140' : NP) => NM b w k140 k140') ?_ (fun k140 k140' hk140 => ?_)
            · exact hQj 0
            refine nm_if ?_ ?_
            · exact hk140
            · refine nm_if ?_ ?_
              · exact hk140
              · refine nm_if ?_ ?_
                · refine nm_if ?_ ?_
                  · exact hk140
                  · exact hQj 1
                · exact hk140
          · refine nm_if ?_ ?_
            · refine nm_join (fun (k171 : MP) (k171' : NP) => NM b w k171 k171') ?_ (fun k171 k171' hk171 => ?_)
              · exact hQj 0
              refine nm_if ?_ ?_
              · exact hk171
              · refine nm_if ?_ ?_
                · exact hk171
                · refine nm_if ?_ ?_
                  · exact hk171
                  · refine nm_if ?_ ?_
                    · exact hQj 1
                    · exact hk171
            · refine nm_if ?_ ?_
              · refine nm_join (fun (k204 : MP) (k204' : NP) => NM b w k204 k204') ?_ (fun k204 k204' hk204 => ?_)
                · exact hQj 0
                refine nm_if ?_ ?_
                · exact hk204
                · refine nm_if ?_ ?_
                  · exact hk204
                  · refine nm_if ?_ ?_
                    · exact hk204
                    · refine nm_if ?_ ?_
                      · refine nm_if ?_ ?_
                        · exact hQj 1
                        · exact hk204
                      · exact hk204
              · refine nm_join (fun (k228 : MP) (k228' : NP) => NM b w k228 k228') ?_ (fun k228 k228' hk228 => ?_)
                · exact hQj 0
                refine nm_if ?_ ?_
                · exact hk228
                · refine nm_if ?_ ?_
                  · refine nm_if ?_ ?_
                    · exact hk228
                    · refine nm_if ?_ ?_
                      · exact hk228
                      · exact hQj 1
                  · exact hk228
    refine nm_if ?_ ?_
    · exact hk25 1
    · exact hk25 0
  refine nm_if ?_ ?_
  · exact hk11 1
  · exact hk11 0
theorem nmFX11_tries_130 {b : Nat} {w : Mu} (hM : MOK b w) (p2 : Int) (p3 : Int) (v5 : Int) (s0_61 : Int) (s0_82 : Int) (s0_117 : Int) {k237 : Int → Int → MP} {k237' : Int → Int → NP} (hk237 : ∀ (x0 : Int), ∀ (x1 : Int), NM b w (k237 x0 x1) (k237' x0 x1)) : ∀ n : Nat, ∀ (x0 : Int), ∀ (x1 : Int), ∀ (x2 : Int), NM b w (jit (GX11_tries_130 b p2 p3 v5 s0_61 s0_82 s0_117 k237) (fun _ _ _ => mbot) n x0 x1 x2) (jit (HX11_tries_130 p2 p3 v5 s0_61 s0_82 s0_117 k237') (fun _ _ _ => nbot) n x0 x1 x2) := by
  intro n
  induction n with
  | zero =>
    intro x10_130 x11_130 x12_130
    exact NM.bot
  | succ n ih =>
    intro x10_130 x11_130 x12_130
    show NM b w (GX11_tries_130 b p2 p3 v5 s0_61 s0_82 s0_117 k237 (jit (GX11_tries_130 b p2 p3 v5 s0_61 s0_82 s0_117 k237) (fun _ _ _ => mbot) n) x10_130 x11_130 x12_130) (HX11_tries_130 p2 p3 v5 s0_61 s0_82 s0_117 k237' (jit (HX11_tries_130 p2 p3 v5 s0_61 s0_82 s0_117 k237') (fun _ _ _ => nbot) n) x10_130 x11_130 x12_130)
    generalize jit (GX11_tries_130 b p2 p3 v5 s0_61 s0_82 s0_117 k237) (fun _ _ _ => mbot) n = rec130 at ih ⊢
    generalize jit (HX11_tries_130 p2 p3 v5 s0_61 s0_82 s0_117 k237') (fun _ _ _ => nbot) n = rec130' at ih ⊢
    have hrec130 := ih
    unfold GX11_tries_130 HX11_tries_130
    refine nm_if ?_ ?_
    · exact hk237 x10_130 x11_130
    · refine nm_join (fun (k231 : Int → Int → MP) (k231' : Int → Int → NP) => ∀ (x0 : Int), ∀ (x1 : Int), NM b w (k231 x0 x1) (k231' x0 x1)) ?_ (fun k231 k231' hk231 => ?_)
      · intro x10_231 x11_231
        exact hrec130 x10_231 x11_231 (w32 (x12_130 + 1))
      refine nm_join (fun (k152 : MP) (k152' : NP) => NM b w k152 k152') ?_ (fun k152 k152' hk152 => ?_)
      · refine nm_obj hM ?_
        refine nm_X11_ofNote hM p2 p3 2 _ _ ?_
        intro v162
        refine nm_obj hM ?_
        refine nm_X11_ofNote hM p2 p3 3 _ _ ?_
        intro v169
        refine nm_X11_fits hM x12_130 s0_82 s0_117 v162 v169 (Int.tmod (Int.tmod v5 36) 6) s0_61 _ _ ?_
        intro v179
        refine nm_if ?_ ?_
        · exact hk231 x10_130 x11_130
        · refine nm_join (fun (k204 : Int → MP) (k204' : Int → NP) => ∀ (x0 : Int), NM b w (k204 x0) (k204' x0)) ?_ (fun k204 k204' hk204 => ?_)
          · intro s0_204
            refine nm_join (fun (k220 : Int → MP) (k220' : Int → NP) => ∀ (x0 : Int), NM b w (k220 x0) (k220' x0)) ?_ (fun k220 k220' hk220 => ?_)
            · intro s0_220
              exact hk231 (min x10_130 s0_204) s0_220
            refine nm_if ?_ ?_
            · exact hk220 x11_130
            · exact hk220 x12_130
          refine nm_if ?_ ?_
          · exact hk204 0
          · refine nm_getA hM (j := 11) (by decide) ?_
            refine nm_aldI hM (t := 0) (by decide) (fun v203 => ?_)
            exact hk204 v203
      refine nm_if ?_ ?_
      · exact hk152
      · refine nm_getA hM (j := 11) (by decide) ?_
        refine nm_aldI hM (t := 0) (by decide) (fun v148 => ?_)
        refine nm_if ?_ ?_
        · exact hk231 x10_130 x11_130
        · exact hk152
theorem nm_X11_tries {b : Nat} {w : Mu} (hM : MOK b w) : ∀ (x0 : Int), ∀ (x1 : Int), ∀ (x2 : Int), ∀ (x3 : MP) (X3 : NP), NM b w x3 X3 → NM b w ((MX11_tries b) x0 x1 x2 x3) (NX11_tries x0 x1 x2 X3) := by
  intro p1 p2 p3 Qj Qj' hQj
  unfold MX11_tries NX11_tries
  refine nm_getA hM (j := 12) (by decide) ?_
  refine nm_aldI hM (t := 0) (by decide) (fun v5 => ?_)
  refine nm_obj hM ?_
  refine nm_X11_at hM p1 (w32 (Int.tdiv v5 36)) _ _ ?_
  intro v15
  refine nm_getA hM (j := 10) (by decide) ?_
  refine nm_aldI hM (t := 0) (by decide) (fun v32 => ?_)
  refine nm_join (fun (k61 : Int → MP) (k61' : Int → NP) => ∀ (x0 : Int), NM b w (k61 x0) (k61' x0)) ?_ (fun k61 k61' hk61 => ?_)
  · intro s0_61
    refine nm_obj hM ?_
    refine nm_X11_ofNote hM p2 p3 0 _ _ ?_
    intro v67
    refine nm_join (fun (k82 : Int → MP) (k82' : Int → NP) => ∀ (x0 : Int), NM b w (k82 x0) (k82' x0)) ?_ (fun k82 k82' hk82 => ?_)
    · intro s0_82
      refine nm_obj hM ?_
      refine nm_X11_ofNote hM p2 p3 1 _ _ ?_
      intro v88
      refine nm_join (fun (k117 : Int → MP) (k117' : Int → NP) => ∀ (x0 : Int), NM b w (k117 x0) (k117' x0)) ?_ (fun k117 k117' hk117 => ?_)
      · intro s0_117
        refine nm_ex (fun n130 => ?_)
        refine nmFX11_tries_130 hM p2 p3 v5 s0_61 s0_82 s0_117 ?_ n130 1000 0 0
        · intro y10_237 y11_237
          refine nm_getA hM (j := 13) (by decide) ?_
          refine nm_X11_fitAt hM p1 p2 p3 _ _ ?_
          intro v244
          refine nm_ast hM (t := 0) (by decide) ?_
          refine nm_getA hM (j := 14) (by decide) ?_
          refine nm_X11_fitAt hM p1 p2 p3 _ _ ?_
          intro v257
          refine nm_ast hM (t := 0) (by decide) ?_
          exact hQj
      refine nm_join (fun (k112 : MP) (k112' : NP) => NM b w k112 k112') ?_ (fun k112 k112' hk112 => ?_)
      · exact hk117 1
      refine nm_if ?_ ?_
      · exact hk112
      · refine nm_obj hM ?_
        refine nm_X11_ofNote hM p2 p3 1 _ _ ?_
        intro v98
        refine nm_if ?_ ?_
        · exact hk112
        · exact hk117 0
    refine nm_if ?_ ?_
    · exact hk82 1
    · exact hk82 0
  refine nm_join (fun (k56 : MP) (k56' : NP) => NM b w k56 k56') ?_ (fun k56 k56' hk56 => ?_)
  · exact hk61 (w32 (Int.tdiv (Int.tmod v5 36) 6))
  refine nm_if ?_ ?_
  · refine nm_X11_sideOf hM v15 _ _ ?_
    intro v39
    refine nm_if ?_ ?_
    · exact hk61 (w32 (5 - (w32 (Int.tdiv (Int.tmod v5 36) 6))))
    · exact hk56
  · exact hk56
theorem nmFX11_laysAll_156 {b : Nat} {w : Mu} (hM : MOK b w) (x2_58 : Int) (x4_142 : Int) {k191 : MP} {k191' : NP} (hk191 : NM b w k191 k191') : ∀ n : Nat, ∀ (x0 : Int), NM b w (jit (GX11_laysAll_156 b x2_58 x4_142 k191) (fun _ => mbot) n x0) (jit (HX11_laysAll_156 x2_58 x4_142 k191') (fun _ => nbot) n x0) := by
  intro n
  induction n with
  | zero =>
    intro x5_156
    exact NM.bot
  | succ n ih =>
    intro x5_156
    show NM b w (GX11_laysAll_156 b x2_58 x4_142 k191 (jit (GX11_laysAll_156 b x2_58 x4_142 k191) (fun _ => mbot) n) x5_156) (HX11_laysAll_156 x2_58 x4_142 k191' (jit (HX11_laysAll_156 x2_58 x4_142 k191') (fun _ => nbot) n) x5_156)
    generalize jit (GX11_laysAll_156 b x2_58 x4_142 k191) (fun _ => mbot) n = rec156 at ih ⊢
    generalize jit (HX11_laysAll_156 x2_58 x4_142 k191') (fun _ => nbot) n = rec156' at ih ⊢
    have hrec156 := ih
    unfold GX11_laysAll_156 HX11_laysAll_156
    refine nm_obj hM ?_
    refine nm_X11_notes hM x4_142 _ _ ?_
    intro v161
    refine nm_if ?_ ?_
    · exact hk191
    · refine nm_obj hM ?_
      refine nm_X11_isAsked hM x4_142 _ _ ?_
      intro v170
      refine nm_if ?_ ?_
      · exact hk191
      · refine nm_obj hM ?_
        refine nm_X11_tries hM x2_58 x4_142 x5_156 _ _ ?_
        exact hrec156 (w32 (x5_156 + 1))
theorem nmFX11_laysAll_142 {b : Nat} {w : Mu} (hM : MOK b w) (x2_58 : Int) {k197 : MP} {k197' : NP} (hk197 : NM b w k197 k197') : ∀ n : Nat, ∀ (x0 : Int), NM b w (jit (GX11_laysAll_142 b x2_58 k197) (fun _ => mbot) n x0) (jit (HX11_laysAll_142 x2_58 k197') (fun _ => nbot) n x0) := by
  intro n
  induction n with
  | zero =>
    intro x4_142
    exact NM.bot
  | succ n ih =>
    intro x4_142
    show NM b w (GX11_laysAll_142 b x2_58 k197 (jit (GX11_laysAll_142 b x2_58 k197) (fun _ => mbot) n) x4_142) (HX11_laysAll_142 x2_58 k197' (jit (HX11_laysAll_142 x2_58 k197') (fun _ => nbot) n) x4_142)
    generalize jit (GX11_laysAll_142 b x2_58 k197) (fun _ => mbot) n = rec142 at ih ⊢
    generalize jit (HX11_laysAll_142 x2_58 k197') (fun _ => nbot) n = rec142' at ih ⊢
    have hrec142 := ih
    unfold GX11_laysAll_142 HX11_laysAll_142
    refine nm_getA hM (j := 1) (by decide) ?_
    refine nm_aldI hM (t := 0) (by decide) (fun v149 => ?_)
    refine nm_if ?_ ?_
    · exact hk197
    · refine nm_ex (fun n156 => ?_)
      refine nmFX11_laysAll_156 hM x2_58 x4_142 ?_ n156 0
      · exact hrec142 (w32 (x4_142 + 1))
theorem nmFX11_laysAll_76 {b : Nat} {w : Mu} (hM : MOK b w) (x2_58 : Int) {k104 : Int → MP} {k104' : Int → NP} (hk104 : ∀ (x0 : Int), NM b w (k104 x0) (k104' x0)) : ∀ n : Nat, ∀ (x0 : Int), NM b w (jit (GX11_laysAll_76 b x2_58 k104) (fun _ => mbot) n x0) (jit (HX11_laysAll_76 x2_58 k104') (fun _ => nbot) n x0) := by
  intro n
  induction n with
  | zero =>
    intro x3_76
    exact NM.bot
  | succ n ih =>
    intro x3_76
    show NM b w (GX11_laysAll_76 b x2_58 k104 (jit (GX11_laysAll_76 b x2_58 k104) (fun _ => mbot) n) x3_76) (HX11_laysAll_76 x2_58 k104' (jit (HX11_laysAll_76 x2_58 k104') (fun _ => nbot) n) x3_76)
    generalize jit (GX11_laysAll_76 b x2_58 k104) (fun _ => mbot) n = rec76 at ih ⊢
    generalize jit (HX11_laysAll_76 x2_58 k104') (fun _ => nbot) n = rec76' at ih ⊢
    have hrec76 := ih
    unfold GX11_laysAll_76 HX11_laysAll_76
    refine nm_if ?_ ?_
    · exact hk104 x3_76
    · refine nm_getA hM (j := 9) (by decide) ?_
      refine nm_aldI hM (t := 1) (by decide) (fun v94 => ?_)
      refine nm_if ?_ ?_
      · exact hrec76 (w32 (x3_76 + 1))
      · exact hk104 x3_76
theorem nmFX11_laysAll_58 {b : Nat} {w : Mu} (hM : MOK b w) (p1 : Int) {Qj : MP} {Qj' : NP} (hQj : NM b w Qj Qj') : ∀ n : Nat, ∀ (x0 : Int), NM b w (jit (GX11_laysAll_58 b p1 Qj) (fun _ => mbot) n x0) (jit (HX11_laysAll_58 p1 Qj') (fun _ => nbot) n x0) := by
  intro n
  induction n with
  | zero =>
    intro x2_58
    exact NM.bot
  | succ n ih =>
    intro x2_58
    show NM b w (GX11_laysAll_58 b p1 Qj (jit (GX11_laysAll_58 b p1 Qj) (fun _ => mbot) n) x2_58) (HX11_laysAll_58 p1 Qj' (jit (HX11_laysAll_58 p1 Qj') (fun _ => nbot) n) x2_58)
    generalize jit (GX11_laysAll_58 b p1 Qj) (fun _ => mbot) n = rec58 at ih ⊢
    generalize jit (HX11_laysAll_58 p1 Qj') (fun _ => nbot) n = rec58' at ih ⊢
    have hrec58 := ih
    unfold GX11_laysAll_58 HX11_laysAll_58
    refine nm_if ?_ ?_
    · exact hQj
    · refine nm_getI hM (fun v63 => ?_)
      refine nm_if ?_ ?_
      · refine nm_getA hM (j := 16) (by decide) ?_
        refine nm_aldI hM (t := 0) (by decide) (fun v74 => ?_)
        refine nm_ex (fun n76 => ?_)
        refine nmFX11_laysAll_76 hM x2_58 ?_ n76 v74
        · intro y3_104
          refine nm_if ?_ ?_
          · exact hrec58 (w32 (x2_58 + (-1)))
          · refine nm_getA hM (j := 16) (by decide) ?_
            refine nm_ast hM (t := 0) (by decide) ?_
            refine nm_getA hM (j := 12) (by decide) ?_
            refine nm_ast hM (t := 0) (by decide) ?_
            refine nm_obj hM ?_
            refine nm_X11_makes hM x2_58 y3_104 _ _ ?_
            refine nm_ex (fun n142 => ?_)
            refine nmFX11_laysAll_142 hM x2_58 ?_ n142 0
            · refine nm_obj hM ?_
              refine nm_X11_prices hM (w32 (x2_58 + 1)) _ _ ?_
              refine nm_getI hM (fun v205 => ?_)
              refine nm_if ?_ ?_
              · refine nm_obj hM ?_
                refine nm_X11_lays hM (w32 (x2_58 + 1)) p1 _ _ ?_
                exact hrec58 (w32 (x2_58 + 1))
              · exact hrec58 x2_58
      · exact hQj
theorem nmFX11_laysAll_2 {b : Nat} {w : Mu} (hM : MOK b w) {k31 : MP} {k31' : NP} (hk31 : NM b w k31 k31') : ∀ n : Nat, ∀ (x0 : Int), NM b w (jit (GX11_laysAll_2 b k31) (fun _ => mbot) n x0) (jit (HX11_laysAll_2 k31') (fun _ => nbot) n x0) := by
  intro n
  induction n with
  | zero =>
    intro x2_2
    exact NM.bot
  | succ n ih =>
    intro x2_2
    show NM b w (GX11_laysAll_2 b k31 (jit (GX11_laysAll_2 b k31) (fun _ => mbot) n) x2_2) (HX11_laysAll_2 k31' (jit (HX11_laysAll_2 k31') (fun _ => nbot) n) x2_2)
    generalize jit (GX11_laysAll_2 b k31) (fun _ => mbot) n = rec2 at ih ⊢
    generalize jit (HX11_laysAll_2 k31') (fun _ => nbot) n = rec2' at ih ⊢
    have hrec2 := ih
    unfold GX11_laysAll_2 HX11_laysAll_2
    refine nm_getA hM (j := 17) (by decide) ?_
    refine nm_alen hM (t := 3) (n := 24) (by decide) ?_
    refine nm_if ?_ ?_
    · exact hk31
    · refine nm_getA hM (j := 17) (by decide) ?_
      refine nm_ast hM (t := 3) (by decide) ?_
      refine nm_getA hM (j := 18) (by decide) ?_
      refine nm_ast hM (t := 3) (by decide) ?_
      exact hrec2 (w32 (x2_2 + 1))
theorem nm_X11_laysAll {b : Nat} {w : Mu} (hM : MOK b w) : ∀ (x0 : Int), ∀ (x1 : MP) (X1 : NP), NM b w x1 X1 → NM b w ((MX11_laysAll b) x0 x1) (NX11_laysAll x0 X1) := by
  intro p1 Qj Qj' hQj
  unfold MX11_laysAll NX11_laysAll
  refine nm_ex (fun n2 => ?_)
  refine nmFX11_laysAll_2 hM ?_ n2 0
  · refine nm_putI hM ?_
    refine nm_putI hM ?_
    refine nm_obj hM ?_
    refine nm_X11_begins hM _ _ ?_
    refine nm_obj hM ?_
    refine nm_X11_prices hM 0 _ _ ?_
    refine nm_obj hM ?_
    refine nm_X11_lays hM 0 p1 _ _ ?_
    refine nm_ex (fun n58 => ?_)
    exact nmFX11_laysAll_58 hM p1 hQj n58 0
theorem nmFX11_asks_23 {b : Nat} {w : Mu} (hM : MOK b w) {Qj : Int → MP} {Qj' : Int → NP} (hQj : ∀ (x0 : Int), NM b w (Qj x0) (Qj' x0)) : ∀ n : Nat, ∀ (x0 : Int), NM b w (jit (GX11_asks_23 b Qj) (fun _ => mbot) n x0) (jit (HX11_asks_23 Qj') (fun _ => nbot) n x0) := by
  intro n
  induction n with
  | zero =>
    intro x1_23
    exact NM.bot
  | succ n ih =>
    intro x1_23
    show NM b w (GX11_asks_23 b Qj (jit (GX11_asks_23 b Qj) (fun _ => mbot) n) x1_23) (HX11_asks_23 Qj' (jit (HX11_asks_23 Qj') (fun _ => nbot) n) x1_23)
    generalize jit (GX11_asks_23 b Qj) (fun _ => mbot) n = rec23 at ih ⊢
    generalize jit (HX11_asks_23 Qj') (fun _ => nbot) n = rec23' at ih ⊢
    have hrec23 := ih
    unfold GX11_asks_23 HX11_asks_23
    refine nm_if ?_ ?_
    · exact hQj (-1)
    · refine nm_obj hM ?_
      refine nm_X11_laysAll hM x1_23 _ _ ?_
      refine nm_getI hM (fun v35 => ?_)
      refine nm_if ?_ ?_
      · refine nm_getI hM (fun v45 => ?_)
        refine nm_if ?_ ?_
        · exact hrec23 (w32 (x1_23 + 1))
        · exact hQj x1_23
      · exact hQj (-2)
theorem nm_X11_asks {b : Nat} {w : Mu} (hM : MOK b w) : ∀ (x0 : Int → MP) (X0 : Int → NP), (∀ (y0 : Int), NM b w (x0 y0) (X0 y0)) → NM b w ((MX11_asks b) x0) (NX11_asks X0) := by
  intro Qj Qj' hQj
  unfold MX11_asks NX11_asks
  refine nm_putI hM ?_
  refine nm_putZ hM ?_
  refine nm_putZ hM ?_
  refine nm_putI hM ?_
  refine nm_ex (fun n23 => ?_)
  exact nmFX11_asks_23 hM hQj n23 0
theorem nm_X11_asksWhole {b : Nat} {w : Mu} (hM : MOK b w) : ∀ (x0 : Int → MP) (X0 : Int → NP), (∀ (y0 : Int), NM b w (x0 y0) (X0 y0)) → NM b w ((MX11_asksWhole b) x0) (NX11_asksWhole X0) := by
  intro Qj Qj' hQj
  unfold MX11_asksWhole NX11_asksWhole
  refine nm_obj hM ?_
  refine nm_X11_asksAll hM _ _ ?_
  refine nm_obj hM ?_
  refine nm_X11_asks hM _ _ ?_
  intro v5
  exact hQj v5
theorem nm_X11_least {b : Nat} {w : Mu} (hM : MOK b w) : ∀ (x0 : Int → MP) (X0 : Int → NP), (∀ (y0 : Int), NM b w (x0 y0) (X0 y0)) → NM b w ((MX11_least b) x0) (NX11_least X0) := by
  intro Qj Qj' hQj
  unfold MX11_least NX11_least
  refine nm_putI hM ?_
  refine nm_obj hM ?_
  refine nm_X11_asksWhole hM _ _ ?_
  intro v6
  exact hQj v6
theorem nm_X11_many {b : Nat} {w : Mu} (hM : MOK b w) : ∀ (x0 : Int → MP) (X0 : Int → NP), (∀ (y0 : Int), NM b w (x0 y0) (X0 y0)) → NM b w ((MX11_many b) x0) (NX11_many X0) := by
  intro Qj Qj' hQj
  unfold MX11_many NX11_many
  refine nm_putI hM ?_
  refine nm_obj hM ?_
  refine nm_X11_asksWhole hM _ _ ?_
  intro v6
  refine nm_if ?_ ?_
  · refine nm_getI hM (fun v19 => ?_)
    exact hQj v19
  · exact hQj v6
theorem nm_X11_read {b : Nat} {w : Mu} (hM : MOK b w) : ∀ (x0 : Int), ∀ (x1 : Int → MP) (X1 : Int → NP), (∀ (y0 : Int), NM b w (x1 y0) (X1 y0)) → NM b w ((MX11_read b) x0 x1) (NX11_read x0 X1) := by
  intro p1 Qj Qj' hQj
  unfold MX11_read NX11_read
  refine nm_putI hM ?_
  refine nm_join (fun (k16 : Int → MP) (k16' : Int → NP) => ∀ (x0 : Int), NM b w (k16 x0) (k16' x0)) ?_ (fun k16 k16' hk16 => ?_)
  · intro s1_16
    refine nm_obj hM ?_
    refine nm_X11_throwsIf hM s1_16 1 _ _ ?_
    intro v17
    refine nm_if ?_ ?_
    · refine nm_obj hM ?_
      refine nm_X11_asksWhole hM _ _ ?_
      intro v26
      refine nm_if ?_ ?_
      · refine nm_if ?_ ?_
        · refine nm_getI hM (fun v51 => ?_)
          refine nm_if ?_ ?_
          · exact hQj (-3)
          · refine nm_getA hM (j := 19) (by decide) ?_
            refine nm_aldI hM (t := 0) (by decide) (fun v62 => ?_)
            exact hQj v62
        · refine nm_getI hM (fun v43 => ?_)
          exact hQj v43
      · exact hQj v26
    · exact hQj 0
  refine nm_if ?_ ?_
  · exact hk16 0
  · exact hk16 1
theorem nm_X11_readNext {b : Nat} {w : Mu} (hM : MOK b w) : ∀ (x0 : Int), ∀ (x1 : Int → MP) (X1 : Int → NP), (∀ (y0 : Int), NM b w (x1 y0) (X1 y0)) → NM b w ((MX11_readNext b) x0 x1) (NX11_readNext x0 X1) := by
  intro p1 Qj Qj' hQj
  unfold MX11_readNext NX11_readNext
  refine nm_putI hM ?_
  refine nm_join (fun (k16 : Int → MP) (k16' : Int → NP) => ∀ (x0 : Int), NM b w (k16 x0) (k16' x0)) ?_ (fun k16 k16' hk16 => ?_)
  · intro s1_16
    refine nm_obj hM ?_
    refine nm_X11_throwsIf hM s1_16 1 _ _ ?_
    intro v17
    refine nm_if ?_ ?_
    · refine nm_obj hM ?_
      refine nm_X11_asksWhole hM _ _ ?_
      intro v26
      refine nm_if ?_ ?_
      · refine nm_getI hM (fun v39 => ?_)
        refine nm_if ?_ ?_
        · refine nm_if ?_ ?_
          · refine nm_getI hM (fun v64 => ?_)
            refine nm_if ?_ ?_
            · exact hQj (-3)
            · refine nm_getA hM (j := 20) (by decide) ?_
              refine nm_aldI hM (t := 0) (by decide) (fun v75 => ?_)
              exact hQj v75
          · refine nm_getI hM (fun v56 => ?_)
            exact hQj v56
        · exact hQj (-3)
      · exact hQj v26
    · exact hQj 0
  refine nm_if ?_ ?_
  · exact hk16 0
  · exact hk16 1
theorem nmFX11_follows_92 {b : Nat} {w : Mu} (hM : MOK b w) (p1 : Int) {Qj : MP} {Qj' : NP} (hQj : NM b w Qj Qj') : ∀ n : Nat, ∀ (x0 : Int), ∀ (x1 : Int), NM b w (jit (GX11_follows_92 b p1 Qj) (fun _ _ => mbot) n x0 x1) (jit (HX11_follows_92 p1 Qj') (fun _ _ => nbot) n x0 x1) := by
  intro n
  induction n with
  | zero =>
    intro x2_92 x3_92
    exact NM.bot
  | succ n ih =>
    intro x2_92 x3_92
    show NM b w (GX11_follows_92 b p1 Qj (jit (GX11_follows_92 b p1 Qj) (fun _ _ => mbot) n) x2_92 x3_92) (HX11_follows_92 p1 Qj' (jit (HX11_follows_92 p1 Qj') (fun _ _ => nbot) n) x2_92 x3_92)
    generalize jit (GX11_follows_92 b p1 Qj) (fun _ _ => mbot) n = rec92 at ih ⊢
    generalize jit (HX11_follows_92 p1 Qj') (fun _ _ => nbot) n = rec92' at ih ⊢
    have hrec92 := ih
    unfold GX11_follows_92 HX11_follows_92
    refine nm_if ?_ ?_
    · exact hQj
    · refine nm_getA hM (j := 15) (by decide) ?_
      refine nm_X11_sumAt hM p1 x2_92 x3_92 _ _ ?_
      intro v105
      refine nm_aldI hM (t := 0) (by decide) (fun v108 => ?_)
      refine nm_obj hM ?_
      refine nm_X11_ofMove hM x2_92 x3_92 p1 _ _ ?_
      intro v117
      refine nm_join (fun (k192 : Int → Int → MP) (k192' : Int → Int → NP) => ∀ (x0 : Int), ∀ (x1 : Int), NM b w (k192 x0 x1) (k192' x0 x1)) ?_ (fun k192 k192' hk192 => ?_)
      · intro x2_192 x3_192
        exact hrec92 x2_192 x3_192
      refine nm_if ?_ ?_
      · refine nm_getA hM (j := 23) (by decide) ?_
        refine nm_getA hM (j := 14) (by decide) ?_
        refine nm_X11_fitAt hM (w32 (x2_92 + (-1))) p1 (w32 (x3_92 + (-1))) _ _ ?_
        intro v141
        refine nm_aldI hM (t := 0) (by decide) (fun v144 => ?_)
        refine nm_ast hM (t := 0) (by decide) ?_
        refine nm_getA hM (j := 24) (by decide) ?_
        refine nm_ast hM (t := 0) (by decide) ?_
        exact hk192 (w32 (x2_92 + (-1))) (w32 (x3_92 + (-1)))
      · refine nm_obj hM ?_
        refine nm_X11_ofLost hM x2_92 x3_92 p1 _ _ ?_
        intro v162
        refine nm_if ?_ ?_
        · refine nm_getA hM (j := 24) (by decide) ?_
          refine nm_ast hM (t := 0) (by decide) ?_
          exact hk192 (w32 (x2_92 + (-1))) x3_92
        · refine nm_getA hM (j := 23) (by decide) ?_
          refine nm_ast hM (t := 0) (by decide) ?_
          exact hk192 x2_92 (w32 (x3_92 + (-1)))
theorem nmFX11_follows_45 {b : Nat} {w : Mu} (hM : MOK b w) (p1 : Int) (x2_12 : Int) {k67 : MP} {k67' : NP} (hk67 : NM b w k67 k67') : ∀ n : Nat, ∀ (x0 : Int), NM b w (jit (GX11_follows_45 b p1 x2_12 k67) (fun _ => mbot) n x0) (jit (HX11_follows_45 p1 x2_12 k67') (fun _ => nbot) n x0) := by
  intro n
  induction n with
  | zero =>
    intro x3_45
    exact NM.bot
  | succ n ih =>
    intro x3_45
    show NM b w (GX11_follows_45 b p1 x2_12 k67 (jit (GX11_follows_45 b p1 x2_12 k67) (fun _ => mbot) n) x3_45) (HX11_follows_45 p1 x2_12 k67' (jit (HX11_follows_45 p1 x2_12 k67') (fun _ => nbot) n) x3_45)
    generalize jit (GX11_follows_45 b p1 x2_12 k67) (fun _ => mbot) n = rec45 at ih ⊢
    generalize jit (HX11_follows_45 p1 x2_12 k67') (fun _ => nbot) n = rec45' at ih ⊢
    have hrec45 := ih
    unfold GX11_follows_45 HX11_follows_45
    refine nm_obj hM ?_
    refine nm_X11_notes hM p1 _ _ ?_
    intro v48
    refine nm_if ?_ ?_
    · exact hk67
    · refine nm_obj hM ?_
      refine nm_X11_tries hM x2_12 p1 x3_45 _ _ ?_
      exact hrec45 (w32 (x3_45 + 1))
theorem nmFX11_follows_12 {b : Nat} {w : Mu} (hM : MOK b w) (p1 : Int) {k81 : MP} {k81' : NP} (hk81 : NM b w k81 k81') : ∀ n : Nat, ∀ (x0 : Int), NM b w (jit (GX11_follows_12 b p1 k81) (fun _ => mbot) n x0) (jit (HX11_follows_12 p1 k81') (fun _ => nbot) n x0) := by
  intro n
  induction n with
  | zero =>
    intro x2_12
    exact NM.bot
  | succ n ih =>
    intro x2_12
    show NM b w (GX11_follows_12 b p1 k81 (jit (GX11_follows_12 b p1 k81) (fun _ => mbot) n) x2_12) (HX11_follows_12 p1 k81' (jit (HX11_follows_12 p1 k81') (fun _ => nbot) n) x2_12)
    generalize jit (GX11_follows_12 b p1 k81) (fun _ => mbot) n = rec12 at ih ⊢
    generalize jit (HX11_follows_12 p1 k81') (fun _ => nbot) n = rec12' at ih ⊢
    have hrec12 := ih
    unfold GX11_follows_12 HX11_follows_12
    refine nm_getI hM (fun v14 => ?_)
    refine nm_if ?_ ?_
    · exact hk81
    · refine nm_getA hM (j := 12) (by decide) ?_
      refine nm_getA hM (j := 19) (by decide) ?_
      refine nm_aldI hM (t := 0) (by decide) (fun v30 => ?_)
      refine nm_ast hM (t := 0) (by decide) ?_
      refine nm_getA hM (j := 19) (by decide) ?_
      refine nm_aldI hM (t := 0) (by decide) (fun v39 => ?_)
      refine nm_obj hM ?_
      refine nm_X11_makes hM x2_12 v39 _ _ ?_
      refine nm_ex (fun n45 => ?_)
      refine nmFX11_follows_45 hM p1 x2_12 ?_ n45 0
      · refine nm_obj hM ?_
        refine nm_X11_sums hM p1 (w32 (x2_12 + 1)) _ _ ?_
        exact hrec12 (w32 (x2_12 + 1))
theorem nm_X11_follows {b : Nat} {w : Mu} (hM : MOK b w) : ∀ (x0 : Int), ∀ (x1 : MP) (X1 : NP), NM b w x1 X1 → NM b w ((MX11_follows b) x0 x1) (NX11_follows x0 X1) := by
  intro p1 Qj Qj' hQj
  unfold MX11_follows NX11_follows
  refine nm_obj hM ?_
  refine nm_X11_begins hM _ _ ?_
  refine nm_obj hM ?_
  refine nm_X11_sums hM p1 0 _ _ ?_
  refine nm_ex (fun n12 => ?_)
  refine nmFX11_follows_12 hM p1 ?_ n12 0
  · refine nm_getI hM (fun v82 => ?_)
    refine nm_obj hM ?_
    refine nm_X11_notes hM p1 _ _ ?_
    intro v88
    refine nm_ex (fun n92 => ?_)
    exact nmFX11_follows_92 hM p1 hQj n92 v82 v88
theorem nm_X11_slip {b : Nat} {w : Mu} (hM : MOK b w) : ∀ (x0 : Int), ∀ (x1 : Int), ∀ (x2 : Int → MP) (X2 : Int → NP), (∀ (y0 : Int), NM b w (x2 y0) (X2 y0)) → NM b w ((MX11_slip b) x0 x1 x2) (NX11_slip x0 x1 X2) := by
  intro p1 p2 Qj Qj' hQj
  unfold MX11_slip NX11_slip
  refine nm_putI hM ?_
  refine nm_obj hM ?_
  refine nm_X11_noNote hM p1 p2 _ _ ?_
  intro v9
  refine nm_obj hM ?_
  refine nm_X11_throwsIf hM v9 1 _ _ ?_
  intro v13
  refine nm_if ?_ ?_
  · refine nm_obj hM ?_
    refine nm_X11_asksWhole hM _ _ ?_
    intro v22
    refine nm_if ?_ ?_
    · refine nm_obj hM ?_
      refine nm_X11_follows hM p1 _ _ ?_
      refine nm_getA hM (j := 23) (by decide) ?_
      refine nm_aldI hM (t := 0) (by decide) (fun v42 => ?_)
      exact hQj v42
    · exact hQj v22
  · exact hQj 0
theorem nmFX11_slips_100 {b : Nat} {w : Mu} (hM : MOK b w) (p2 : Int) {Qj : Int → MP} {Qj' : Int → NP} (hQj : ∀ (x0 : Int), NM b w (Qj x0) (Qj' x0)) : ∀ n : Nat, ∀ (x0 : Int), ∀ (x1 : Int), NM b w (jit (GX11_slips_100 b p2 Qj) (fun _ _ => mbot) n x0 x1) (jit (HX11_slips_100 p2 Qj') (fun _ _ => nbot) n x0 x1) := by
  intro n
  induction n with
  | zero =>
    intro x4_100 x5_100
    exact NM.bot
  | succ n ih =>
    intro x4_100 x5_100
    show NM b w (GX11_slips_100 b p2 Qj (jit (GX11_slips_100 b p2 Qj) (fun _ _ => mbot) n) x4_100 x5_100) (HX11_slips_100 p2 Qj' (jit (HX11_slips_100 p2 Qj') (fun _ _ => nbot) n) x4_100 x5_100)
    generalize jit (GX11_slips_100 b p2 Qj) (fun _ _ => mbot) n = rec100 at ih ⊢
    generalize jit (HX11_slips_100 p2 Qj') (fun _ _ => nbot) n = rec100' at ih ⊢
    have hrec100 := ih
    unfold GX11_slips_100 HX11_slips_100
    refine nm_getI hM (fun v103 => ?_)
    refine nm_if ?_ ?_
    · exact hQj x4_100
    · refine nm_if ?_ ?_
      · refine nm_getA hM (j := 24) (by decide) ?_
        refine nm_aldI hM (t := 0) (by decide) (fun v123 => ?_)
        refine nm_join (fun (k132 : Int → MP) (k132' : Int → NP) => ∀ (x0 : Int), NM b w (k132 x0) (k132' x0)) ?_ (fun k132 k132' hk132 => ?_)
        · intro s1_132
          exact hrec100 (w32 (x4_100 + s1_132)) (w32 (x5_100 + 1))
        refine nm_if ?_ ?_
        · exact hk132 0
        · exact hk132 1
      · exact hQj x4_100
theorem nmFX11_slips_60 {b : Nat} {w : Mu} (hM : MOK b w) (p1 : Int) (p2 : Int) {k97 : Int → MP} {k97' : Int → NP} (hk97 : ∀ (x0 : Int), NM b w (k97 x0) (k97' x0)) : ∀ n : Nat, ∀ (x0 : Int), ∀ (x1 : Int), NM b w (jit (GX11_slips_60 b p1 p2 k97) (fun _ _ => mbot) n x0 x1) (jit (HX11_slips_60 p1 p2 k97') (fun _ _ => nbot) n x0 x1) := by
  intro n
  induction n with
  | zero =>
    intro x4_60 x5_60
    exact NM.bot
  | succ n ih =>
    intro x4_60 x5_60
    show NM b w (GX11_slips_60 b p1 p2 k97 (jit (GX11_slips_60 b p1 p2 k97) (fun _ _ => mbot) n) x4_60 x5_60) (HX11_slips_60 p1 p2 k97' (jit (HX11_slips_60 p1 p2 k97') (fun _ _ => nbot) n) x4_60 x5_60)
    generalize jit (GX11_slips_60 b p1 p2 k97) (fun _ _ => mbot) n = rec60 at ih ⊢
    generalize jit (HX11_slips_60 p1 p2 k97') (fun _ _ => nbot) n = rec60' at ih ⊢
    have hrec60 := ih
    unfold GX11_slips_60 HX11_slips_60
    refine nm_obj hM ?_
    refine nm_X11_notes hM p1 _ _ ?_
    intro v64
    refine nm_if ?_ ?_
    · exact hk97 x4_60
    · refine nm_getA hM (j := 23) (by decide) ?_
      refine nm_aldI hM (t := 0) (by decide) (fun v78 => ?_)
      refine nm_join (fun (k88 : Int → MP) (k88' : Int → NP) => ∀ (x0 : Int), NM b w (k88 x0) (k88' x0)) ?_ (fun k88 k88' hk88 => ?_)
      · intro s1_88
        exact hrec60 (w32 (x4_60 + s1_88)) (w32 (x5_60 + 1))
      refine nm_if ?_ ?_
      · exact hk88 1
      · exact hk88 0
theorem nm_X11_slips {b : Nat} {w : Mu} (hM : MOK b w) : ∀ (x0 : Int), ∀ (x1 : Int), ∀ (x2 : Int → MP) (X2 : Int → NP), (∀ (y0 : Int), NM b w (x2 y0) (X2 y0)) → NM b w ((MX11_slips b) x0 x1 x2) (NX11_slips x0 x1 X2) := by
  intro p1 p2 Qj Qj' hQj
  unfold MX11_slips NX11_slips
  refine nm_putI hM ?_
  refine nm_obj hM ?_
  refine nm_X11_noBook hM p1 _ _ ?_
  intro v8
  refine nm_join (fun (k29 : Int → MP) (k29' : Int → NP) => ∀ (x0 : Int), NM b w (k29 x0) (k29' x0)) ?_ (fun k29 k29' hk29 => ?_)
  · intro s1_29
    refine nm_obj hM ?_
    refine nm_X11_throwsIf hM s1_29 1 _ _ ?_
    intro v30
    refine nm_if ?_ ?_
    · refine nm_obj hM ?_
      refine nm_X11_asksWhole hM _ _ ?_
      intro v39
      refine nm_if ?_ ?_
      · refine nm_obj hM ?_
        refine nm_X11_follows hM p1 _ _ ?_
        refine nm_ex (fun n60 => ?_)
        refine nmFX11_slips_60 hM p1 p2 ?_ n60 0 0
        · intro y4_97
          refine nm_ex (fun n100 => ?_)
          exact nmFX11_slips_100 hM p2 hQj n100 y4_97 0
      · exact hQj v39
    · exact hQj 0
  refine nm_join (fun (k24 : MP) (k24' : NP) => NM b w k24 k24') ?_ (fun k24 k24' hk24 => ?_)
  · exact hk29 1
  refine nm_if ?_ ?_
  · refine nm_X11_in hM p2 1 7 _ _ ?_
    intro v18
    refine nm_if ?_ ?_
    · exact hk24
    · exact hk29 0
  · exact hk24
theorem nmFX11_breaks_33 {b : Nat} {w : Mu} (hM : MOK b w) {k52 : MP} {k52' : NP} (hk52 : NM b w k52 k52') : ∀ n : Nat, ∀ (x0 : Int), NM b w (jit (GX11_breaks_33 b k52) (fun _ => mbot) n x0) (jit (HX11_breaks_33 k52') (fun _ => nbot) n x0) := by
  intro n
  induction n with
  | zero =>
    intro x2_33
    exact NM.bot
  | succ n ih =>
    intro x2_33
    show NM b w (GX11_breaks_33 b k52 (jit (GX11_breaks_33 b k52) (fun _ => mbot) n) x2_33) (HX11_breaks_33 k52' (jit (HX11_breaks_33 k52') (fun _ => nbot) n) x2_33)
    generalize jit (GX11_breaks_33 b k52) (fun _ => mbot) n = rec33 at ih ⊢
    generalize jit (HX11_breaks_33 k52') (fun _ => nbot) n = rec33' at ih ⊢
    have hrec33 := ih
    unfold GX11_breaks_33 HX11_breaks_33
    refine nm_if ?_ ?_
    · exact hk52
    · refine nm_getA hM (j := 11) (by decide) ?_
      refine nm_ast hM (t := 0) (by decide) ?_
      exact hrec33 (w32 (x2_33 + 1))
theorem nm_X11_breaks {b : Nat} {w : Mu} (hM : MOK b w) : ∀ (x0 : Int), ∀ (x1 : Int → MP) (X1 : Int → NP), (∀ (y0 : Int), NM b w (x1 y0) (X1 y0)) → NM b w ((MX11_breaks b) x0 x1) (NX11_breaks x0 X1) := by
  intro p1 Qj Qj' hQj
  unfold MX11_breaks NX11_breaks
  refine nm_putI hM ?_
  refine nm_obj hM ?_
  refine nm_X11_noBook hM p1 _ _ ?_
  intro v8
  refine nm_obj hM ?_
  refine nm_X11_throwsIf hM v8 1 _ _ ?_
  intro v12
  refine nm_if ?_ ?_
  · refine nm_obj hM ?_
    refine nm_X11_asksAll hM _ _ ?_
    refine nm_putI hM ?_
    refine nm_ex (fun n33 => ?_)
    refine nmFX11_breaks_33 hM ?_ n33 0
    · refine nm_putI hM ?_
      refine nm_putZ hM ?_
      refine nm_putZ hM ?_
      refine nm_putI hM ?_
      refine nm_obj hM ?_
      refine nm_X11_laysAll hM 0 _ _ ?_
      refine nm_getI hM (fun v79 => ?_)
      refine nm_if ?_ ?_
      · refine nm_getI hM (fun v91 => ?_)
        refine nm_obj hM ?_
        refine nm_X11_notes hM p1 _ _ ?_
        intro v96
        refine nm_if ?_ ?_
        · exact hQj (-3)
        · refine nm_getI hM (fun v108 => ?_)
          exact hQj v108
      · exact hQj (-2)
  · exact hQj 0
theorem nmFX11_brief_105 {b : Nat} {w : Mu} (hM : MOK b w) (p1 : Int) {Qj : Int → MP} {Qj' : Int → NP} (hQj : ∀ (x0 : Int), NM b w (Qj x0) (Qj' x0)) (v93 : Int) : ∀ n : Nat, ∀ (x0 : Int), ∀ (x1 : Int), NM b w (jit (GX11_brief_105 b p1 Qj v93) (fun _ _ => mbot) n x0 x1) (jit (HX11_brief_105 p1 Qj' v93) (fun _ _ => nbot) n x0 x1) := by
  intro n
  induction n with
  | zero =>
    intro x4_105 x5_105
    exact NM.bot
  | succ n ih =>
    intro x4_105 x5_105
    show NM b w (GX11_brief_105 b p1 Qj v93 (jit (GX11_brief_105 b p1 Qj v93) (fun _ _ => mbot) n) x4_105 x5_105) (HX11_brief_105 p1 Qj' v93 (jit (HX11_brief_105 p1 Qj' v93) (fun _ _ => nbot) n) x4_105 x5_105)
    generalize jit (GX11_brief_105 b p1 Qj v93) (fun _ _ => mbot) n = rec105 at ih ⊢
    generalize jit (HX11_brief_105 p1 Qj' v93) (fun _ _ => nbot) n = rec105' at ih ⊢
    have hrec105 := ih
    unfold GX11_brief_105 HX11_brief_105
    refine nm_if ?_ ?_
    · exact hQj x4_105
    · refine nm_getA hM (j := 9) (by decide) ?_
      refine nm_getA hM (j := 19) (by decide) ?_
      refine nm_aldI hM (t := 0) (by decide) (fun v134 => ?_)
      refine nm_aldI hM (t := 1) (by decide) (fun v139 => ?_)
      refine nm_join (fun (k161 : Int → MP) (k161' : Int → NP) => ∀ (x0 : Int), NM b w (k161 x0) (k161' x0)) ?_ (fun k161 k161' hk161 => ?_)
      · intro s1_161
        exact hrec105 (w32 (x4_105 + s1_161)) (w32 (x5_105 + 1))
      refine nm_join (fun (k160 : MP) (k160' : NP) => NM b w k160 k160') ?_ (fun k160 k160' hk160 => ?_)
      · exact hk161 0
      refine nm_if ?_ ?_
      · exact hk160
      · refine nm_obj hM ?_
        refine nm_X11_at hM p1 x5_105 _ _ ?_
        intro v147
        refine nm_if ?_ ?_
        · exact hk161 1
        · exact hk160
theorem nmFX11_brief_52 {b : Nat} {w : Mu} (hM : MOK b w) (p1 : Int) {k74 : MP} {k74' : NP} (hk74 : NM b w k74 k74') : ∀ n : Nat, ∀ (x0 : Int), NM b w (jit (GX11_brief_52 b p1 k74) (fun _ => mbot) n x0) (jit (HX11_brief_52 p1 k74') (fun _ => nbot) n x0) := by
  intro n
  induction n with
  | zero =>
    intro x3_52
    exact NM.bot
  | succ n ih =>
    intro x3_52
    show NM b w (GX11_brief_52 b p1 k74 (jit (GX11_brief_52 b p1 k74) (fun _ => mbot) n) x3_52) (HX11_brief_52 p1 k74' (jit (HX11_brief_52 p1 k74') (fun _ => nbot) n) x3_52)
    generalize jit (GX11_brief_52 b p1 k74) (fun _ => mbot) n = rec52 at ih ⊢
    generalize jit (HX11_brief_52 p1 k74') (fun _ => nbot) n = rec52' at ih ⊢
    have hrec52 := ih
    unfold GX11_brief_52 HX11_brief_52
    refine nm_if ?_ ?_
    · exact hk74
    · refine nm_getA hM (j := 19) (by decide) ?_
      refine nm_aldI hM (t := 0) (by decide) (fun v64 => ?_)
      refine nm_obj hM ?_
      refine nm_X11_makes hM x3_52 v64 _ _ ?_
      exact hrec52 (w32 (x3_52 + 1))
theorem nm_X11_brief {b : Nat} {w : Mu} (hM : MOK b w) : ∀ (x0 : Int), ∀ (x1 : Int → MP) (X1 : Int → NP), (∀ (y0 : Int), NM b w (x1 y0) (X1 y0)) → NM b w ((MX11_brief b) x0 x1) (NX11_brief x0 X1) := by
  intro p1 Qj Qj' hQj
  unfold MX11_brief NX11_brief
  refine nm_putI hM ?_
  refine nm_join (fun (k15 : Int → MP) (k15' : Int → NP) => ∀ (x0 : Int), NM b w (k15 x0) (k15' x0)) ?_ (fun k15 k15' hk15 => ?_)
  · intro s1_15
    refine nm_obj hM ?_
    refine nm_X11_throwsIf hM s1_15 1 _ _ ?_
    intro v16
    refine nm_if ?_ ?_
    · refine nm_obj hM ?_
      refine nm_X11_asksWhole hM _ _ ?_
      intro v25
      refine nm_if ?_ ?_
      · refine nm_getI hM (fun v37 => ?_)
        refine nm_if ?_ ?_
        · refine nm_obj hM ?_
          refine nm_X11_begins hM _ _ ?_
          refine nm_ex (fun n52 => ?_)
          refine nmFX11_brief_52 hM p1 ?_ n52 0
          · refine nm_obj hM ?_
            refine nm_X11_finds hM p1 (Int.tmod p1 2) _ _ ?_
            refine nm_getA hM (j := 19) (by decide) ?_
            refine nm_aldI hM (t := 0) (by decide) (fun v89 => ?_)
            refine nm_obj hM ?_
            refine nm_X11_at hM p1 (w32 (Int.tdiv v89 36)) _ _ ?_
            intro v93
            refine nm_ex (fun n105 => ?_)
            exact nmFX11_brief_105 hM p1 hQj v93 n105 0 0
        · exact hQj (-3)
      · exact hQj v25
    · exact hQj 0
  refine nm_if ?_ ?_
  · exact hk15 0
  · exact hk15 1
theorem nmFX11_part_29 {b : Nat} {w : Mu} (hM : MOK b w) {Qj : Int → MP} {Qj' : Int → NP} (hQj : ∀ (x0 : Int), NM b w (Qj x0) (Qj' x0)) : ∀ n : Nat, ∀ (x0 : Int), NM b w (jit (GX11_part_29 b Qj) (fun _ => mbot) n x0) (jit (HX11_part_29 Qj') (fun _ => nbot) n x0) := by
  intro n
  induction n with
  | zero =>
    intro x2_29
    exact NM.bot
  | succ n ih =>
    intro x2_29
    show NM b w (GX11_part_29 b Qj (jit (GX11_part_29 b Qj) (fun _ => mbot) n) x2_29) (HX11_part_29 Qj' (jit (HX11_part_29 Qj') (fun _ => nbot) n) x2_29)
    generalize jit (GX11_part_29 b Qj) (fun _ => mbot) n = rec29 at ih ⊢
    generalize jit (HX11_part_29 Qj') (fun _ => nbot) n = rec29' at ih ⊢
    have hrec29 := ih
    unfold GX11_part_29 HX11_part_29
    refine nm_getI hM (fun v31 => ?_)
    refine nm_if ?_ ?_
    · exact hQj x2_29
    · refine nm_getI hM (fun v39 => ?_)
      refine nm_if ?_ ?_
      · exact hQj x2_29
      · refine nm_getA hM (j := 19) (by decide) ?_
        refine nm_aldI hM (t := 0) (by decide) (fun v50 => ?_)
        refine nm_getA hM (j := 20) (by decide) ?_
        refine nm_aldI hM (t := 0) (by decide) (fun v56 => ?_)
        refine nm_if ?_ ?_
        · exact hrec29 (w32 (x2_29 + 1))
        · exact hQj x2_29
theorem nm_X11_part {b : Nat} {w : Mu} (hM : MOK b w) : ∀ (x0 : Int → MP) (X0 : Int → NP), (∀ (y0 : Int), NM b w (x0 y0) (X0 y0)) → NM b w ((MX11_part b) x0) (NX11_part X0) := by
  intro Qj Qj' hQj
  unfold MX11_part NX11_part
  refine nm_putI hM ?_
  refine nm_obj hM ?_
  refine nm_X11_asksWhole hM _ _ ?_
  intro v6
  refine nm_if ?_ ?_
  · refine nm_getI hM (fun v17 => ?_)
    refine nm_if ?_ ?_
    · refine nm_ex (fun n29 => ?_)
      exact nmFX11_part_29 hM hQj n29 0
    · exact hQj (-3)
  · exact hQj v6
theorem nm_X11_best {b : Nat} {w : Mu} (hM : MOK b w) : ∀ (x0 : Int), ∀ (x1 : Int → MP) (X1 : Int → NP), (∀ (y0 : Int), NM b w (x1 y0) (X1 y0)) → NM b w ((MX11_best b) x0 x1) (NX11_best x0 X1) := by
  intro p1 Qj Qj' hQj
  unfold MX11_best NX11_best
  refine nm_putI hM ?_
  refine nm_join (fun (k16 : Int → MP) (k16' : Int → NP) => ∀ (x0 : Int), NM b w (k16 x0) (k16' x0)) ?_ (fun k16 k16' hk16 => ?_)
  · intro s1_16
    refine nm_obj hM ?_
    refine nm_X11_throwsIf hM s1_16 1 _ _ ?_
    intro v17
    refine nm_if ?_ ?_
    · refine nm_obj hM ?_
      refine nm_X11_asksWhole hM _ _ ?_
      intro v26
      refine nm_if ?_ ?_
      · refine nm_if ?_ ?_
        · refine nm_getI hM (fun v51 => ?_)
          refine nm_if ?_ ?_
          · exact hQj (-3)
          · refine nm_getA hM (j := 21) (by decide) ?_
            refine nm_aldI hM (t := 0) (by decide) (fun v62 => ?_)
            exact hQj v62
        · refine nm_getI hM (fun v43 => ?_)
          exact hQj v43
      · exact hQj v26
    · exact hQj 0
  refine nm_if ?_ ?_
  · exact hk16 0
  · exact hk16 1
theorem nmFX11_common_6 {b : Nat} {w : Mu} (hM : MOK b w) {Qj : Int → MP} {Qj' : Int → NP} (hQj : ∀ (x0 : Int), NM b w (Qj x0) (Qj' x0)) : ∀ n : Nat, ∀ (x0 : Int), ∀ (x1 : Int), NM b w (jit (GX11_common_6 Qj) (fun _ _ => mbot) n x0 x1) (jit (HX11_common_6 Qj') (fun _ _ => nbot) n x0 x1) := by
  intro n
  induction n with
  | zero =>
    intro x4_6 x6_6
    exact NM.bot
  | succ n ih =>
    intro x4_6 x6_6
    show NM b w (GX11_common_6 Qj (jit (GX11_common_6 Qj) (fun _ _ => mbot) n) x4_6 x6_6) (HX11_common_6 Qj' (jit (HX11_common_6 Qj') (fun _ _ => nbot) n) x4_6 x6_6)
    generalize jit (GX11_common_6 Qj) (fun _ _ => mbot) n = rec6 at ih ⊢
    generalize jit (HX11_common_6 Qj') (fun _ _ => nbot) n = rec6' at ih ⊢
    have hrec6 := ih
    unfold GX11_common_6 HX11_common_6
    refine nm_if ?_ ?_
    · exact hQj x4_6
    · refine nm_and ?_
      exact hrec6 x6_6 (Int.tmod x4_6 x6_6)
theorem nm_X11_common {b : Nat} {w : Mu} (hM : MOK b w) : ∀ (x0 : Int), ∀ (x1 : Int), ∀ (x2 : Int → MP) (X2 : Int → NP), (∀ (y0 : Int), NM b w (x2 y0) (X2 y0)) → NM b w (MX11_common x0 x1 x2) (NX11_common x0 x1 X2) := by
  intro p0 p2 Qj Qj' hQj
  unfold MX11_common NX11_common
  refine nm_ex (fun n6 => ?_)
  exact nmFX11_common_6 hM hQj n6 p0 p2
theorem nmFX11_odds_152 {b : Nat} {w : Mu} (hM : MOK b w) (p2 : Int) (v34 : Int) {k210 : Int → Int → MP} {k210' : Int → Int → NP} (hk210 : ∀ (x0 : Int), ∀ (x1 : Int), NM b w (k210 x0 x1) (k210' x0 x1)) : ∀ n : Nat, ∀ (x0 : Int), ∀ (x1 : Int), ∀ (x2 : Int), NM b w (jit (GX11_odds_152 b p2 v34 k210) (fun _ _ _ => mbot) n x0 x1 x2) (jit (HX11_odds_152 p2 v34 k210') (fun _ _ _ => nbot) n x0 x1 x2) := by
  intro n
  induction n with
  | zero =>
    intro x5_152 x7_152 x9_152
    exact NM.bot
  | succ n ih =>
    intro x5_152 x7_152 x9_152
    show NM b w (GX11_odds_152 b p2 v34 k210 (jit (GX11_odds_152 b p2 v34 k210) (fun _ _ _ => mbot) n) x5_152 x7_152 x9_152) (HX11_odds_152 p2 v34 k210' (jit (HX11_odds_152 p2 v34 k210') (fun _ _ _ => nbot) n) x5_152 x7_152 x9_152)
    generalize jit (GX11_odds_152 b p2 v34 k210) (fun _ _ _ => mbot) n = rec152 at ih ⊢
    generalize jit (HX11_odds_152 p2 v34 k210') (fun _ _ _ => nbot) n = rec152' at ih ⊢
    have hrec152 := ih
    unfold GX11_odds_152 HX11_odds_152
    refine nm_if ?_ ?_
    · exact hk210 x5_152 x7_152
    · refine nm_getA hM (j := 18) (by decide) ?_
      refine nm_aldI hM (t := 3) (by decide) (fun v184 => ?_)
      refine nm_getA hM (j := 17) (by decide) ?_
      refine nm_aldI hM (t := 3) (by decide) (fun v199 => ?_)
      exact hrec152 (w64 (x5_152 + (w64 ((mlshl 1 (w32 (2 * (w32 ((w32 (v34 + p2)) - x9_152))))) * v184)))) (w64 (x7_152 + (w64 ((mlshl 1 (w32 (2 * (w32 ((w32 (v34 + p2)) - x9_152))))) * v199)))) (w32 (x9_152 + 1))
theorem nmFX11_odds_99 {b : Nat} {w : Mu} (hM : MOK b w) (p2 : Int) {Qj : Int → MP} {Qj' : Int → NP} (hQj : ∀ (x0 : Int), NM b w (Qj x0) (Qj' x0)) (v34 : Int) {k131 : MP} {k131' : NP} (hk131 : NM b w k131 k131') : ∀ n : Nat, ∀ (x0 : Int), NM b w (jit (GX11_odds_99 b p2 Qj v34 k131) (fun _ => mbot) n x0) (jit (HX11_odds_99 p2 Qj' v34 k131') (fun _ => nbot) n x0) := by
  intro n
  induction n with
  | zero =>
    intro x5_99
    exact NM.bot
  | succ n ih =>
    intro x5_99
    show NM b w (GX11_odds_99 b p2 Qj v34 k131 (jit (GX11_odds_99 b p2 Qj v34 k131) (fun _ => mbot) n) x5_99) (HX11_odds_99 p2 Qj' v34 k131' (jit (HX11_odds_99 p2 Qj' v34 k131') (fun _ => nbot) n) x5_99)
    generalize jit (GX11_odds_99 b p2 Qj v34 k131) (fun _ => mbot) n = rec99 at ih ⊢
    generalize jit (HX11_odds_99 p2 Qj' v34 k131') (fun _ => nbot) n = rec99' at ih ⊢
    have hrec99 := ih
    unfold GX11_odds_99 HX11_odds_99
    refine nm_if ?_ ?_
    · exact hk131
    · refine nm_obj hM ?_
      refine nm_X11_laysAll hM x5_99 _ _ ?_
      refine nm_getI hM (fun v115 => ?_)
      refine nm_if ?_ ?_
      · exact hrec99 (w32 (x5_99 + 1))
      · exact hQj (-2)
theorem nm_X11_odds {b : Nat} {w : Mu} (hM : MOK b w) : ∀ (x0 : Int), ∀ (x1 : Int), ∀ (x2 : Int), ∀ (x3 : Int → MP) (X3 : Int → NP), (∀ (y0 : Int), NM b w (x3 y0) (X3 y0)) → NM b w ((MX11_odds b) x0 x1 x2 x3) (NX11_odds x0 x1 x2 X3) := by
  intro p1 p2 p3 Qj Qj' hQj
  unfold MX11_odds NX11_odds
  refine nm_putI hM ?_
  refine nm_join (fun (k24 : Int → MP) (k24' : Int → NP) => ∀ (x0 : Int), NM b w (k24 x0) (k24' x0)) ?_ (fun k24 k24' hk24 => ?_)
  · intro s1_24
    refine nm_obj hM ?_
    refine nm_X11_throwsIf hM s1_24 1 _ _ ?_
    intro v25
    refine nm_if ?_ ?_
    · refine nm_obj hM ?_
      refine nm_X11_asksWhole hM _ _ ?_
      intro v34
      refine nm_if ?_ ?_
      · refine nm_putI hM ?_
        refine nm_getI hM (fun v56 => ?_)
        refine nm_join (fun (k72 : Int → MP) (k72' : Int → NP) => ∀ (x0 : Int), NM b w (k72 x0) (k72' x0)) ?_ (fun k72 k72' hk72 => ?_)
        · intro s1_72
          refine nm_putI hM ?_
          refine nm_join (fun (k84 : MP) (k84' : NP) => NM b w k84 k84') ?_ (fun k84 k84' hk84 => ?_)
          · refine nm_join (fun (k97 : Int → MP) (k97' : Int → NP) => ∀ (x0 : Int), NM b w (k97 x0) (k97' x0)) ?_ (fun k97 k97' hk97 => ?_)
            · intro s0_97
              refine nm_ex (fun n99 => ?_)
              refine nmFX11_odds_99 hM p2 hQj v34 ?_ n99 s0_97
              · refine nm_getI hM (fun v132 => ?_)
                refine nm_if ?_ ?_
                · refine nm_ex (fun n152 => ?_)
                  refine nmFX11_odds_152 hM p2 v34 ?_ n152 0 0 v34
                  · intro y5_210 y7_210
                    refine nm_X11_common hM y5_210 y7_210 _ _ ?_
                    intro v214
                    refine nm_if ?_ ?_
                    · refine nm_and ?_
                      exact hQj (w64 (Int.tdiv y5_210 v214))
                    · refine nm_and ?_
                      exact hQj (w64 (Int.tdiv y7_210 v214))
                · exact hQj (-3)
            refine nm_if ?_ ?_
            · exact hk97 v34
            · exact hk97 (w32 (v34 + 1))
          refine nm_if ?_ ?_
          · refine nm_putI hM ?_
            exact hk84
          · exact hk84
        refine nm_if ?_ ?_
        · exact hk72 (-1)
        · refine nm_getA hM (j := 19) (by decide) ?_
          refine nm_aldI hM (t := 0) (by decide) (fun v67 => ?_)
          exact hk72 v67
      · exact hQj v34
    · exact hQj 0
  refine nm_join (fun (k19 : MP) (k19' : NP) => NM b w k19 k19') ?_ (fun k19 k19' hk19 => ?_)
  · exact hk24 1
  refine nm_if ?_ ?_
  · exact hk19
  · refine nm_X11_in hM p2 0 2 _ _ ?_
    intro v13
    refine nm_if ?_ ?_
    · exact hk19
    · exact hk24 0
theorem nm_X11_isSlip {b : Nat} {w : Mu} (hM : MOK b w) : ∀ (x0 : Int), ∀ (x1 : Int → MP) (X1 : Int → NP), (∀ (y0 : Int), NM b w (x1 y0) (X1 y0)) → NM b w (MX11_isSlip x0 x1) (NX11_isSlip x0 X1) := by
  intro p0 Qj Qj' hQj
  unfold MX11_isSlip NX11_isSlip
  refine nm_X11_in hM p0 1 5 _ _ ?_
  intro v3
  refine nm_and ?_
  exact hQj v3
theorem nmFX11_shared_134 {b : Nat} {w : Mu} (hM : MOK b w) (p1 : Int) (p2 : Int) {k302 : Int → Int → MP} {k302' : Int → Int → NP} (hk302 : ∀ (x0 : Int), ∀ (x1 : Int), NM b w (k302 x0 x1) (k302' x0 x1)) : ∀ n : Nat, ∀ (x0 : Int), ∀ (x1 : Int), ∀ (x2 : Int), NM b w (jit (GX11_shared_134 b p1 p2 k302) (fun _ _ _ => mbot) n x0 x1 x2) (jit (HX11_shared_134 p1 p2 k302') (fun _ _ _ => nbot) n x0 x1 x2) := by
  intro n
  induction n with
  | zero =>
    intro x5_134 x6_134 x7_134
    exact NM.bot
  | succ n ih =>
    intro x5_134 x6_134 x7_134
    show NM b w (GX11_shared_134 b p1 p2 k302 (jit (GX11_shared_134 b p1 p2 k302) (fun _ _ _ => mbot) n) x5_134 x6_134 x7_134) (HX11_shared_134 p1 p2 k302' (jit (HX11_shared_134 p1 p2 k302') (fun _ _ _ => nbot) n) x5_134 x6_134 x7_134)
    generalize jit (GX11_shared_134 b p1 p2 k302) (fun _ _ _ => mbot) n = rec134 at ih ⊢
    generalize jit (HX11_shared_134 p1 p2 k302') (fun _ _ _ => nbot) n = rec134' at ih ⊢
    have hrec134 := ih
    unfold GX11_shared_134 HX11_shared_134
    refine nm_getI hM (fun v137 => ?_)
    refine nm_if ?_ ?_
    · exact hk302 x5_134 x6_134
    · refine nm_getA hM (j := 26) (by decide) ?_
      refine nm_aldI hM (t := 0) (by decide) (fun v149 => ?_)
      refine nm_getA hM (j := 24) (by decide) ?_
      refine nm_aldI hM (t := 0) (by decide) (fun v158 => ?_)
      refine nm_join (fun (k296 : Int → Int → MP) (k296' : Int → Int → NP) => ∀ (x0 : Int), ∀ (x1 : Int), NM b w (k296 x0 x1) (k296' x0 x1)) ?_ (fun k296 k296' hk296 => ?_)
      · intro x5_296 x6_296
        exact hrec134 x5_296 x6_296 (w32 (x7_134 + 1))
      refine nm_if ?_ ?_
      · exact hk296 x5_134 x6_134
      · refine nm_getA hM (j := 23) (by decide) ?_
        refine nm_aldI hM (t := 0) (by decide) (fun v172 => ?_)
        refine nm_X11_isSlip hM v172 _ _ ?_
        intro v173
        refine nm_if ?_ ?_
        · exact hk296 x5_134 x6_134
        · refine nm_join (fun (k204 : Int → MP) (k204' : Int → NP) => ∀ (x0 : Int), NM b w (k204 x0) (k204' x0)) ?_ (fun k204 k204' hk204 => ?_)
          · intro s1_204
            refine nm_join (fun (k293 : Int → MP) (k293' : Int → NP) => ∀ (x0 : Int), NM b w (k293 x0) (k293' x0)) ?_ (fun k293 k293' hk293 => ?_)
            · intro s1_293
              exact hk296 (w32 (x5_134 + s1_293)) (w32 (x6_134 + s1_204))
            refine nm_join (fun (k292 : MP) (k292' : NP) => NM b w k292 k292') ?_ (fun k292 k292' hk292 => ?_)
            · exact hk293 0
            refine nm_if ?_ ?_
            · exact hk292
            · refine nm_getA hM (j := 25) (by decide) ?_
              refine nm_aldI hM (t := 0) (by decide) (fun v220 => ?_)
              refine nm_getA hM (j := 23) (by decide) ?_
              refine nm_aldI hM (t := 0) (by decide) (fun v227 => ?_)
              refine nm_if ?_ ?_
              · refine nm_obj hM ?_
                refine nm_X11_ofNote hM p1 v149 0 _ _ ?_
                intro v236
                refine nm_obj hM ?_
                refine nm_X11_ofNote hM p2 v158 0 _ _ ?_
                intro v244
                refine nm_if ?_ ?_
                · refine nm_obj hM ?_
                  refine nm_X11_ofNote hM p1 v149 2 _ _ ?_
                  intro v255
                  refine nm_obj hM ?_
                  refine nm_X11_ofNote hM p2 v158 2 _ _ ?_
                  intro v263
                  refine nm_if ?_ ?_
                  · refine nm_obj hM ?_
                    refine nm_X11_ofNote hM p1 v149 3 _ _ ?_
                    intro v274
                    refine nm_obj hM ?_
                    refine nm_X11_ofNote hM p2 v158 3 _ _ ?_
                    intro v282
                    refine nm_if ?_ ?_
                    · exact hk293 1
                    · exact hk292
                  · exact hk292
                · exact hk292
              · exact hk292
          refine nm_join (fun (k199 : MP) (k199' : NP) => NM b w k199 k199') ?_ (fun k199 k199' hk199 => ?_)
          · exact hk204 1
          refine nm_if ?_ ?_
          · exact hk199
          · refine nm_getA hM (j := 25) (by decide) ?_
            refine nm_aldI hM (t := 0) (by decide) (fun v195 => ?_)
            refine nm_if ?_ ?_
            · exact hk199
            · exact hk204 0
theorem nmFX11_shared_91 {b : Nat} {w : Mu} (hM : MOK b w) {k120 : MP} {k120' : NP} (hk120 : NM b w k120 k120') : ∀ n : Nat, ∀ (x0 : Int), NM b w (jit (GX11_shared_91 b k120) (fun _ => mbot) n x0) (jit (HX11_shared_91 k120') (fun _ => nbot) n x0) := by
  intro n
  induction n with
  | zero =>
    intro x5_91
    exact NM.bot
  | succ n ih =>
    intro x5_91
    show NM b w (GX11_shared_91 b k120 (jit (GX11_shared_91 b k120) (fun _ => mbot) n) x5_91) (HX11_shared_91 k120' (jit (HX11_shared_91 k120') (fun _ => nbot) n) x5_91)
    generalize jit (GX11_shared_91 b k120) (fun _ => mbot) n = rec91 at ih ⊢
    generalize jit (HX11_shared_91 k120') (fun _ => nbot) n = rec91' at ih ⊢
    have hrec91 := ih
    unfold GX11_shared_91 HX11_shared_91
    refine nm_getI hM (fun v94 => ?_)
    refine nm_if ?_ ?_
    · exact hk120
    · refine nm_getA hM (j := 26) (by decide) ?_
      refine nm_getA hM (j := 24) (by decide) ?_
      refine nm_aldI hM (t := 0) (by decide) (fun v112 => ?_)
      refine nm_ast hM (t := 0) (by decide) ?_
      exact hrec91 (w32 (x5_91 + 1))
theorem nmFX11_shared_58 {b : Nat} {w : Mu} (hM : MOK b w) (p1 : Int) {k88 : MP} {k88' : NP} (hk88 : NM b w k88 k88') : ∀ n : Nat, ∀ (x0 : Int), NM b w (jit (GX11_shared_58 b p1 k88) (fun _ => mbot) n x0) (jit (HX11_shared_58 p1 k88') (fun _ => nbot) n x0) := by
  intro n
  induction n with
  | zero =>
    intro x5_58
    exact NM.bot
  | succ n ih =>
    intro x5_58
    show NM b w (GX11_shared_58 b p1 k88 (jit (GX11_shared_58 b p1 k88) (fun _ => mbot) n) x5_58) (HX11_shared_58 p1 k88' (jit (HX11_shared_58 p1 k88') (fun _ => nbot) n) x5_58)
    generalize jit (GX11_shared_58 b p1 k88) (fun _ => mbot) n = rec58 at ih ⊢
    generalize jit (HX11_shared_58 p1 k88') (fun _ => nbot) n = rec58' at ih ⊢
    have hrec58 := ih
    unfold GX11_shared_58 HX11_shared_58
    refine nm_obj hM ?_
    refine nm_X11_notes hM p1 _ _ ?_
    intro v62
    refine nm_if ?_ ?_
    · exact hk88
    · refine nm_getA hM (j := 25) (by decide) ?_
      refine nm_getA hM (j := 23) (by decide) ?_
      refine nm_aldI hM (t := 0) (by decide) (fun v80 => ?_)
      refine nm_ast hM (t := 0) (by decide) ?_
      exact hrec58 (w32 (x5_58 + 1))
theorem nm_X11_shared {b : Nat} {w : Mu} (hM : MOK b w) : ∀ (x0 : Int), ∀ (x1 : Int), ∀ (x2 : Int), ∀ (x3 : Int → MP) (X3 : Int → NP), (∀ (y0 : Int), NM b w (x3 y0) (X3 y0)) → NM b w ((MX11_shared b) x0 x1 x2 x3) (NX11_shared x0 x1 x2 X3) := by
  intro p1 p2 p3 Qj Qj' hQj
  unfold MX11_shared NX11_shared
  refine nm_putI hM ?_
  refine nm_obj hM ?_
  refine nm_X11_noBook hM p1 _ _ ?_
  intro v8
  refine nm_join (fun (k27 : Int → MP) (k27' : Int → NP) => ∀ (x0 : Int), NM b w (k27 x0) (k27' x0)) ?_ (fun k27 k27' hk27 => ?_)
  · intro s1_27
    refine nm_obj hM ?_
    refine nm_X11_throwsIf hM s1_27 1 _ _ ?_
    intro v28
    refine nm_if ?_ ?_
    · refine nm_obj hM ?_
      refine nm_X11_asksWhole hM _ _ ?_
      intro v37
      refine nm_if ?_ ?_
      · refine nm_obj hM ?_
        refine nm_X11_follows hM p1 _ _ ?_
        refine nm_ex (fun n58 => ?_)
        refine nmFX11_shared_58 hM p1 ?_ n58 0
        · refine nm_ex (fun n91 => ?_)
          refine nmFX11_shared_91 hM ?_ n91 0
          · refine nm_obj hM ?_
            refine nm_X11_follows hM p2 _ _ ?_
            refine nm_ex (fun n134 => ?_)
            refine nmFX11_shared_134 hM p1 p2 ?_ n134 0 0 0
            · intro y5_302 y6_302
              refine nm_if ?_ ?_
              · exact hQj y5_302
              · refine nm_if ?_ ?_
                · exact hQj 0
                · exact hQj 1
      · exact hQj v37
    · exact hQj 0
  refine nm_join (fun (k22 : MP) (k22' : NP) => NM b w k22 k22') ?_ (fun k22 k22' hk22 => ?_)
  · exact hk27 1
  refine nm_if ?_ ?_
  · refine nm_obj hM ?_
    refine nm_X11_noBook hM p2 _ _ ?_
    intro v16
    refine nm_if ?_ ?_
    · exact hk27 0
    · exact hk22
  · exact hk22
theorem nmFX11_alike_84 {b : Nat} {w : Mu} (hM : MOK b w) (p1 : Int) (p2 : Int) (x4_42 : Int) (x5_55 : Int) {k133 : Int → MP} {k133' : Int → NP} (hk133 : ∀ (x0 : Int), NM b w (k133 x0) (k133' x0)) : ∀ n : Nat, ∀ (x0 : Int), ∀ (x1 : Int), NM b w (jit (GX11_alike_84 b p1 p2 x4_42 x5_55 k133) (fun _ _ => mbot) n x0 x1) (jit (HX11_alike_84 p1 p2 x4_42 x5_55 k133') (fun _ _ => nbot) n x0 x1) := by
  intro n
  induction n with
  | zero =>
    intro x7_84 x8_84
    exact NM.bot
  | succ n ih =>
    intro x7_84 x8_84
    show NM b w (GX11_alike_84 b p1 p2 x4_42 x5_55 k133 (jit (GX11_alike_84 b p1 p2 x4_42 x5_55 k133) (fun _ _ => mbot) n) x7_84 x8_84) (HX11_alike_84 p1 p2 x4_42 x5_55 k133' (jit (HX11_alike_84 p1 p2 x4_42 x5_55 k133') (fun _ _ => nbot) n) x7_84 x8_84)
    generalize jit (GX11_alike_84 b p1 p2 x4_42 x5_55 k133) (fun _ _ => mbot) n = rec84 at ih ⊢
    generalize jit (HX11_alike_84 p1 p2 x4_42 x5_55 k133') (fun _ _ => nbot) n = rec84' at ih ⊢
    have hrec84 := ih
    unfold GX11_alike_84 HX11_alike_84
    refine nm_if ?_ ?_
    · exact hk133 x7_84
    · refine nm_join (fun (k125 : Int → MP) (k125' : Int → NP) => ∀ (x0 : Int), NM b w (k125 x0) (k125' x0)) ?_ (fun k125 k125' hk125 => ?_)
      · intro s0_125
        exact hrec84 s0_125 (w32 (x8_84 + 1))
      refine nm_join (fun (k124 : MP) (k124' : NP) => NM b w k124 k124') ?_ (fun k124 k124' hk124 => ?_)
      · exact hk125 0
      refine nm_if ?_ ?_
      · exact hk124
      · refine nm_obj hM ?_
        refine nm_X11_ofNote hM p1 (w32 (x4_42 - 1)) x8_84 _ _ ?_
        intro v103
        refine nm_obj hM ?_
        refine nm_X11_ofNote hM p2 (w32 (x5_55 - 1)) x8_84 _ _ ?_
        intro v114
        refine nm_if ?_ ?_
        · exact hk125 1
        · exact hk124
theorem nmFX11_alike_55 {b : Nat} {w : Mu} (hM : MOK b w) (p1 : Int) (p2 : Int) (x4_42 : Int) {k212 : MP} {k212' : NP} (hk212 : NM b w k212 k212') : ∀ n : Nat, ∀ (x0 : Int), NM b w (jit (GX11_alike_55 b p1 p2 x4_42 k212) (fun _ => mbot) n x0) (jit (HX11_alike_55 p1 p2 x4_42 k212') (fun _ => nbot) n x0) := by
  intro n
  induction n with
  | zero =>
    intro x5_55
    exact NM.bot
  | succ n ih =>
    intro x5_55
    show NM b w (GX11_alike_55 b p1 p2 x4_42 k212 (jit (GX11_alike_55 b p1 p2 x4_42 k212) (fun _ => mbot) n) x5_55) (HX11_alike_55 p1 p2 x4_42 k212' (jit (HX11_alike_55 p1 p2 x4_42 k212') (fun _ => nbot) n) x5_55)
    generalize jit (GX11_alike_55 b p1 p2 x4_42 k212) (fun _ => mbot) n = rec55 at ih ⊢
    generalize jit (HX11_alike_55 p1 p2 x4_42 k212') (fun _ => nbot) n = rec55' at ih ⊢
    have hrec55 := ih
    unfold GX11_alike_55 HX11_alike_55
    refine nm_obj hM ?_
    refine nm_X11_notes hM p2 _ _ ?_
    intro v59
    refine nm_if ?_ ?_
    · exact hk212
    · refine nm_join (fun (k192 : Int → MP) (k192' : Int → NP) => ∀ (x0 : Int), NM b w (k192 x0) (k192' x0)) ?_ (fun k192 k192' hk192 => ?_)
      · intro x6_192
        refine nm_getA hM (j := 27) (by decide) ?_
        refine nm_ast hM (t := 0) (by decide) ?_
        exact hrec55 (w32 (x5_55 + 1))
      refine nm_if ?_ ?_
      · exact hk192 0
      · refine nm_if ?_ ?_
        · exact hk192 0
        · refine nm_ex (fun n84 => ?_)
          refine nmFX11_alike_84 hM p1 p2 x4_42 x5_55 ?_ n84 1 0
          · intro y7_133
            refine nm_join (fun (k190 : Int → MP) (k190' : Int → NP) => ∀ (x0 : Int), NM b w (k190 x0) (k190' x0)) ?_ (fun k190 k190' hk190 => ?_)
            · intro s0_190
              exact hk192 s0_190
            refine nm_if ?_ ?_
            · refine nm_getA hM (j := 27) (by decide) ?_
              refine nm_aldI hM (t := 0) (by decide) (fun v172 => ?_)
              refine nm_getA hM (j := 27) (by decide) ?_
              refine nm_aldI hM (t := 0) (by decide) (fun v186 => ?_)
              exact hk190 (max v172 v186)
            · refine nm_getA hM (j := 27) (by decide) ?_
              refine nm_aldI hM (t := 0) (by decide) (fun v154 => ?_)
              exact hk190 (w32 (1 + v154))
theorem nmFX11_alike_42 {b : Nat} {w : Mu} (hM : MOK b w) (p1 : Int) (p2 : Int) {k218 : MP} {k218' : NP} (hk218 : NM b w k218 k218') : ∀ n : Nat, ∀ (x0 : Int), NM b w (jit (GX11_alike_42 b p1 p2 k218) (fun _ => mbot) n x0) (jit (HX11_alike_42 p1 p2 k218') (fun _ => nbot) n x0) := by
  intro n
  induction n with
  | zero =>
    intro x4_42
    exact NM.bot
  | succ n ih =>
    intro x4_42
    show NM b w (GX11_alike_42 b p1 p2 k218 (jit (GX11_alike_42 b p1 p2 k218) (fun _ => mbot) n) x4_42) (HX11_alike_42 p1 p2 k218' (jit (HX11_alike_42 p1 p2 k218') (fun _ => nbot) n) x4_42)
    generalize jit (GX11_alike_42 b p1 p2 k218) (fun _ => mbot) n = rec42 at ih ⊢
    generalize jit (HX11_alike_42 p1 p2 k218') (fun _ => nbot) n = rec42' at ih ⊢
    have hrec42 := ih
    unfold GX11_alike_42 HX11_alike_42
    refine nm_obj hM ?_
    refine nm_X11_notes hM p1 _ _ ?_
    intro v46
    refine nm_if ?_ ?_
    · exact hk218
    · refine nm_ex (fun n55 => ?_)
      refine nmFX11_alike_55 hM p1 p2 x4_42 ?_ n55 0
      · exact hrec42 (w32 (x4_42 + 1))
theorem nm_X11_alike {b : Nat} {w : Mu} (hM : MOK b w) : ∀ (x0 : Int), ∀ (x1 : Int), ∀ (x2 : Int → MP) (X2 : Int → NP), (∀ (y0 : Int), NM b w (x2 y0) (X2 y0)) → NM b w ((MX11_alike b) x0 x1 x2) (NX11_alike x0 x1 X2) := by
  intro p1 p2 Qj Qj' hQj
  unfold MX11_alike NX11_alike
  refine nm_putI hM ?_
  refine nm_obj hM ?_
  refine nm_X11_noBook hM p1 _ _ ?_
  intro v8
  refine nm_join (fun (k27 : Int → MP) (k27' : Int → NP) => ∀ (x0 : Int), NM b w (k27 x0) (k27' x0)) ?_ (fun k27 k27' hk27 => ?_)
  · intro s1_27
    refine nm_obj hM ?_
    refine nm_X11_throwsIf hM s1_27 1 _ _ ?_
    intro v28
    refine nm_if ?_ ?_
    · refine nm_ex (fun n42 => ?_)
      refine nmFX11_alike_42 hM p1 p2 ?_ n42 0
      · refine nm_getA hM (j := 27) (by decide) ?_
        refine nm_obj hM ?_
        refine nm_X11_notes hM p1 _ _ ?_
        intro v225
        refine nm_obj hM ?_
        refine nm_X11_notes hM p2 _ _ ?_
        intro v231
        refine nm_aldI hM (t := 0) (by decide) (fun v235 => ?_)
        exact hQj v235
    · exact hQj 0
  refine nm_join (fun (k22 : MP) (k22' : NP) => NM b w k22 k22') ?_ (fun k22 k22' hk22 => ?_)
  · exact hk27 1
  refine nm_if ?_ ?_
  · refine nm_obj hM ?_
    refine nm_X11_noBook hM p2 _ _ ?_
    intro v16
    refine nm_if ?_ ?_
    · exact hk27 0
    · exact hk22
  · exact hk22
theorem nm_X11_way {b : Nat} {w : Mu} (hM : MOK b w) : ∀ (x0 : Int), ∀ (x1 : Int → MP) (X1 : Int → NP), (∀ (y0 : Int), NM b w (x1 y0) (X1 y0)) → NM b w ((MX11_way b) x0 x1) (NX11_way x0 X1) := by
  intro p1 Qj Qj' hQj
  unfold MX11_way NX11_way
  refine nm_putI hM ?_
  refine nm_obj hM ?_
  refine nm_X11_noBook hM p1 _ _ ?_
  intro v8
  refine nm_obj hM ?_
  refine nm_X11_throwsIf hM v8 1 _ _ ?_
  intro v12
  refine nm_if ?_ ?_
  · refine nm_obj hM ?_
    refine nm_X11_asksAll hM _ _ ?_
    refine nm_putI hM ?_
    refine nm_getA hM (j := 10) (by decide) ?_
    refine nm_ast hM (t := 0) (by decide) ?_
    refine nm_obj hM ?_
    refine nm_X11_asks hM _ _ ?_
    intro v39
    refine nm_getA hM (j := 10) (by decide) ?_
    refine nm_ast hM (t := 0) (by decide) ?_
    refine nm_obj hM ?_
    refine nm_X11_asks hM _ _ ?_
    intro v51
    refine nm_if ?_ ?_
    · exact hQj (-2)
    · refine nm_if ?_ ?_
      · exact hQj (-2)
      · refine nm_join (fun (k81 : Int → MP) (k81' : Int → NP) => ∀ (x0 : Int), NM b w (k81 x0) (k81' x0)) ?_ (fun k81 k81' hk81 => ?_)
        · intro s0_81
          refine nm_join (fun (k94 : Int → MP) (k94' : Int → NP) => ∀ (x0 : Int), NM b w (k94 x0) (k94' x0)) ?_ (fun k94 k94' hk94 => ?_)
          · intro s0_94
            refine nm_if ?_ ?_
            · refine nm_if ?_ ?_
              · exact hQj (-3)
              · exact hQj 1
            · exact hQj 0
          refine nm_if ?_ ?_
          · exact hk94 v51
          · exact hk94 1000
        refine nm_if ?_ ?_
        · exact hk81 v39
        · exact hk81 1000
  · exact hQj 0
theorem nm_X11_cheaper {b : Nat} {w : Mu} (hM : MOK b w) : ∀ (x0 : Int), ∀ (x1 : Int → MP) (X1 : Int → NP), (∀ (y0 : Int), NM b w (x1 y0) (X1 y0)) → NM b w ((MX11_cheaper b) x0 x1) (NX11_cheaper x0 X1) := by
  intro p1 Qj Qj' hQj
  unfold MX11_cheaper NX11_cheaper
  refine nm_putI hM ?_
  refine nm_X11_in hM p1 1 7 _ _ ?_
  intro v10
  refine nm_join (fun (k21 : Int → MP) (k21' : Int → NP) => ∀ (x0 : Int), NM b w (k21 x0) (k21' x0)) ?_ (fun k21 k21' hk21 => ?_)
  · intro s1_21
    refine nm_obj hM ?_
    refine nm_X11_throwsIf hM s1_21 1 _ _ ?_
    intro v22
    refine nm_if ?_ ?_
    · refine nm_obj hM ?_
      refine nm_X11_asksWhole hM _ _ ?_
      intro v31
      refine nm_join (fun (k51 : MP) (k51' : NP) => NM b w k51 k51') ?_ (fun k51 k51' hk51 => ?_)
      · exact hQj (min 0 v31)
      refine nm_if ?_ ?_
      · exact hk51
      · refine nm_getA hM (j := 1) (by decide) ?_
        refine nm_aldI hM (t := 0) (by decide) (fun v46 => ?_)
        refine nm_if ?_ ?_
        · refine nm_getA hM (j := 11) (by decide) ?_
          refine nm_ast hM (t := 0) (by decide) ?_
          refine nm_obj hM ?_
          refine nm_X11_asks hM _ _ ?_
          intro v65
          refine nm_if ?_ ?_
          · exact hQj (w32 (v31 - v65))
          · exact hQj v65
        · exact hk51
    · exact hQj 0
  refine nm_if ?_ ?_
  · exact hk21 1
  · exact hk21 0
theorem nmFX11_image_7 {b : Nat} {w : Mu} (hM : MOK b w) {k32 : MP} {k32' : NP} (hk32 : NM b w k32 k32') : ∀ n : Nat, ∀ (x0 : Int), NM b w (jit (GX11_image_7 b k32) (fun _ => mbot) n x0) (jit (HX11_image_7 k32') (fun _ => nbot) n x0) := by
  intro n
  induction n with
  | zero =>
    intro x1_7
    exact NM.bot
  | succ n ih =>
    intro x1_7
    show NM b w (GX11_image_7 b k32 (jit (GX11_image_7 b k32) (fun _ => mbot) n) x1_7) (HX11_image_7 k32' (jit (HX11_image_7 k32') (fun _ => nbot) n) x1_7)
    generalize jit (GX11_image_7 b k32) (fun _ => mbot) n = rec7 at ih ⊢
    generalize jit (HX11_image_7 k32') (fun _ => nbot) n = rec7' at ih ⊢
    have hrec7 := ih
    unfold GX11_image_7 HX11_image_7
    refine nm_if ?_ ?_
    · exact hk32
    · refine nm_getA hM (j := 2) (by decide) ?_
      refine nm_getA hM (j := 1) (by decide) ?_
      refine nm_aldI hM (t := 0) (by decide) (fun v24 => ?_)
      refine nm_ast hM (t := 0) (by decide) ?_
      exact hrec7 (w32 (x1_7 + 1))
theorem nm_X11_image {b : Nat} {w : Mu} (hM : MOK b w) : ∀ (x0 : MP) (X0 : NP), NM b w x0 X0 → NM b w ((MX11_image b) x0) (NX11_image X0) := by
  intro Qj Qj' hQj
  unfold MX11_image NX11_image
  refine nm_putI hM ?_
  refine nm_ex (fun n7 => ?_)
  refine nmFX11_image_7 hM ?_ n7 0
  · refine nm_putZ hM ?_
    exact hQj
theorem nmFX11_back_16 {b : Nat} {w : Mu} (hM : MOK b w) {Qj : Int → MP} {Qj' : Int → NP} (hQj : ∀ (x0 : Int), NM b w (Qj x0) (Qj' x0)) : ∀ n : Nat, ∀ (x0 : Int), NM b w (jit (GX11_back_16 b Qj) (fun _ => mbot) n x0) (jit (HX11_back_16 Qj') (fun _ => nbot) n x0) := by
  intro n
  induction n with
  | zero =>
    intro x1_16
    exact NM.bot
  | succ n ih =>
    intro x1_16
    show NM b w (GX11_back_16 b Qj (jit (GX11_back_16 b Qj) (fun _ => mbot) n) x1_16) (HX11_back_16 Qj' (jit (HX11_back_16 Qj') (fun _ => nbot) n) x1_16)
    generalize jit (GX11_back_16 b Qj) (fun _ => mbot) n = rec16 at ih ⊢
    generalize jit (HX11_back_16 Qj') (fun _ => nbot) n = rec16' at ih ⊢
    have hrec16 := ih
    unfold GX11_back_16 HX11_back_16
    refine nm_if ?_ ?_
    · exact hQj 1
    · refine nm_getA hM (j := 1) (by decide) ?_
      refine nm_getA hM (j := 2) (by decide) ?_
      refine nm_aldI hM (t := 0) (by decide) (fun v33 => ?_)
      refine nm_ast hM (t := 0) (by decide) ?_
      exact hrec16 (w32 (x1_16 + 1))
theorem nm_X11_back {b : Nat} {w : Mu} (hM : MOK b w) : ∀ (x0 : Int → MP) (X0 : Int → NP), (∀ (y0 : Int), NM b w (x0 y0) (X0 y0)) → NM b w ((MX11_back b) x0) (NX11_back X0) := by
  intro Qj Qj' hQj
  unfold MX11_back NX11_back
  refine nm_putI hM ?_
  refine nm_getI hM (fun v6 => ?_)
  refine nm_if ?_ ?_
  · exact hQj 0
  · refine nm_ex (fun n16 => ?_)
    exact nmFX11_back_16 hM hQj n16 0
theorem nmFX11_count_65 {b : Nat} {w : Mu} (hM : MOK b w) {Qj : Int → MP} {Qj' : Int → NP} (hQj : ∀ (x0 : Int), NM b w (Qj x0) (Qj' x0)) : ∀ n : Nat, ∀ (x0 : Int), ∀ (x1 : Int), NM b w (jit (GX11_count_65 b Qj) (fun _ _ => mbot) n x0 x1) (jit (HX11_count_65 Qj') (fun _ _ => nbot) n x0 x1) := by
  intro n
  induction n with
  | zero =>
    intro x2_65 x3_65
    exact NM.bot
  | succ n ih =>
    intro x2_65 x3_65
    show NM b w (GX11_count_65 b Qj (jit (GX11_count_65 b Qj) (fun _ _ => mbot) n) x2_65 x3_65) (HX11_count_65 Qj' (jit (HX11_count_65 Qj') (fun _ _ => nbot) n) x2_65 x3_65)
    generalize jit (GX11_count_65 b Qj) (fun _ _ => mbot) n = rec65 at ih ⊢
    generalize jit (HX11_count_65 Qj') (fun _ _ => nbot) n = rec65' at ih ⊢
    have hrec65 := ih
    unfold GX11_count_65 HX11_count_65
    refine nm_if ?_ ?_
    · exact hQj x2_65
    · refine nm_getA hM (j := 1) (by decide) ?_
      refine nm_aldI hM (t := 0) (by decide) (fun v80 => ?_)
      refine nm_join (fun (k89 : Int → MP) (k89' : Int → NP) => ∀ (x0 : Int), NM b w (k89 x0) (k89' x0)) ?_ (fun k89 k89' hk89 => ?_)
      · intro s1_89
        exact hrec65 (w32 (x2_65 + s1_89)) (w32 (x3_65 + 1))
      refine nm_if ?_ ?_
      · exact hk89 0
      · exact hk89 1
theorem nmFX11_count_108 {b : Nat} {w : Mu} (hM : MOK b w) {Qj : Int → MP} {Qj' : Int → NP} (hQj : ∀ (x0 : Int), NM b w (Qj x0) (Qj' x0)) : ∀ n : Nat, ∀ (x0 : Int), ∀ (x1 : Int), NM b w (jit (GX11_count_108 b Qj) (fun _ _ => mbot) n x0 x1) (jit (HX11_count_108 Qj') (fun _ _ => nbot) n x0 x1) := by
  intro n
  induction n with
  | zero =>
    intro x2_108 x3_108
    exact NM.bot
  | succ n ih =>
    intro x2_108 x3_108
    show NM b w (GX11_count_108 b Qj (jit (GX11_count_108 b Qj) (fun _ _ => mbot) n) x2_108 x3_108) (HX11_count_108 Qj' (jit (HX11_count_108 Qj') (fun _ _ => nbot) n) x2_108 x3_108)
    generalize jit (GX11_count_108 b Qj) (fun _ _ => mbot) n = rec108 at ih ⊢
    generalize jit (HX11_count_108 Qj') (fun _ _ => nbot) n = rec108' at ih ⊢
    have hrec108 := ih
    unfold GX11_count_108 HX11_count_108
    refine nm_getA hM (j := 1) (by decide) ?_
    refine nm_aldI hM (t := 0) (by decide) (fun v114 => ?_)
    refine nm_if ?_ ?_
    · exact hQj x2_108
    · refine nm_obj hM ?_
      refine nm_X11_notes hM x3_108 _ _ ?_
      intro v121
      exact hrec108 (w32 (x2_108 + v121)) (w32 (x3_108 + 1))
theorem nmFX11_count_172 {b : Nat} {w : Mu} (hM : MOK b w) {Qj : Int → MP} {Qj' : Int → NP} (hQj : ∀ (x0 : Int), NM b w (Qj x0) (Qj' x0)) : ∀ n : Nat, ∀ (x0 : Int), ∀ (x1 : Int), NM b w (jit (GX11_count_172 b Qj) (fun _ _ => mbot) n x0 x1) (jit (HX11_count_172 Qj') (fun _ _ => nbot) n x0 x1) := by
  intro n
  induction n with
  | zero =>
    intro x2_172 x3_172
    exact NM.bot
  | succ n ih =>
    intro x2_172 x3_172
    show NM b w (GX11_count_172 b Qj (jit (GX11_count_172 b Qj) (fun _ _ => mbot) n) x2_172 x3_172) (HX11_count_172 Qj' (jit (HX11_count_172 Qj') (fun _ _ => nbot) n) x2_172 x3_172)
    generalize jit (GX11_count_172 b Qj) (fun _ _ => mbot) n = rec172 at ih ⊢
    generalize jit (HX11_count_172 Qj') (fun _ _ => nbot) n = rec172' at ih ⊢
    have hrec172 := ih
    unfold GX11_count_172 HX11_count_172
    refine nm_if ?_ ?_
    · exact hQj x2_172
    · refine nm_getA hM (j := 1) (by decide) ?_
      refine nm_aldI hM (t := 0) (by decide) (fun v187 => ?_)
      refine nm_join (fun (k210 : Int → MP) (k210' : Int → NP) => ∀ (x0 : Int), NM b w (k210 x0) (k210' x0)) ?_ (fun k210 k210' hk210 => ?_)
      · intro s1_210
        exact hrec172 (w32 (x2_172 + s1_210)) (w32 (x3_172 + 1))
      refine nm_if ?_ ?_
      · exact hk210 0
      · refine nm_getA hM (j := 1) (by decide) ?_
        refine nm_aldI hM (t := 0) (by decide) (fun v200 => ?_)
        refine nm_obj hM ?_
        refine nm_X11_valueOf hM (w32 (Int.tdiv v200 2)) _ _ ?_
        intro v203
        exact hk210 v203
theorem nm_X11_count {b : Nat} {w : Mu} (hM : MOK b w) : ∀ (x0 : Int), ∀ (x1 : Int → MP) (X1 : Int → NP), (∀ (y0 : Int), NM b w (x1 y0) (X1 y0)) → NM b w ((MX11_count b) x0 x1) (NX11_count x0 X1) := by
  intro p1 Qj Qj' hQj
  unfold MX11_count NX11_count
  refine nm_putI hM ?_
  refine nm_if ?_ ?_
  · refine nm_getA hM (j := 1) (by decide) ?_
    refine nm_aldI hM (t := 0) (by decide) (fun v61 => ?_)
    exact hQj v61
  · refine nm_if ?_ ?_
    · refine nm_ex (fun n65 => ?_)
      exact nmFX11_count_65 hM hQj n65 0 0
    · refine nm_if ?_ ?_
      · refine nm_getA hM (j := 1) (by decide) ?_
        refine nm_aldI hM (t := 0) (by decide) (fun v104 => ?_)
        exact hQj v104
      · refine nm_if ?_ ?_
        · refine nm_ex (fun n108 => ?_)
          exact nmFX11_count_108 hM hQj n108 0 0
        · refine nm_if ?_ ?_
          · refine nm_getA hM (j := 1) (by decide) ?_
            refine nm_aldI hM (t := 0) (by decide) (fun v139 => ?_)
            exact hQj v139
          · refine nm_if ?_ ?_
            · refine nm_getA hM (j := 1) (by decide) ?_
              refine nm_aldI hM (t := 0) (by decide) (fun v146 => ?_)
              exact hQj v146
            · refine nm_if ?_ ?_
              · refine nm_obj hM ?_
                refine nm_X11_asksWhole hM _ _ ?_
                intro v149
                refine nm_getI hM (fun v154 => ?_)
                refine nm_if ?_ ?_
                · refine nm_getI hM (fun v166 => ?_)
                  exact hQj v166
                · exact hQj (-2)
              · refine nm_if ?_ ?_
                · refine nm_ex (fun n172 => ?_)
                  exact nmFX11_count_172 hM hQj n172 0 0
                · exact hQj (-1)
