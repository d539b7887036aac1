set_option maxRecDepth 100000
def stL (B : Int → Int) (p m x : Int) : List Int := slid B (B p % 2) x 0 0 m.toNat p ++ slid B (B p % 2) 0 x 0 m.toNat p
theorem ns_straight {d p s m : Int} {K : NP} {S : NS} (hk : bok S d p) (hm : 0 ≤ m ∧ m < 1000) (h : K (mkL d p (if s = 0 then stL (bd S d) p m (-1) ++ stL (bd S d) p m 1 else []) S)) : nex (fun n => jit (HX11_goes_128 d p s m K) (fun _ => nbot) n (-1)) S := by
  refine ⟨3, ?_⟩
  by_cases hs : s = 0
  · rw [if_pos hs] at h
    have one : ∀ (rec : Int → NP) (x : Int) (S' : NS), -1 ≤ x ∧ x ≤ 1 → bok S' d p → rec (x + 2) (mkL d p (stL (bd S' d) p m x) S') → HX11_goes_128 d p s m K rec x S' := by
      intro rec x S' hx hk' h'
      unfold HX11_goes_128
      refine ⟨fun z => by omega, fun _ => ⟨fun _ => ?_, fun z => absurd hs z⟩⟩
      rw [w32_id (x := x + 2) (by omega) (by omega)]
      refine ns_alongK hk' (by omega) (by omega) hm ?_
      refine ns_alongK (bok_mk hk' _) (by omega) (by omega) hm ?_
      rw [bd_mk, ← mkL_app]
      exact h'
    show HX11_goes_128 d p s m K (jit _ _ 2) (-1) S
    refine one _ _ _ (by omega) hk ?_
    show HX11_goes_128 d p s m K (jit _ _ 1) 1 _
    refine one _ _ _ (by omega) (bok_mk hk _) ?_
    show HX11_goes_128 d p s m K (jit _ _ 0) 3 _
    unfold HX11_goes_128
    refine ⟨fun _ => ?_, fun z => absurd (by decide) z⟩
    rw [bd_mk, ← mkL_app]
    exact h
  · rw [if_neg hs] at h
    show HX11_goes_128 d p s m K (jit _ _ 2) (-1) S
    unfold HX11_goes_128
    exact ⟨fun z => absurd z (by decide), fun _ => ⟨fun z => absurd z hs, fun _ => h⟩⟩
def saL (B : Int → Int) (p m f : Int) : List Int := slid B (B p % 2) f (-1) 0 m.toNat p ++ slid B (B p % 2) f 1 0 m.toNat p
theorem ns_slant1 {d p m f : Int} {K : NP} {S : NS} (hk : bok S d p) (hf : -1 ≤ f ∧ f ≤ 1) (hm : 0 ≤ m ∧ m < 1000) (h : K (mkL d p (saL (bd S d) p m f) S)) : nex (fun n => jit (HX11_goes_187 d p m f K) (fun _ => nbot) n (-1)) S := by
  refine ⟨3, ?_⟩
  have one : ∀ (rec : Int → NP) (x : Int) (S' : NS), -1 ≤ x ∧ x ≤ 1 → bok S' d p → rec (x + 2) (mkL d p (slid (bd S' d) (bd S' d p % 2) f x 0 m.toNat p) S') → HX11_goes_187 d p m f K rec x S' := by
    intro rec x S' hx hk' h'
    unfold HX11_goes_187
    refine ⟨fun z => by omega, fun _ => ?_⟩
    rw [w32_id (x := x + 2) (by omega) (by omega)]
    exact ns_alongK hk' (by omega) (by omega) hm h'
  show HX11_goes_187 d p m f K (jit _ _ 2) (-1) S
  refine one _ _ _ (by omega) hk ?_
  show HX11_goes_187 d p m f K (jit _ _ 1) 1 _
  refine one _ _ _ (by omega) (bok_mk hk _) ?_
  show HX11_goes_187 d p m f K (jit _ _ 0) 3 _
  unfold HX11_goes_187
  refine ⟨fun _ => ?_, fun z => absurd (by decide) z⟩
  rw [bd_mk, ← mkL_app]
  exact h
theorem ns_slant {d p s m : Int} {K : NP} {S : NS} (hk : bok S d p) (hm : 0 ≤ m ∧ m < 1000) (h : K (mkL d p (if s = 1 then saL (bd S d) p m (-1) ++ saL (bd S d) p m 1 else []) S)) : nex (fun n => jit (HX11_goes_172 d p s m K) (fun _ => nbot) n (-1)) S := by
  refine ⟨3, ?_⟩
  by_cases hs : s = 1
  · rw [if_pos hs] at h
    have one : ∀ (rec : Int → NP) (x : Int) (S' : NS), -1 ≤ x ∧ x ≤ 1 → bok S' d p → rec (x + 2) (mkL d p (saL (bd S' d) p m x) S') → HX11_goes_172 d p s m K rec x S' := by
      intro rec x S' hx hk' h'
      unfold HX11_goes_172
      refine ⟨fun z => by omega, fun _ => ⟨fun _ => ?_, fun z => absurd hs z⟩⟩
      rw [w32_id (x := x + 2) (by omega) (by omega)]
      exact ns_slant1 hk' hx hm h'
    show HX11_goes_172 d p s m K (jit _ _ 2) (-1) S
    refine one _ _ _ (by omega) hk ?_
    show HX11_goes_172 d p s m K (jit _ _ 1) 1 _
    refine one _ _ _ (by omega) (bok_mk hk _) ?_
    show HX11_goes_172 d p s m K (jit _ _ 0) 3 _
    unfold HX11_goes_172
    refine ⟨fun _ => ?_, fun z => absurd (by decide) z⟩
    rw [bd_mk, ← mkL_app]
    exact h
  · rw [if_neg hs] at h
    show HX11_goes_172 d p s m K (jit _ _ 2) (-1) S
    unfold HX11_goes_172
    exact ⟨fun z => absurd z (by decide), fun _ => ⟨fun z => absurd z hs, fun _ => h⟩⟩
/-- a line's squares: sort, most; ahead -/
def lnL (B : Int → Int) (p a s m : Int) : List Int :=
  (if s = 2 then slid B (B p % 2) 0 a 1 m.toNat p else []) ++ ((if s = 3 then lpF B p 5 (-2) else []) ++ ((if s = 4 then btL B p a (-1) ++ btL B p a 1 else []) ++ ((if s = 0 then stL B p m (-1) ++ stL B p m 1 else []) ++ (if s = 1 then saL B p m (-1) ++ saL B p m 1 else []))))
/-- of a kind's lines from the n-th on -/
def gsL (W : Nat → Int) (B : Int → Int) (p a k : Int) : Nat → Int → List Int
  | 0, _ => []
  | j + 1, n => lnL B p a (W (51 + 14 * k + 2 * n).toNat) (W (52 + 14 * k + 2 * n).toNat) ++ gsL W B p a k j (n + 1)
