set_option maxRecDepth 100000
theorem mkL_app {d p : Int} : ∀ (l1 l2 : List Int) (S : NS), mkL d p (l1 ++ l2) S = mkL d p l2 (mkL d p l1 S)
  | [], _, _ => rfl
  | t :: l, l2, S => mkL_app l l2 _
/-- what holds of the board at a depth all through the marking -/
def bok (S : NS) (d p : Int) : Prop := (0 ≤ d ∧ d ≤ 30) ∧ (0 ≤ p ∧ p < 36) ∧ (∀ q, 0 ≤ q → q < 36 → -1 ≤ bd S d q ∧ bd S d q < 1000) ∧ 0 ≤ bd S d p
theorem bok_mk {S : NS} {d p : Int} (h : bok S d p) (l : List Int) : bok (mkL d p l S) d p := by
  unfold bok at *
  rw [bd_mk]
  exact h
theorem ns_alongK {d p f r m e : Int} {Q : NP} {S : NS} (hk : bok S d p) (hf : -10 ≤ f ∧ f ≤ 10) (hr : -10 ≤ r ∧ r ≤ 10) (hm : 0 ≤ m ∧ m < 1000) (h : Q (mkL d p (slid (bd S d) (bd S d p % 2) f r e m.toNat p) S)) : NX11_along d p f r m e Q S := ns_along hk.1 hk.2.1 hf hr hm hk.2.2.1 hk.2.2.2 h
/-- a leap's squares -/
def lpR (B : Int → Int) (p f : Int) : Nat → Int → List Int
  | 0, _ => []
  | n + 1, r => (if f * f + r * r = 5 then slid B (B p % 2) f r 0 1 p else []) ++ lpR B p f n (r + 1)
def lpF (B : Int → Int) (p : Int) : Nat → Int → List Int
  | 0, _ => []
  | n + 1, f => lpR B p f 5 (-2) ++ lpF B p n (f + 1)
theorem sq_le {f : Int} (h : -2 ≤ f ∧ f ≤ 2) : 0 ≤ f * f ∧ f * f ≤ 4 := by
  have : f = -2 ∨ f = -1 ∨ f = 0 ∨ f = 1 ∨ f = 2 := by omega
  rcases this with rfl | rfl | rfl | rfl | rfl <;> decide
theorem ns_leaps {d p : Int} {Q : NP} {S : NS} (hk : bok S d p) (h : Q (mkL d p (lpF (bd S d) p 5 (-2)) S)) : NX11_leaps d p Q S := by
  unfold NX11_leaps nex
  refine ⟨6, jit_ind1 (fun f _ => (3 - f).toNat) (fun f S' => -2 ≤ f ∧ f ≤ 3 ∧ bok S' d p ∧ bd S' d = bd S d ∧ Q (mkL d p (lpF (bd S d) p (3 - f).toNat f) S')) ?_ _ _ _ ⟨by omega, by omega, hk, rfl, h⟩ (by decide)⟩
  rintro rec f S' ⟨h1, h2, h3, h4, h5⟩ hrec
  unfold HX11_leaps_3
  refine ⟨fun z => ?_, fun z => ?_⟩
  · have : f = 3 := by omega
    subst this
    exact h5
  · obtain ⟨j, hj⟩ : ∃ j, (3 - f).toNat = j + 1 := ⟨(3 - f).toNat - 1, by omega⟩
    rw [hj] at h5
    unfold lpF at h5
    rw [mkL_app] at h5
    have hff := sq_le (f := f) (by omega)
    refine ⟨6, jit_ind1 (fun r _ => (3 - r).toNat) (fun r S'' => -2 ≤ r ∧ r ≤ 3 ∧ bok S'' d p ∧ bd S'' d = bd S d ∧ Q (mkL d p (lpF (bd S d) p j (f + 1)) (mkL d p (lpR (bd S d) p f (3 - r).toNat r) S''))) ?_ _ _ _ ⟨by omega, by omega, h3, h4, h5⟩ (by decide)⟩
    rintro rec2 r S'' ⟨g1, g2, g3, g4, g5⟩ hrec2
    unfold HX11_leaps_12
    refine ⟨fun y => ?_, fun y => ?_⟩
    · have : r = 3 := by omega
      subst this
      rw [w32_id (by omega) (by omega)]
      exact hrec _ _ ⟨by omega, by omega, g3, g4, by rw [show (3 - (f + 1)).toNat = j by omega]; exact g5⟩ (by omega)
    · obtain ⟨i, hi⟩ : ∃ i, (3 - r).toNat = i + 1 := ⟨(3 - r).toNat - 1, by omega⟩
      rw [hi] at g5
      unfold lpR at g5
      rw [mkL_app] at g5
      have hrr := sq_le (f := r) (by omega)
      unfold njoin nif
      rw [w32_id (x := f * f) (by omega) (by omega), w32_id (x := r * r) (by omega) (by omega), w32_id (x := f * f + r * r) (by omega) (by omega), w32_id (x := r + 1) (by omega) (by omega)]
      refine ⟨fun x => ?_, fun x => ?_⟩
      · rw [if_pos x] at g5
        refine ns_alongK g3 (by omega) (by omega) (by omega) ?_
        rw [g4]
        exact hrec2 _ _ ⟨by omega, by omega, bok_mk g3 _, by rw [bd_mk]; exact g4, by rw [show (3 - (r + 1)).toNat = i by omega]; exact g5⟩ (by omega)
      · rw [if_neg x] at g5
        exact hrec2 _ _ ⟨by omega, by omega, g3, g4, by rw [show (3 - (r + 1)).toNat = i by omega]; exact g5⟩ (by omega)
/-- a bite's squares -/
def btL (B : Int → Int) (p a x : Int) : List Int := if offZ p x a < 0 then [] else if B (offZ p x a) < 0 then [] else slid B (B p % 2) x a 0 1 p
theorem ns_bite1 {d p a x : Int} {Q : NP} {rec : Int → NP} {S : NS} (hk : bok S d p) (ha : -1 ≤ a ∧ a ≤ 1) (hx : -1 ≤ x ∧ x ≤ 1) (h : rec (x + 2) (mkL d p (btL (bd S d) p a x) S)) : HX11_bites_3 d p a Q rec x S := by
  unfold HX11_bites_3
  refine ⟨fun z => by omega, fun z => ?_⟩
  refine ns_off hk.2.1 (by omega) (by omega) ?_
  unfold njoin nif
  rw [w32_id (x := x + 2) (by omega) (by omega)]
  unfold btL at h
  have ht := offZ_lt p x a
  generalize offZ p x a = t at *
  refine ⟨fun y => ?_, fun y => ?_⟩
  · rw [if_pos y] at h
    exact h
  · rw [if_neg y] at h
    refine ns_at hk.1 ⟨by omega, ht⟩ ?_
    show (bd S d t < 0 → _) ∧ _
    refine ⟨fun w => ?_, fun w => ?_⟩
    · have w : bd S d t < 0 := w
      rw [if_pos w] at h
      exact h
    · have w : ¬ bd S d t < 0 := w
      rw [if_neg w] at h
      exact ns_alongK hk (by omega) (by omega) (by omega) h
theorem ns_bites {d p a : Int} {Q : NP} {S : NS} (hk : bok S d p) (ha : -1 ≤ a ∧ a ≤ 1) (h : Q (mkL d p (btL (bd S d) p a (-1) ++ btL (bd S d) p a 1) S)) : NX11_bites d p a Q S := by
  unfold NX11_bites nex
  refine ⟨3, ?_⟩
  show HX11_bites_3 d p a Q (jit (HX11_bites_3 d p a Q) (fun _ => nbot) 2) (-1) S
  refine ns_bite1 hk ha (by omega) ?_
  show HX11_bites_3 d p a Q (jit (HX11_bites_3 d p a Q) (fun _ => nbot) 1) 1 _
  refine ns_bite1 (bok_mk hk _) ha (by omega) ?_
  show HX11_bites_3 d p a Q (jit (HX11_bites_3 d p a Q) (fun _ => nbot) 0) 3 _
  rw [bd_mk]
  unfold HX11_bites_3
  refine ⟨fun _ => ?_, fun z => absurd (by decide) z⟩
  rw [← mkL_app]
  exact h
