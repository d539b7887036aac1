set_option maxRecDepth 100000
/-! which squares a line of a kind marks -/
def slid (B : Int → Int) (sd f r : Int) (e : Int) : Nat → Int → List Int
  | 0, _ => []
  | k + 1, s => if offZ s f r < 0 then [] else if B (offZ s f r) < 0 then offZ s f r :: slid B sd f r e k (offZ s f r) else if e = 0 ∧ ¬ B (offZ s f r) % 2 = sd then [offZ s f r] else []
def mkL (d p : Int) : List Int → NS → NS
  | [], S => S
  | t :: l, S => mkL d p l (up2 S 9 (1296 * d + 36 * p + t).toNat 1)
theorem mkL_ne {d p : Int} : ∀ (l : List Int) (S : NS) {a : Nat} (k : Nat), a ≠ 9 → mkL d p l S a k = S a k
  | [], _, _, _, _ => rfl
  | t :: l, S, a, k, h => by
    unfold mkL
    rw [mkL_ne l _ k h, up2_ne1 _ _ _ _ h]
theorem offZ_lt (s f r : Int) : offZ s f r < 36 := by unfold offZ; split <;> omega
theorem offZ_ge (s f r : Int) : -1 ≤ offZ s f r := by unfold offZ; split <;> omega
def bd (S : NS) (d : Int) (q : Int) : Int := S 8 (36 * d + q).toNat
theorem bd_mk (d p : Int) (l : List Int) (S : NS) (d2 : Int) : bd (mkL d p l S) d2 = bd S d2 := by
  funext q
  exact mkL_ne l S _ (by decide)
theorem ns_along {d p f r m e : Int} {Q : NP} {S : NS} (hd : 0 ≤ d ∧ d ≤ 30) (hp : 0 ≤ p ∧ p < 36) (hf : -10 ≤ f ∧ f ≤ 10) (hr : -10 ≤ r ∧ r ≤ 10) (hm : 0 ≤ m ∧ m < 1000) (hB : ∀ q, 0 ≤ q → q < 36 → -1 ≤ bd S d q ∧ bd S d q < 1000) (hpB : 0 ≤ bd S d p) (h : Q (mkL d p (slid (bd S d) (bd S d p % 2) f r e m.toNat p) S)) : NX11_along d p f r m e Q S := by
  unfold NX11_along nex
  refine ⟨m.toNat + 1, jit_ind2 (fun _ k _ => (m - k).toNat) (fun s k S' => 0 ≤ k ∧ k ≤ m ∧ 0 ≤ s ∧ s < 36 ∧ bd S' d = bd S d ∧ Q (mkL d p (slid (bd S d) (bd S d p % 2) f r e (m - k).toNat s) S')) ?_ _ _ _ _ ⟨by omega, by omega, by omega, by omega, rfl, by simpa using h⟩ (by omega)⟩
  rintro rec s k S' ⟨h1, h2, h3, h4, h5, h6⟩ hrec
  unfold HX11_along_6
  refine ⟨fun z => ?_, fun z => ?_⟩
  · have : (m - k).toNat = 0 := by omega
    rw [this] at h6
    exact h6
  · obtain ⟨j, hj⟩ : ∃ j, (m - k).toNat = j + 1 := ⟨(m - k).toNat - 1, by omega⟩
    rw [hj] at h6
    unfold slid at h6
    refine ns_off ⟨h3, h4⟩ hf hr ⟨fun y => ?_, fun y => ?_⟩
    · have ht := offZ_lt s f r
      rw [if_neg (by omega)] at h6
      generalize offZ s f r = t at *
      refine ns_at hd ⟨y, ht⟩ ?_
      show njoin _ _ S'
      have e1 : S' 8 (36 * d + t).toNat = bd S d t := by rw [← h5]; rfl
      rw [e1]
      obtain ⟨b1, b2⟩ := hB t y ht
      have go : ∀ S'', bd S'' d = bd S d → Q (mkL d p (if bd S d t < 0 then slid (bd S d) (bd S d p % 2) f r e j t else []) S'') → nif (bd S d t < 0) (rec t (w32 (k + 1))) Q S'' := by
        intro S'' g1 g2
        rw [w32_id (by omega) (by omega)]
        refine ⟨fun x => ?_, fun x => ?_⟩
        · rw [if_pos x] at g2
          exact hrec _ _ _ ⟨by omega, by omega, y, ht, g1, by rw [show (m - (k + 1)).toNat = j by omega]; exact g2⟩ (by omega)
        · rw [if_neg x] at g2
          exact g2
      have mark : Q (mkL d p (t :: (if bd S d t < 0 then slid (bd S d) (bd S d p % 2) f r e j t else [])) S') → NX11_may d p t (nif (bd S d t < 0) (rec t (w32 (k + 1))) Q) S' := by
        intro g
        refine ns_may hd hp ⟨y, ht⟩ (go _ ?_ g)
        rw [← h5]
        exact bd_mk d p [t] S' d
      unfold njoin nif
      refine ⟨fun x => mark ?_, fun x => ⟨fun x2 => ?_, fun x2 => ?_⟩⟩
      · rw [if_pos x] at h6 ⊢
        exact h6
      · rw [if_neg x] at h6
        refine ns_sideOf (by omega) (by omega) (ns_at hd hp ?_)
        have e2 : S' 8 (36 * d + p).toNat = bd S d p := by rw [← h5]; rfl
        rw [e2]
        have b3 := hB p hp.1 hp.2
        refine ns_sideOf (by omega) (by omega) ⟨fun x3 => ?_, fun x3 => ?_⟩
        · rw [if_neg (fun q => q.2 x3)] at h6
          exact go S' h5 (by rw [if_neg x]; exact h6)
        · rw [if_pos ⟨x2, x3⟩] at h6
          exact mark (by rw [if_neg x]; exact h6)
      · rw [if_neg x, if_neg (fun q => x2 q.1)] at h6
        exact go S' h5 (by rw [if_neg x]; exact h6)
    · rw [if_pos (by omega)] at h6
      exact h6
