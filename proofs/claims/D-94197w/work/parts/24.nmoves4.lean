set_option maxRecDepth 100000
def ahead (x : Int) : Int := if x % 2 = 0 then 1 else -1
/-- the kinds as the world's row has them are in their bounds -/
def kok (W : Nat → Int) (k : Int) : Prop := (0 ≤ k ∧ k < 5) ∧ (0 ≤ W (50 + 14 * k).toNat ∧ W (50 + 14 * k).toNat ≤ 6) ∧ ∀ n : Int, 0 ≤ n → n < W (50 + 14 * k).toNat → 0 ≤ W (52 + 14 * k + 2 * n).toNat ∧ W (52 + 14 * k + 2 * n).toNat < 1000
theorem mkL_1 {d p : Int} (l : List Int) (S : NS) : mkL d p l S 1 = S 1 := funext fun k => mkL_ne l S k (by decide)
theorem ns_goesM {d p : Int} {Q : NP} {S : NS} (hk : bok S d p) (hw : kok (S 1) (bd S d p / 2)) (h : Q (mkL d p (gsL (S 1) (bd S d) p (ahead (bd S d p)) (bd S d p / 2) (S 1 (50 + 14 * (bd S d p / 2)).toNat).toNat 0) S)) : NX11_goes d p Q S := by
  unfold NX11_goes
  obtain ⟨hd, hp, hB, hpB⟩ := id hk
  have hb := hB p hp.1 hp.2
  refine ns_at hd hp ?_
  show NX11_sideOf (bd S d p) _ S
  have key : ∀ a : Int, a = ahead (bd S d p) → nex (fun n35 => jit (HX11_goes_35 d p Q (bd S d p) a) (fun _ => nbot) n35 0) S := by
    intro a ha
    have haa : -1 ≤ a ∧ a ≤ 1 := by subst ha; unfold ahead; split <;> omega
    subst ha
    generalize hbk : bd S d p / 2 = k at *
    obtain ⟨⟨k1, k2⟩, ⟨c1, c2⟩, hmost⟩ := hw
    generalize hcnt : S 1 (50 + 14 * k).toNat = cnt at *
    refine ⟨cnt.toNat + 1, jit_ind1 (fun n _ => (cnt - n).toNat) (fun n S' => 0 ≤ n ∧ n ≤ cnt ∧ bok S' d p ∧ bd S' d = bd S d ∧ S' 1 = S 1 ∧ Q (mkL d p (gsL (S 1) (bd S d) p (ahead (bd S d p)) k (cnt - n).toNat n) S')) ?_ _ _ _ ⟨by omega, by omega, hk, rfl, rfl, by simpa using h⟩ (by omega)⟩
    rintro rec n S' ⟨g1, g2, g3, g4, g5, g6⟩ hrec
    unfold HX11_goes_35 nald
    rw [tdiv_pos (by omega), hbk, w32_id (x := k) (by omega) (by omega), w32_id (x := 14 * k) (by omega) (by omega), w32_id (x := 49 + 14 * k) (by omega) (by omega), w32_id (x := 49 + 14 * k + 1) (by omega) (by omega)]
    have e1 : S' 1 (49 + 14 * k + 1).toNat = cnt := by rw [g5, ← hcnt]; congr 1; omega
    rw [e1]
    refine ⟨by omega, by omega, fun z => ?_, fun z => ?_⟩
    · rw [show (cnt - n).toNat = 0 by omega] at g6
      exact g6
    · obtain ⟨j, hj⟩ : ∃ j, (cnt - n).toNat = j + 1 := ⟨(cnt - n).toNat - 1, by omega⟩
      rw [hj] at g6
      unfold gsL at g6
      rw [mkL_app] at g6
      obtain ⟨m1, m2⟩ := hmost n g1 (by omega)
      rw [w32_id (x := 49 + 14 * k + 2) (by omega) (by omega), w32_id (x := 2 * n) (by omega) (by omega), w32_id (x := 49 + 14 * k + 2 + 2 * n) (by omega) (by omega), w32_id (x := 49 + 14 * k + 3) (by omega) (by omega), w32_id (x := 49 + 14 * k + 3 + 2 * n) (by omega) (by omega)]
      refine ⟨by omega, by omega, by omega, by omega, ?_⟩
      have e2 : S' 1 (49 + 14 * k + 2 + 2 * n).toNat = S 1 (51 + 14 * k + 2 * n).toNat := by rw [g5]; congr 1; omega
      have e3 : S' 1 (49 + 14 * k + 3 + 2 * n).toNat = S 1 (52 + 14 * k + 2 * n).toNat := by rw [g5]; congr 1; omega
      rw [e2, e3]
      generalize S 1 (51 + 14 * k + 2 * n).toNat = s at *
      generalize S 1 (52 + 14 * k + 2 * n).toNat = m at *
      rw [w32_id (x := n + 1) (by omega) (by omega)]
      unfold lnL at g6
      rw [mkL_app, mkL_app, mkL_app, mkL_app] at g6
      have go5 : ∀ S2, bok S2 d p → bd S2 d = bd S d → S2 1 = S 1 → Q (mkL d p (gsL (S 1) (bd S d) p (ahead (bd S d p)) k j (n + 1)) S2) → rec (n + 1) S2 := fun S2 q1 q2 q3 q4 => hrec _ _ ⟨by omega, by omega, q1, q2, q3, by rw [show (cnt - (n + 1)).toNat = j by omega]; exact q4⟩ (by omega)
      have go4 : ∀ S2, bok S2 d p → bd S2 d = bd S d → S2 1 = S 1 → Q (mkL d p (gsL (S 1) (bd S d) p (ahead (bd S d p)) k j (n + 1)) (mkL d p (if s = 1 then saL (bd S d) p m (-1) ++ saL (bd S d) p m 1 else []) (mkL d p (if s = 0 then stL (bd S d) p m (-1) ++ stL (bd S d) p m 1 else []) S2))) → nex (fun n128 => jit (HX11_goes_128 d p s m (nex fun n172 => jit (HX11_goes_172 d p s m (rec (n + 1))) (fun _ => nbot) n172 (-1))) (fun _ => nbot) n128 (-1)) S2 := by
        intro S2 q1 q2 q3 q4
        refine ns_straight q1 ⟨m1, m2⟩ ?_
        refine ns_slant (bok_mk q1 _) ⟨m1, m2⟩ ?_
        rw [bd_mk, q2]
        exact go5 _ (bok_mk (bok_mk q1 _) _) (by rw [bd_mk, bd_mk]; exact q2) (by rw [mkL_1, mkL_1]; exact q3) q4
      have go3 : ∀ S2, bok S2 d p → bd S2 d = bd S d → S2 1 = S 1 → Q (mkL d p (gsL (S 1) (bd S d) p (ahead (bd S d p)) k j (n + 1)) (mkL d p (if s = 1 then saL (bd S d) p m (-1) ++ saL (bd S d) p m 1 else []) (mkL d p (if s = 0 then stL (bd S d) p m (-1) ++ stL (bd S d) p m 1 else []) (mkL d p (if s = 4 then btL (bd S d) p (ahead (bd S d p)) (-1) ++ btL (bd S d) p (ahead (bd S d p)) 1 else []) S2)))) → nif (s = 4) (NX11_bites d p (ahead (bd S d p)) (nex fun n128 => jit (HX11_goes_128 d p s m (nex fun n172 => jit (HX11_goes_172 d p s m (rec (n + 1))) (fun _ => nbot) n172 (-1))) (fun _ => nbot) n128 (-1))) (nex fun n128 => jit (HX11_goes_128 d p s m (nex fun n172 => jit (HX11_goes_172 d p s m (rec (n + 1))) (fun _ => nbot) n172 (-1))) (fun _ => nbot) n128 (-1)) S2 := by
        intro S2 q1 q2 q3 q4
        refine ⟨fun z => ?_, fun z => ?_⟩
        · rw [if_pos z] at q4
          refine ns_bites q1 haa ?_
          rw [q2]
          exact go4 _ (bok_mk q1 _) (by rw [bd_mk]; exact q2) (by rw [mkL_1]; exact q3) q4
        · rw [if_neg z] at q4
          exact go4 S2 q1 q2 q3 q4
      unfold njoin
      refine ⟨fun z => ?_, fun z => ?_⟩
      · have n3 : ¬ s = 3 := by omega
        rw [if_pos z, if_neg n3] at g6
        refine ns_alongK g3 (by omega) (by omega) ⟨m1, m2⟩ ?_
        rw [g4]
        exact ⟨fun y => absurd y n3, fun _ => go3 _ (bok_mk g3 _) (by rw [bd_mk]; exact g4) (by rw [mkL_1]; exact g5) g6⟩
      · rw [if_neg z] at g6
        refine ⟨fun y => ?_, fun y => ?_⟩
        · rw [if_pos y] at g6
          refine ns_leaps g3 ?_
          rw [g4]
          exact go3 _ (bok_mk g3 _) (by rw [bd_mk]; exact g4) (by rw [mkL_1]; exact g5) g6
        · rw [if_neg y] at g6
          exact go3 S' g3 g4 g5 g6
  refine ns_sideOf hpB (by omega) ?_
  unfold njoin
  refine ⟨fun z => key 1 (by unfold ahead; rw [if_pos z]), fun z => key (-1) (by unfold ahead; rw [if_neg z])⟩
