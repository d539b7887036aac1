set_option maxRecDepth 100000
/-- all moves of a side are marked, from square q on -/
def fnS (W : Nat → Int) (B : Int → Int) (d sd : Int) : Nat → Int → NS → NS
  | 0, _, S => S
  | j + 1, q, S => fnS W B d sd j (q + 1) (if 0 ≤ B q ∧ B q % 2 = sd then mkL d q (gsL W B q (ahead (B q)) (B q / 2) (W (50 + 14 * (B q / 2)).toNat).toNat 0) S else S)
/-- the first c codes of a depth are cleared -/
def clr (S : NS) (d c : Int) : NS := fun a k => if a = 9 ∧ 1296 * d.toNat ≤ k ∧ k < 1296 * d.toNat + c.toNat then 0 else S a k
theorem clr_ne {S : NS} {d c : Int} {a : Nat} (h : a ≠ 9) : clr S d c a = S a := funext fun k => by unfold clr; rw [if_neg (fun z => h z.1)]
theorem bd_of {S S' : NS} (h : S' 8 = S 8) (d : Int) : bd S' d = bd S d := by funext q; unfold bd; rw [h]
/-- a board at a depth, and the kinds of its men -/
def dok (S : NS) (d : Int) : Prop := (0 ≤ d ∧ d ≤ 30) ∧ (∀ q, 0 ≤ q → q < 36 → -1 ≤ bd S d q ∧ bd S d q < 1000) ∧ ∀ q, 0 ≤ q → q < 36 → 0 ≤ bd S d q → kok (S 1) (bd S d q / 2)
theorem ns_finds {d sd : Int} {Q : NP} {S : NS} (hk : dok S d) (h : Q (fnS (S 1) (bd S d) d sd 36 0 (clr S d 1296))) : NX11_finds d sd Q S := by
  obtain ⟨hd, hB, hW⟩ := hk
  unfold NX11_finds nex
  refine ⟨1297, jit_ind1 (fun c _ => (1296 - c).toNat) (fun c S' => 0 ≤ c ∧ c ≤ 1296 ∧ S' = clr S d c) ?_ _ _ _ ⟨by omega, by omega, ?_⟩ (by decide)⟩
  · rintro rec c S' ⟨h1, h2, rfl⟩ hrec
    unfold HX11_finds_2
    refine ⟨fun z => ?_, fun z => ?_⟩
    · have : c = 1296 := by omega
      subst this
      refine ⟨37, jit_ind1 (fun q _ => (36 - q).toNat) (fun q S' => 0 ≤ q ∧ q ≤ 36 ∧ S' 8 = S 8 ∧ S' 1 = S 1 ∧ Q (fnS (S 1) (bd S d) d sd (36 - q).toNat q S')) ?_ _ _ _ ⟨by omega, by omega, clr_ne (by decide), clr_ne (by decide), h⟩ (by decide)⟩
      rintro rec2 q S' ⟨g1, g2, g3, g4, g5⟩ hrec2
      unfold HX11_finds_30
      refine ⟨fun y => ?_, fun y => ?_⟩
      · have : q = 36 := by omega
        subst this
        exact g5
      · obtain ⟨j, hj⟩ : ∃ j, (36 - q).toNat = j + 1 := ⟨(36 - q).toNat - 1, by omega⟩
        rw [hj] at g5
        unfold fnS at g5
        have eb := bd_of g3 d
        have e1 : S' 8 (36 * d + q).toNat = bd S d q := by rw [← eb]; rfl
        refine ns_at hd ⟨g1, by omega⟩ ?_
        rw [e1]
        unfold njoin
        rw [w32_id (x := q + 1) (by omega) (by omega)]
        obtain ⟨b1, b2⟩ := hB q g1 (by omega)
        have go : ∀ S2, S2 8 = S 8 → S2 1 = S 1 → Q (fnS (S 1) (bd S d) d sd j (q + 1) S2) → rec2 (q + 1) S2 := fun S2 q1 q2 q3 => hrec2 _ _ ⟨by omega, by omega, q1, q2, by rw [show (36 - (q + 1)).toNat = j by omega]; exact q3⟩ (by omega)
        refine ⟨fun x => ?_, fun x => ?_⟩
        · rw [if_neg (fun q => by omega)] at g5
          exact go S' g3 g4 g5
        · refine ns_at hd ⟨g1, by omega⟩ ?_
          rw [e1]
          refine ns_sideOf (by omega) (by omega) ⟨fun w => ?_, fun w => ?_⟩
          · rw [if_pos ⟨by omega, w⟩] at g5
            refine ns_goesM ⟨hd, ⟨g1, by omega⟩, by rw [eb]; exact hB, by rw [eb]; omega⟩ (by rw [eb, g4]; exact hW q g1 (by omega) (by omega)) ?_
            rw [eb, g4]
            refine go _ (by rw [← g3]; exact funext fun k => mkL_ne _ _ _ (by decide)) (by rw [mkL_1]; exact g4) g5
          · rw [if_neg (fun z => w z.2)] at g5
            exact go S' g3 g4 g5
    · unfold nast
      rw [w32_id (x := 1296 * d) (by omega) (by omega), w32_id (x := 1296 * d + c) (by omega) (by omega), w32_id (x := c + 1) (by omega) (by omega), show mnZ 0 = 0 by decide]
      refine ⟨by omega, by omega, hrec _ _ ⟨by omega, by omega, ?_⟩ (by omega)⟩
      funext a k
      unfold up2 clr
      by_cases ha : a = 9
      · subst ha
        by_cases hc : k = (1296 * d + c).toNat
        · rw [if_pos ⟨rfl, hc⟩, if_pos ⟨rfl, by omega, by omega⟩]
        · rw [if_neg (fun z => hc z.2)]
          by_cases hi : 1296 * d.toNat ≤ k ∧ k < 1296 * d.toNat + c.toNat
          · rw [if_pos ⟨rfl, hi⟩, if_pos ⟨rfl, by omega, by omega⟩]
          · rw [if_neg (fun z => hi z.2), if_neg (fun z => hi ⟨z.2.1, by omega⟩)]
      · rw [if_neg (fun z => ha z.1), if_neg (fun z => ha z.1), if_neg (fun z => ha z.1)]
  · funext a k
    unfold clr
    rw [if_neg (by omega)]
