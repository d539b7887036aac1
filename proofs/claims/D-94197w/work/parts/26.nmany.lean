set_option maxRecDepth 100000
def mvP (S : NS) (d : Int) (c : Nat) : Bool := decide (¬ S 9 (1296 * d + c).toNat = 0)
/-- the moves that are marked at a depth, ascending -/
def mvs (S : NS) (d : Int) : List Nat := (List.range 1296).filter (mvP S d)
theorem ns_manyAt {d : Int} {Q : Int → NP} {S : NS} (hd : 0 ≤ d ∧ d ≤ 30) (h : Q ((mvs S d).length : Nat) S) : NX11_manyAt d Q S := by
  unfold NX11_manyAt nex
  refine ⟨1297, jit_ind2 (fun (_ c : Int) _ => (1296 - c).toNat) (fun (n c : Int) S' => S' = S ∧ 0 ≤ c ∧ c ≤ 1296 ∧ n = (((List.range c.toNat).filter (mvP S d)).length : Nat)) ?_ _ _ _ _ ⟨rfl, by omega, by omega, by simp⟩ (by decide)⟩
  rintro rec n c S' ⟨rfl, h1, h2, h3⟩ hrec
  unfold HX11_manyAt_4
  refine ⟨fun z => ?_, fun z => ?_⟩
  · have : c = 1296 := by omega
    subst this
    rw [h3]
    exact h
  · unfold nald
    rw [w32_id (x := 1296 * d) (by omega) (by omega), w32_id (x := 1296 * d + c) (by omega) (by omega)]
    refine ⟨by omega, by omega, ?_⟩
    obtain ⟨k, rfl⟩ := Int.eq_ofNat_of_zero_le h1
    have hlen : ((List.range k).filter (mvP S' d)).length ≤ k := by
      have := List.length_filter_le (mvP S' d) (List.range k)
      simpa using this
    have e : List.range ((k : Int) + 1).toNat = List.range k ++ [k] := by rw [show ((k : Int) + 1).toNat = k + 1 by omega, List.range_succ]
    rw [show ((k : Int)).toNat = k by omega] at h3
    unfold njoin nif
    refine ⟨fun y => ?_, fun y => ?_⟩
    · show rec (w32 (n + 0)) (w32 ((k : Int) + 1)) S'
      rw [w32_id (x := n + 0) (by omega) (by omega), w32_id (x := (k : Int) + 1) (by omega) (by omega)]
      refine hrec _ _ _ ⟨rfl, by omega, by omega, ?_⟩ (by omega)
      rw [e, List.filter_append, List.length_append]
      have : List.filter (mvP S' d) [k] = [] := by simp [mvP, y]
      rw [this, h3]
      simp
    · show rec (w32 (n + 1)) (w32 ((k : Int) + 1)) S'
      rw [w32_id (x := n + 1) (by omega) (by omega), w32_id (x := (k : Int) + 1) (by omega) (by omega)]
      refine hrec _ _ _ ⟨rfl, by omega, by omega, ?_⟩ (by omega)
      rw [e, List.filter_append, List.length_append]
      have : List.filter (mvP S' d) [k] = [k] := by simp [mvP, y]
      rw [this, h3]
      simp
