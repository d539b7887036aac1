set_option maxRecDepth 100000
def mvP (S : NS) (d : Int) (c : Nat) : Bool := decide (¬ S 9 (1296 * d + c).toNat = 0)
/-- the moves that are marked at a depth, ascending -/
def mvs (S : NS) (d : Int) : List Nat := (List.range 1296).filter (mvP S d)
theorem ns_manyAt {d : Int} {Q : Int → NP} {S : NS} (hd : 0 ≤ d ∧ d ≤ 30) (h : Q ((mvs S d).length : Nat) S) : NX11_manyAt d Q S := by
  unfold NX11_manyAt nex
  refine ⟨1297, jit_ind2 (fun (_ c : Int) _ => (1296 - c).toNat) (fun (n c : Int) S' => S' = S ∧ 0 ≤ c ∧ c ≤ 1296 ∧ n = (((List.range c.toNat).filter (mvP S d)).length : Nat)) ?_ _ _ _ _ ⟨rfl, by omega, by omega, by simp⟩ (by decide)⟩
  rintro rec n c S' ⟨rfl, h1, h2, h3⟩ hrec
  unfold HX11_manyAt_4
  refine ⟨fun z => ?_, fun z => ?_⟩
  · have : c = 1296 := by omega
    subst this
    rw [h3]
    exact h
  · unfold nald
    rw [w32_id (x := 1296 * d) (by omega) (by omega), w32_id (x := 1296 * d + c) (by omega) (by omega)]
    refine ⟨by omega, by omega, ?_⟩
    obtain ⟨k, rfl⟩ := Int.eq_ofNat_of_zero_le h1
    have hlen : ((List.range k).filter (mvP S' d)).length ≤ k := by
      have := List.length_filter_le (mvP S' d) (List.range k)
      simpa using this
    have e : List.range ((k : Int) + 1).toNat = List.range k ++ [k] := by rw [show ((k : Int) + 1).toNat = k + 1 by omega, List.range_succ]
    rw [show ((k : Int)).toNat = k by omega] at h3
    unfold njoin nif
    refine ⟨fun y => ?_, fun y => ?_⟩
    · show rec (w32 (n + 0)) (w32 ((k : Int) + 1)) S'
      rw [w32_id (x := n + 0) (by omega) (by omega), w32_id (x := (k : Int) + 1) (by omega) (by omega)]
      refine hrec _ _ _ ⟨rfl, by omega, by omega, ?_⟩ (by omega)
      rw [e, List.filter_append, List.length_append]
      have : List.filter (mvP S' d) [k] = [] := by simp [mvP, y]
      rw [this, h3]
      simp
    · show rec (w32 (n + 1)) (w32 ((k : Int) + 1)) S'
      rw [w32_id (x := n + 1) (by omega) (by omega), w32_id (x := (k : Int) + 1) (by omega) (by omega)]
      refine hrec _ _ _ ⟨rfl, by omega, by omega, ?_⟩ (by omega)
      rw [e, List.filter_append, List.length_append]
      have : List.filter (mvP S' d) [k] = [k] := by simp [mvP, y]
      rw [this, h3]
      simp
/-- the i-th of a list of moves, or -1 -/
def nthM (l : List Nat) (i : Nat) : Int := match l[i]? with
  | some c => (c : Int)
  | none => -1
theorem ns_moveAt {d i : Int} {Q : Int → NP} {S : NS} (hd : 0 ≤ d ∧ d ≤ 30) (hi : 0 ≤ i ∧ i < 2147483648) (h : Q (nthM (mvs S d) i.toNat) S) : NX11_moveAt d i Q S := by
  unfold NX11_moveAt nex
  refine ⟨1297, jit_ind2 (fun (_ c : Int) _ => (1296 - c).toNat) (fun (n c : Int) S' => S' = S ∧ 0 ≤ c ∧ c ≤ 1296 ∧ 0 ≤ n ∧ n < 2147483648 ∧ nthM ((List.range' c.toNat (1296 - c.toNat)).filter (mvP S d)) n.toNat = nthM (mvs S d) i.toNat) ?_ _ _ _ _ ⟨rfl, by omega, by omega, by omega, by omega, by unfold mvs; rw [List.range_eq_range']; rfl⟩ (by decide)⟩
  rintro rec n c S' ⟨rfl, h1, h2, h4, h5, h3⟩ hrec
  unfold HX11_moveAt_5
  refine ⟨fun z => ?_, fun z => ?_⟩
  · have : c = 1296 := by omega
    subst this
    rw [← h3] at h
    exact h
  · unfold nald
    rw [w32_id (x := 1296 * d) (by omega) (by omega), w32_id (x := 1296 * d + c) (by omega) (by omega)]
    refine ⟨by omega, by omega, ?_⟩
    obtain ⟨k, rfl⟩ := Int.eq_ofNat_of_zero_le h1
    rw [show ((k : Int)).toNat = k by omega, show 1296 - k = (1296 - (k + 1)) + 1 by omega, List.range'_succ] at h3
    unfold njoin nif
    rw [w32_id (x := (k : Int) + 1) (by omega) (by omega)]
    refine ⟨fun y => ?_, fun y => ?_⟩
    · rw [List.filter_cons_of_neg (by simp [mvP, y])] at h3
      refine hrec _ _ _ ⟨rfl, by omega, by omega, h4, h5, ?_⟩ (by omega)
      rw [show ((k : Int) + 1).toNat = k + 1 by omega]
      exact h3
    · rw [List.filter_cons_of_pos (by simp [mvP, y])] at h3
      refine ⟨fun x => ?_, fun x => ?_⟩
      · subst x
        rw [← h3] at h
        exact h
      · rw [w32_id (x := n + -1) (by omega) (by omega)]
        refine hrec _ _ _ ⟨rfl, by omega, by omega, by omega, by omega, ?_⟩ (by omega)
        rw [show ((k : Int) + 1).toNat = k + 1 by omega, ← h3]
        obtain ⟨j, hj⟩ : ∃ j, n.toNat = j + 1 := ⟨n.toNat - 1, by omega⟩
        rw [hj, show (n + -1).toNat = j by omega]
        rfl
