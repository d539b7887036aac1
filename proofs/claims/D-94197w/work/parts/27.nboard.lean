set_option maxRecDepth 100000
/-- a stretch of an array is laid anew -/
def lay (S : NS) (a lo n : Nat) (f : Nat → Int) : NS := fun b k => if b = a ∧ lo ≤ k ∧ k < lo + n then f (k - lo) else S b k
theorem lay_0 (S : NS) (a lo : Nat) (f : Nat → Int) : lay S a lo 0 f = S := by
  funext b k
  unfold lay
  rw [if_neg (by omega)]
theorem lay_s (S : NS) (a lo n : Nat) (f : Nat → Int) : up2 (lay S a lo n f) a (lo + n) (f n) = lay S a lo (n + 1) f := by
  funext b k
  show (if b = a ∧ k = lo + n then f n else if b = a ∧ lo ≤ k ∧ k < lo + n then f (k - lo) else S b k) = (if b = a ∧ lo ≤ k ∧ k < lo + (n + 1) then f (k - lo) else S b k)
  by_cases h1 : b = a
  · subst h1
    by_cases h2 : k = lo + n
    · subst h2
      rw [if_pos ⟨rfl, rfl⟩, if_pos ⟨rfl, by omega, by omega⟩]
      congr 1
      omega
    · rw [if_neg (fun z => h2 z.2)]
      by_cases h3 : lo ≤ k ∧ k < lo + n
      · rw [if_pos ⟨rfl, h3⟩, if_pos ⟨rfl, by omega, by omega⟩]
      · rw [if_neg (fun z => h3 z.2), if_neg (fun z => h3 ⟨z.2.1, by omega⟩)]
  · rw [if_neg (fun z => h1 z.1), if_neg (fun z => h1 z.1), if_neg (fun z => h1 z.1)]
theorem lay_ne {S : NS} {a lo n b : Nat} {f : Nat → Int} (h : b ≠ a) : lay S a lo n f b = S b := by
  funext k
  unfold lay
  rw [if_neg (fun z => h z.1)]
theorem ns_begins {Q : NP} {S : NS} (h : Q (lay S 8 0 36 (fun k => S 1 (13 + k)))) : NX11_begins Q S := by
  unfold NX11_begins nex
  refine ⟨37, jit_ind1 (fun (c : Int) _ => (36 - c).toNat) (fun (c : Int) S' => 0 ≤ c ∧ c ≤ 36 ∧ S' = lay S 8 0 c.toNat (fun k => S 1 (13 + k))) ?_ _ _ _ ⟨by omega, by omega, (lay_0 _ _ _ _).symm⟩ (by decide)⟩
  rintro rec c S' ⟨h1, h2, rfl⟩ hrec
  unfold HX11_begins_2
  refine ⟨fun z => ?_, fun z => ?_⟩
  · have : c = 36 := by omega
    subst this
    exact h
  · unfold nald nast
    rw [w32_id (x := 13 + c) (by omega) (by omega), w32_id (x := c + 1) (by omega) (by omega)]
    refine ⟨by omega, by omega, by omega, by omega, hrec _ _ ⟨by omega, by omega, ?_⟩ (by omega)⟩
    rw [lay_ne (by decide)]
    have := lay_s S 8 0 c.toNat (fun k => S 1 (13 + k))
    rw [show (c + 1).toNat = c.toNat + 1 by omega, ← this]
    congr 1
    · omega
    · show S 1 _ = S 1 _
      congr 1
      omega
/-- the board behind a move -/
def mvB (B : Int → Int) (c : Int) (q : Int) : Int := if q = c / 36 then -1 else if q = c % 36 then B (c / 36) else B q
theorem ns_makes {d c : Int} {Q : NP} {S : NS} (hd : 0 ≤ d ∧ d < 30) (hc : 0 ≤ c ∧ c < 1296) (h : Q (up2 (up2 (lay S 8 (36 * (d + 1)).toNat 36 (fun k => S 8 (36 * d.toNat + k))) 8 (36 * (d + 1) + c % 36).toNat (S 8 (36 * d + c / 36).toNat)) 8 (36 * (d + 1) + c / 36).toNat (-1))) : NX11_makes d c Q S := by
  unfold NX11_makes nex
  rw [tdiv_pos hc.1, tmod_pos hc.1]
  refine ⟨37, jit_ind1 (fun (i : Int) _ => (36 - i).toNat) (fun (i : Int) S' => 0 ≤ i ∧ i ≤ 36 ∧ S' = lay S 8 (36 * (d + 1)).toNat i.toNat (fun k => S 8 (36 * d.toNat + k))) ?_ _ _ _ ⟨by omega, by omega, (lay_0 _ _ _ _).symm⟩ (by decide)⟩
  rintro rec i S' ⟨h1, h2, rfl⟩ hrec
  have hold : ∀ (n : Nat) (q : Int), 0 ≤ q → q < 36 → lay S 8 (36 * (d + 1)).toNat n (fun k => S 8 (36 * d.toNat + k)) 8 (36 * d + q).toNat = S 8 (36 * d + q).toNat := fun n q q1 q2 => by
    show (if _ then _ else _) = _
    rw [if_neg (by omega)]
  unfold HX11_makes_2
  rw [w32_id (x := d + 1) (by omega) (by omega), w32_id (x := 36 * (d + 1)) (by omega) (by omega), w32_id (x := c / 36) (by omega) (by omega)]
  refine ⟨fun z => ?_, fun z => ?_⟩
  · have : i = 36 := by omega
    subst this
    refine ns_at (by omega) (by omega) ?_
    rw [hold _ _ (by omega) (by omega)]
    unfold nast
    rw [w32_id (x := 36 * (d + 1) + c % 36) (by omega) (by omega), w32_id (x := 36 * (d + 1) + c / 36) (by omega) (by omega)]
    exact ⟨by omega, by omega, by omega, by omega, h⟩
  · refine ns_at (by omega) (by omega) ?_
    rw [hold _ _ (by omega) (by omega)]
    unfold nast
    rw [w32_id (x := 36 * (d + 1) + i) (by omega) (by omega), w32_id (x := i + 1) (by omega) (by omega)]
    refine ⟨by omega, by omega, hrec _ _ ⟨by omega, by omega, ?_⟩ (by omega)⟩
    have := lay_s S 8 (36 * (d + 1)).toNat i.toNat (fun k => S 8 (36 * d.toNat + k))
    rw [show (i + 1).toNat = i.toNat + 1 by omega, ← this]
    congr 1
    · omega
    · show S 8 _ = S 8 _
      congr 1
      omega
