set_option maxRecDepth 100000
/-! books and sums of the model -/
def bkM (S : NS) (b : Int) : Int := S 1 (120 + 98 * b).toNat
def ntM (S : NS) (b n w : Int) : Int := S 1 (121 + 98 * b + 4 * n + w).toNat
theorem ns_ofBook {b w : Int} {Q : Int → NP} {S : NS} (hb : 0 ≤ b ∧ b < 3) (hw : 0 ≤ w ∧ w < 98) (h : Q (S 1 (119 + 98 * b + w).toNat) S) : NX11_ofBook b w Q S := by
  unfold NX11_ofBook nald
  rw [w32_id (x := 98 * b) (by omega) (by omega), w32_id (x := 119 + 98 * b) (by omega) (by omega), w32_id (x := 119 + 98 * b + w) (by omega) (by omega)]
  exact ⟨by omega, by omega, h⟩
theorem ns_notes {b : Int} {Q : Int → NP} {S : NS} (hb : 0 ≤ b ∧ b < 3) (h : Q (bkM S b) S) : NX11_notes b Q S := by
  unfold NX11_notes
  refine ns_ofBook hb (by omega) ?_
  unfold bkM at h
  rw [show 119 + 98 * b + 1 = 120 + 98 * b by omega]
  exact h
theorem ns_ofNote {b n w : Int} {Q : Int → NP} {S : NS} (hb : 0 ≤ b ∧ b < 3) (hn : 0 ≤ n ∧ n < 24) (hw : 0 ≤ w ∧ w < 4) (h : Q (ntM S b n w) S) : NX11_ofNote b n w Q S := by
  unfold NX11_ofNote
  rw [w32_id (x := 4 * n) (by omega) (by omega), w32_id (x := 2 + 4 * n) (by omega) (by omega), w32_id (x := 2 + 4 * n + w) (by omega) (by omega)]
  refine ns_ofBook hb (by omega) ?_
  unfold ntM at h
  rw [show 119 + 98 * b + (2 + 4 * n + w) = 121 + 98 * b + 4 * n + w by omega]
  exact h
