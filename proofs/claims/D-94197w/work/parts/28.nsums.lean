set_option maxRecDepth 100000
/-! books and sums of the model -/
def bkM (S : NS) (b : Int) : Int := S 1 (120 + 98 * b).toNat
def ntM (S : NS) (b n w : Int) : Int := S 1 (121 + 98 * b + 4 * n + w).toNat
theorem ns_ofBook {b w : Int} {Q : Int → NP} {S : NS} (hb : 0 ≤ b ∧ b < 3) (hw : 0 ≤ w ∧ w < 98) (h : Q (S 1 (119 + 98 * b + w).toNat) S) : NX11_ofBook b w Q S := by
  unfold NX11_ofBook nald
  rw [w32_id (x := 98 * b) (by omega) (by omega), w32_id (x := 119 + 98 * b) (by omega) (by omega), w32_id (x := 119 + 98 * b + w) (by omega) (by omega)]
  exact ⟨by omega, by omega, h⟩
theorem ns_notes {b : Int} {Q : Int → NP} {S : NS} (hb : 0 ≤ b ∧ b < 3) (h : Q (bkM S b) S) : NX11_notes b Q S := by
  unfold NX11_notes
  refine ns_ofBook hb (by omega) ?_
  unfold bkM at h
  rw [show 119 + 98 * b + 1 = 120 + 98 * b by omega]
  exact h
theorem ns_ofNote {b n w : Int} {Q : Int → NP} {S : NS} (hb : 0 ≤ b ∧ b < 3) (hn : 0 ≤ n ∧ n < 24) (hw : 0 ≤ w ∧ w < 4) (h : Q (ntM S b n w) S) : NX11_ofNote b n w Q S := by
  unfold NX11_ofNote
  rw [w32_id (x := 4 * n) (by omega) (by omega), w32_id (x := 2 + 4 * n) (by omega) (by omega), w32_id (x := 2 + 4 * n + w) (by omega) (by omega)]
  refine ns_ofBook hb (by omega) ?_
  unfold ntM at h
  rw [show 119 + 98 * b + (2 + 4 * n + w) = 121 + 98 * b + 4 * n + w by omega]
  exact h
/-- a note is like the one ahead of it, and notes may be twice -/
def twM (S : NS) (b n : Int) : Prop := 0 < n ∧ 0 < S 11 7 ∧ ntM S b n 0 = ntM S b (n - 1) 0 ∧ ntM S b n 1 = ntM S b (n - 1) 1 ∧ ntM S b n 2 = ntM S b (n - 1) 2 ∧ ntM S b n 3 = ntM S b (n - 1) 3
theorem ns_isTwice {b n : Int} {Q : Int → NP} {S : NS} (hb : 0 ≤ b ∧ b < 3) (hn : 0 ≤ n ∧ n < 24) (h1 : twM S b n → Q 1 S) (h0 : ¬ twM S b n → Q 0 S) : NX11_isTwice b n Q S := by
  unfold NX11_isTwice njoin nif nald nex
  have no : ¬ (0 < n ∧ 0 < S 11 7) → ∃ k, jit (HX11_isTwice_23 b n Q) (fun _ _ => nbot) k 0 0 S := fun z => by
    refine ⟨1, ?_⟩
    show HX11_isTwice_23 b n Q (jit _ _ 0) 0 0 S
    unfold HX11_isTwice_23
    exact ⟨fun y => absurd y (by decide), fun _ => ⟨fun _ => ⟨Or.inl rfl, h0 (fun t => z ⟨t.1, t.2.1⟩)⟩, fun y => absurd rfl y⟩⟩
  refine ⟨fun z => no (by omega), fun z => ⟨by omega, by omega, fun y => no (fun t => by have := t.2; have e : Int.toNat 7 = 7 := rfl; rw [e] at y; omega), fun y => ?_⟩⟩
  have e7 : Int.toNat 7 = 7 := rfl
  rw [e7] at y
  have step : ∀ (rec : Int → Int → NP) (w : Int), 0 ≤ w → w < 4 → (ntM S b n w = ntM S b (n - 1) w → rec 1 (w + 1) S) → (¬ ntM S b n w = ntM S b (n - 1) w → rec 0 (w + 1) S) → HX11_isTwice_23 b n Q rec 1 w S := by
    intro rec w w1 w2 g1 g0
    unfold HX11_isTwice_23
    refine ⟨fun q => by omega, fun _ => ⟨fun q => absurd q (by decide), fun _ => ?_⟩⟩
    refine ns_ofNote hb hn ⟨w1, w2⟩ ?_
    rw [w32_id (x := n - 1) (by omega) (by omega), w32_id (x := w + 1) (by omega) (by omega)]
    refine ns_ofNote hb (by omega) ⟨w1, w2⟩ ?_
    exact ⟨fun q => g1 q, fun q => g0 q⟩
  have stop : ∀ (rec : Int → Int → NP) (w : Int), w < 4 → ¬ twM S b n → HX11_isTwice_23 b n Q rec 0 w S := by
    intro rec w w2 g
    unfold HX11_isTwice_23
    exact ⟨fun q => by omega, fun _ => ⟨fun _ => ⟨Or.inl rfl, h0 g⟩, fun q => absurd rfl q⟩⟩
  have last : ∀ (rec : Int → Int → NP) (x : Int), (x = 0 ∨ x = 1) → Q x S → HX11_isTwice_23 b n Q rec x 4 S := by
    intro rec x hx g
    unfold HX11_isTwice_23
    exact ⟨fun _ => ⟨hx, g⟩, fun q => absurd (by decide) q⟩
  refine ⟨5, ?_⟩
  show HX11_isTwice_23 b n Q (jit _ _ 4) 1 0 S
  refine step _ 0 (by decide) (by decide) (fun a0 => ?_) (fun a0 => ?_)
  · show HX11_isTwice_23 b n Q (jit _ _ 3) 1 1 S
    refine step _ 1 (by decide) (by decide) (fun a1 => ?_) (fun a1 => ?_)
    · show HX11_isTwice_23 b n Q (jit _ _ 2) 1 2 S
      refine step _ 2 (by decide) (by decide) (fun a2 => ?_) (fun a2 => ?_)
      · show HX11_isTwice_23 b n Q (jit _ _ 1) 1 3 S
        refine step _ 3 (by decide) (by decide) (fun a3 => ?_) (fun a3 => ?_)
        · exact last _ 1 (Or.inr rfl) (h1 ⟨by omega, by omega, a0, a1, a2, a3⟩)
        · exact last _ 0 (Or.inl rfl) (h0 fun t => a3 t.2.2.2.2.2)
      · exact stop _ 3 (by decide) (fun t => a2 t.2.2.2.2.1)
    · exact stop _ 2 (by decide) (fun t => a1 t.2.2.2.1)
  · exact stop _ 1 (by decide) (fun t => a0 t.2.2.1)
