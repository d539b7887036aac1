set_option maxRecDepth 100000
/-! rules for loops, and the arithmetic -/
theorem jit_ind0 {σ : Type} {F : (σ → Prop) → σ → Prop} {bot : σ → Prop} (m : σ → Nat) (Inv : σ → Prop) (hstep : ∀ rec S, Inv S → (∀ S', Inv S' → m S' < m S → rec S') → F rec S) : ∀ n S, Inv S → m S < n → jit F bot n S := by
  intro n
  induction n with
  | zero => intro S _ h; omega
  | succ n ih =>
    intro S hI hm
    exact hstep _ S hI (fun S' h1 h2 => ih S' h1 (by omega))
theorem jit_ind1 {α σ : Type} {F : (α → σ → Prop) → α → σ → Prop} {bot : α → σ → Prop} (m : α → σ → Nat) (Inv : α → σ → Prop) (hstep : ∀ rec a S, Inv a S → (∀ a' S', Inv a' S' → m a' S' < m a S → rec a' S') → F rec a S) : ∀ n a S, Inv a S → m a S < n → jit F bot n a S := by
  intro n
  induction n with
  | zero => intro a S _ h; omega
  | succ n ih =>
    intro a S hI hm
    exact hstep _ a S hI (fun a' S' h1 h2 => ih a' S' h1 (by omega))
theorem jit_ind2 {α β σ : Type} {F : (α → β → σ → Prop) → α → β → σ → Prop} {bot : α → β → σ → Prop} (m : α → β → σ → Nat) (Inv : α → β → σ → Prop) (hstep : ∀ rec a b S, Inv a b S → (∀ a' b' S', Inv a' b' S' → m a' b' S' < m a b S → rec a' b' S') → F rec a b S) : ∀ n a b S, Inv a b S → m a b S < n → jit F bot n a b S := by
  intro n
  induction n with
  | zero => intro a b S _ h; omega
  | succ n ih =>
    intro a b S hI hm
    exact hstep _ a b S hI (fun a' b' S' h1 h2 => ih a' b' S' h1 (by omega))
theorem jit_ind3 {α β γ σ : Type} {F : (α → β → γ → σ → Prop) → α → β → γ → σ → Prop} {bot : α → β → γ → σ → Prop} (m : α → β → γ → σ → Nat) (Inv : α → β → γ → σ → Prop) (hstep : ∀ rec a b c S, Inv a b c S → (∀ a' b' c' S', Inv a' b' c' S' → m a' b' c' S' < m a b c S → rec a' b' c' S') → F rec a b c S) : ∀ n a b c S, Inv a b c S → m a b c S < n → jit F bot n a b c S := by
  intro n
  induction n with
  | zero => intro a b c S _ h; omega
  | succ n ih =>
    intro a b c S hI hm
    exact hstep _ a b c S hI (fun a' b' c' S' h1 h2 => ih a' b' c' S' h1 (by omega))
theorem w32_id {x : Int} (h1 : -2147483648 ≤ x) (h2 : x < 2147483648) : w32 x = x := by
  unfold w32
  rw [Int.bmod_eq_of_le] <;> omega
theorem w64_id {x : Int} (h1 : -9223372036854775808 ≤ x) (h2 : x < 9223372036854775808) : w64 x = x := by
  unfold w64
  rw [Int.bmod_eq_of_le] <;> omega
theorem up2_eq {α : Type} (f : Nat → Nat → α) (a k : Nat) (v : α) : up2 f a k v a k = v := by simp [up2]
theorem up2_ne1 {α : Type} (f : Nat → Nat → α) {a b : Nat} (k j : Nat) (v : α) (h : b ≠ a) : up2 f a k v b j = f b j := by simp [up2, h]
theorem up2_ne2 {α : Type} (f : Nat → Nat → α) {k j : Nat} (a b : Nat) (v : α) (h : j ≠ k) : up2 f a k v b j = f b j := by simp [up2, h]
theorem mnZ_01 {x : Int} (h : x = 0 ∨ x = 1) : mnZ x = x := by rcases h with rfl | rfl <;> decide
theorem tmod_pos {a b : Int} (h : 0 ≤ a) : Int.tmod a b = a % b := Int.tmod_eq_emod_of_nonneg h
theorem tdiv_pos {a b : Int} (h : 0 ≤ a) : Int.tdiv a b = a / b := Int.tdiv_eq_ediv_of_nonneg h
/-- the last bit -/
theorem mand1 {n : Nat} (h : n < 2147483648) : mand32 n 1 = (n % 2 : Nat) := by
  sorry
/-! the model: small ones -/
theorem ns_in {a l h : Int} {Q : Int → NP} {S : NS} (hq : Q (if l ≤ a ∧ a ≤ h then 1 else 0) S) : NX11_in a l h Q S := by
  sorry
theorem ns_at {d q : Int} {Q : Int → NP} {S : NS} (hd : 0 ≤ d ∧ d ≤ 30) (hq : 0 ≤ q ∧ q < 36) (h : Q (S 8 (36 * d + q).toNat) S) : NX11_at d q Q S := by
  unfold NX11_at nald
  rw [w32_id (x := 36 * d) (by omega) (by omega), w32_id (by omega) (by omega)]
  exact ⟨by omega, by omega, h⟩
