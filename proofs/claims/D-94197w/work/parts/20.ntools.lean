set_option maxRecDepth 100000
/-! rules for loops, and the arithmetic -/
theorem jit_ind0 {σ : Type} {F : (σ → Prop) → σ → Prop} {bot : σ → Prop} (m : σ → Nat) (Inv : σ → Prop) (hstep : ∀ rec S, Inv S → (∀ S', Inv S' → m S' < m S → rec S') → F rec S) : ∀ n S, Inv S → m S < n → jit F bot n S := by
  intro n
  induction n with
  | zero => intro S _ h; omega
  | succ n ih =>
    intro S hI hm
    exact hstep _ S hI (fun S' h1 h2 => ih S' h1 (by omega))
theorem jit_ind1 {α σ : Type} {F : (α → σ → Prop) → α → σ → Prop} {bot : α → σ → Prop} (m : α → σ → Nat) (Inv : α → σ → Prop) (hstep : ∀ rec a S, Inv a S → (∀ a' S', Inv a' S' → m a' S' < m a S → rec a' S') → F rec a S) : ∀ n a S, Inv a S → m a S < n → jit F bot n a S := by
  intro n
  induction n with
  | zero => intro a S _ h; omega
  | succ n ih =>
    intro a S hI hm
    exact hstep _ a S hI (fun a' S' h1 h2 => ih a' S' h1 (by omega))
theorem jit_ind2 {α β σ : Type} {F : (α → β → σ → Prop) → α → β → σ → Prop} {bot : α → β → σ → Prop} (m : α → β → σ → Nat) (Inv : α → β → σ → Prop) (hstep : ∀ rec a b S, Inv a b S → (∀ a' b' S', Inv a' b' S' → m a' b' S' < m a b S → rec a' b' S') → F rec a b S) : ∀ n a b S, Inv a b S → m a b S < n → jit F bot n a b S := by
  intro n
  induction n with
  | zero => intro a b S _ h; omega
  | succ n ih =>
    intro a b S hI hm
    exact hstep _ a b S hI (fun a' b' S' h1 h2 => ih a' b' S' h1 (by omega))
theorem jit_ind3 {α β γ σ : Type} {F : (α → β → γ → σ → Prop) → α → β → γ → σ → Prop} {bot : α → β → γ → σ → Prop} (m : α → β → γ → σ → Nat) (Inv : α → β → γ → σ → Prop) (hstep : ∀ rec a b c S, Inv a b c S → (∀ a' b' c' S', Inv a' b' c' S' → m a' b' c' S' < m a b c S → rec a' b' c' S') → F rec a b c S) : ∀ n a b c S, Inv a b c S → m a b c S < n → jit F bot n a b c S := by
  intro n
  induction n with
  | zero => intro a b c S _ h; omega
  | succ n ih =>
    intro a b c S hI hm
    exact hstep _ a b c S hI (fun a' b' c' S' h1 h2 => ih a' b' c' S' h1 (by omega))
theorem w32_id {x : Int} (h1 : -2147483648 ≤ x) (h2 : x < 2147483648) : w32 x = x := by
  unfold w32
  rw [Int.bmod_eq_of_le] <;> omega
theorem w64_id {x : Int} (h1 : -9223372036854775808 ≤ x) (h2 : x < 9223372036854775808) : w64 x = x := by
  unfold w64
  rw [Int.bmod_eq_of_le] <;> omega
theorem up2_eq {α : Type} (f : Nat → Nat → α) (a k : Nat) (v : α) : up2 f a k v a k = v := by simp [up2]
theorem up2_ne1 {α : Type} (f : Nat → Nat → α) {a b : Nat} (k j : Nat) (v : α) (h : b ≠ a) : up2 f a k v b j = f b j := by simp [up2, h]
theorem up2_ne2 {α : Type} (f : Nat → Nat → α) {k j : Nat} (a b : Nat) (v : α) (h : j ≠ k) : up2 f a k v b j = f b j := by simp [up2, h]
theorem mnZ_01 {x : Int} (h : x = 0 ∨ x = 1) : mnZ x = x := by rcases h with rfl | rfl <;> decide
theorem tmod_pos {a b : Int} (h : 0 ≤ a) : Int.tmod a b = a % b := Int.tmod_eq_emod_of_nonneg h
theorem tdiv_pos {a b : Int} (h : 0 ≤ a) : Int.tdiv a b = a / b := Int.tdiv_eq_ediv_of_nonneg h
theorem mand32_nat {n m : Nat} (h : n < 2147483648) (hm : m < 2147483648) : mand32 n m = ((n &&& m : Nat) : Int) := by
  unfold mand32
  rw [← Int32.toInt_toBitVec, Int32.toBitVec_and, Int32.toBitVec_ofInt, Int32.toBitVec_ofInt, BitVec.toInt_eq_toNat_of_lt]
  · rw [BitVec.toNat_and]
    simp only [BitVec.ofInt_natCast, BitVec.toNat_ofNat]
    rw [Nat.mod_eq_of_lt (by omega), Nat.mod_eq_of_lt (by omega)]
  · rw [BitVec.toNat_and]
    simp only [BitVec.ofInt_natCast, BitVec.toNat_ofNat]
    rw [Nat.mod_eq_of_lt (by omega), Nat.mod_eq_of_lt (by omega)]
    have := @Nat.and_le_left n m
    omega
/-- the last bit -/
theorem mand1 {x : Int} (h0 : 0 ≤ x) (h : x < 2147483648) : mand32 x 1 = x % 2 := by
  obtain ⟨n, rfl⟩ := Int.eq_ofNat_of_zero_le h0
  have := mand32_nat (n := n) (m := 1) (by omega) (by omega)
  rw [show ((1 : Nat) : Int) = 1 from rfl] at this
  rw [this, Nat.and_one_is_mod]
  omega
/-! the model: small ones -/
theorem ns_in {a l h : Int} {Q : Int → NP} {S : NS} (h1 : l ≤ a ∧ a ≤ h → Q 1 S) (h0 : ¬ (l ≤ a ∧ a ≤ h) → Q 0 S) : NX11_in a l h Q S := by
  unfold NX11_in njoin nif
  exact ⟨fun z => h0 (by omega), fun z => ⟨fun y => h0 (by omega), fun y => h1 (by omega)⟩⟩
theorem ns_at {d q : Int} {Q : Int → NP} {S : NS} (hd : 0 ≤ d ∧ d ≤ 30) (hq : 0 ≤ q ∧ q < 36) (h : Q (S 8 (36 * d + q).toNat) S) : NX11_at d q Q S := by
  unfold NX11_at nald
  rw [w32_id (x := 36 * d) (by omega) (by omega), w32_id (by omega) (by omega)]
  exact ⟨by omega, by omega, h⟩
theorem ns_sideOf {x : Int} {Q : Int → NP} {S : NS} (h0 : 0 ≤ x) (h1 : x < 2147483648) (h : Q (x % 2) S) : NX11_sideOf x Q S := by
  unfold NX11_sideOf
  rw [mand1 h0 h1]
  exact h
theorem ns_man {k s : Int} {Q : Int → NP} {S : NS} (hk : -1 ≤ k ∧ k < 1000) (hs : 0 ≤ k → -2147480000 ≤ s ∧ s ≤ 2147480000) (h : Q (if k < 0 then -1 else 2 * k + s) S) : NX11_man k s Q S := by
  unfold NX11_man nif
  refine ⟨fun z => ?_, fun z => ?_⟩
  · rw [if_neg (by omega)] at h
    have := hs z
    rw [w32_id (x := 2 * k) (by omega) (by omega), w32_id (by omega) (by omega)]
    exact h
  · rw [if_pos (by omega)] at h
    exact h
/-- a square so far off -/
def offZ (s f r : Int) : Int := if 0 ≤ s % 6 + f ∧ s % 6 + f ≤ 5 ∧ 0 ≤ s / 6 + r ∧ s / 6 + r ≤ 5 then 6 * (s / 6 + r) + (s % 6 + f) else -1
theorem ns_off {s f r : Int} {Q : Int → NP} {S : NS} (hs : 0 ≤ s ∧ s < 36) (hf : -10 ≤ f ∧ f ≤ 10) (hr : -10 ≤ r ∧ r ≤ 10) (h : Q (offZ s f r) S) : NX11_off s f r Q S := by
  unfold NX11_off
  rw [tmod_pos (by omega), tdiv_pos (by omega)]
  rw [w32_id (x := s % 6 + f) (by omega) (by omega), w32_id (x := s / 6) (by omega) (by omega), w32_id (x := s / 6 + r) (by omega) (by omega), w32_id (x := 6 * (s / 6 + r)) (by omega) (by omega), w32_id (x := 6 * (s / 6 + r) + (s % 6 + f)) (by omega) (by omega)]
  unfold offZ at h
  refine ns_in (fun z => ?_) (fun z => ?_)
  · unfold njoin nif
    refine ⟨fun y => absurd y (by decide), fun _ => ?_⟩
    refine ns_in (fun y => ?_) (fun y => ?_)
    · rw [if_pos (by omega)] at h
      exact ⟨fun y => absurd y (by decide), fun _ => h⟩
    · rw [if_neg (by omega)] at h
      exact ⟨fun _ => h, fun q => absurd rfl q⟩
  · rw [if_neg (by omega)] at h
    unfold njoin nif
    exact ⟨fun _ => h, fun q => absurd rfl q⟩
theorem ns_may {d p q : Int} {Q : NP} {S : NS} (hd : 0 ≤ d ∧ d ≤ 30) (hp : 0 ≤ p ∧ p < 36) (hq : 0 ≤ q ∧ q < 36) (h : Q (up2 S 9 (1296 * d + 36 * p + q).toNat 1)) : NX11_may d p q Q S := by
  unfold NX11_may nast
  rw [w32_id (x := 1296 * d) (by omega) (by omega), w32_id (x := 36 * p) (by omega) (by omega), w32_id (x := 1296 * d + 36 * p) (by omega) (by omega), w32_id (by omega) (by omega)]
  rw [show mnZ 1 = 1 by decide]
  exact ⟨by omega, by omega, h⟩
