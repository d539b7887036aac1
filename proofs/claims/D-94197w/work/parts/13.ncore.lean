set_option maxRecDepth 100000
/-! N: the model's own state: numbers by array (0: the object's fields) and place -/
abbrev NS : Type := Nat → Nat → Int
abbrev NP : Type := NS → Prop
def narrs : List (Nat × Nat × Nat) := [(1, 0, 2125), (2, 0, 1284), (3, 2, 400), (4, 0, 5), (5, 0, 12), (6, 0, 6), (7, 0, 400), (8, 0, 1116), (9, 1, 40176), (10, 0, 3), (11, 0, 8), (12, 0, 31), (13, 0, 2232), (14, 0, 2232), (15, 0, 2325), (16, 0, 31), (17, 3, 24), (18, 3, 24), (19, 0, 30), (20, 0, 30), (21, 0, 30), (22, 0, 31), (23, 0, 24), (24, 0, 30), (25, 0, 24), (26, 0, 30), (27, 0, 625)]
def nrefs : List (Nat × Nat) := [(1, 1), (2, 2), (4, 3), (11, 4), (13, 5), (14, 6), (15, 7), (16, 8), (17, 9), (19, 10), (20, 11), (21, 12), (22, 13), (23, 14), (24, 15), (31, 16), (33, 17), (34, 18), (38, 19), (39, 20), (40, 21), (45, 22), (46, 23), (47, 24), (48, 25), (49, 26), (50, 27)]
def MOK (b : Nat) (w : Mu) : Prop := w.ty b = some (Ty.obj 11) ∧ (∀ z ∈ narrs, w.ty (b + z.1) = some (Ty.arr z.2.1 z.2.2)) ∧ ∀ z ∈ nrefs, w.R b z.1 = some (b + z.2)
def nput (b : Nat) (w : Mu) (S : NS) : Mu := (w.1, fun a k => if b ≤ a ∧ a < b + 28 then S (a - b) k else w.2.1 a k, w.2.2)
def NM (b : Nat) (w : Mu) (M : MP) (N : NP) : Prop := ∀ S, N S → M (nput b w S)
section
variable {b : Nat} {w : Mu}
theorem nput_I (S : NS) {j : Nat} (h : j < 28) (k : Nat) : (nput b w S).I (b + j) k = S j k := by
  show (if b ≤ b + j ∧ b + j < b + 28 then S (b + j - b) k else _) = _
  rw [if_pos (by omega), Nat.add_sub_cancel_left]
theorem nput_up (S : NS) {j : Nat} (h : j < 28) (k : Nat) (v : Int) : (nput b w S).putI (b + j) k v = nput b w (up2 S j k v) := by
  refine Mu.ext' rfl (funext fun a => funext fun i => ?_) rfl rfl
  show up2 (nput b w S).I (b + j) k v a i = (if b ≤ a ∧ a < b + 28 then up2 S j k v (a - b) i else w.2.1 a i)
  unfold up2
  by_cases h1 : a = b + j
  · subst h1
    rw [if_pos (show b ≤ b + j ∧ b + j < b + 28 by omega), Nat.add_sub_cancel_left]
    by_cases h2 : i = k
    · rw [if_pos ⟨rfl, h2⟩, if_pos ⟨rfl, h2⟩]
    · rw [if_neg (fun z => h2 z.2), if_neg (fun z => h2 z.2), nput_I S h]
  · rw [if_neg (fun z => h1 z.1)]
    show (if b ≤ a ∧ a < b + 28 then S (a - b) i else _) = _
    by_cases h3 : b ≤ a ∧ a < b + 28
    · rw [if_pos h3, if_pos h3, if_neg (fun z => h1 (by omega))]
    · rw [if_neg h3, if_neg h3]
theorem narrs_lt : ∀ z ∈ narrs, z.1 < 28 := by decide
def nif (c : Prop) (P1 P2 : NP) : NP := fun S => (c → P1 S) ∧ (¬ c → P2 S)
def nand (c : Prop) (P1 : NP) : NP := fun S => c ∧ P1 S
def nbot : NP := fun _ => False
def nget (k : Nat) (f : Int → NP) : NP := fun S => f (S 0 k) S
def nset (k : Nat) (v : Int) (f : NP) : NP := fun S => f (up2 S 0 k v)
def nsetZ (k : Nat) (v : Int) (f : NP) : NP := fun S => (v = 0 ∨ v = 1) ∧ f (up2 S 0 k v)
def nald (j n : Nat) (i : Int) (f : Int → NP) : NP := fun S => 0 ≤ i ∧ i < n ∧ f (S j i.toNat) S
def nast (j n : Nat) (i x : Int) (f : NP) : NP := fun S => 0 ≤ i ∧ i < n ∧ f (up2 S j i.toNat x)
def njoin {α : Type} (k : α) (f : α → NP) : NP := f k
def nex (f : Nat → NP) : NP := fun S => ∃ n, f n S
def nslen (sK : Nat → Nat) (a : Nat) (f : Int → NP) : NP := fun S => ∃ i : Nat, i < 16 ∧ a = sK i ∧ f (jsl.getD i 0 : Nat) S
def nschr (sK : Nat → Nat) (a : Nat) (k : Int) (f : Int → NP) : NP := fun S => ∃ i : Nat, i < 16 ∧ a = sK i ∧ 0 ≤ k ∧ k < (jsl.getD i 0 : Nat) ∧ f (((jsb.getD i []).getD k.toNat 0).toInt) S
theorem NM.bot {M : MP} : NM b w M nbot := fun _ h => h.elim
theorem nm_if {c : Prop} {M1 M2 : MP} {N1 N2 : NP} (h1 : NM b w M1 N1) (h2 : NM b w M2 N2) : NM b w (mif c M1 M2) (nif c N1 N2) := fun S h => ⟨fun z => h1 S (h.1 z), fun z => h2 S (h.2 z)⟩
theorem nm_and {c : Prop} {M : MP} {N : NP} (h : NM b w M N) : NM b w (mand c M) (nand c N) := fun S z => ⟨z.1, h S z.2⟩
theorem nm_ex {f : Nat → MP} {g : Nat → NP} (h : ∀ n, NM b w (f n) (g n)) : NM b w (mex f) (nex g) := fun S ⟨n, z⟩ => ⟨n, h n S z⟩
theorem nm_join {α β : Type} {kk : α} {kk' : β} {f : α → MP} {g : β → NP} (I : α → β → Prop) (h1 : I kk kk') (h2 : ∀ k k', I k k' → NM b w (f k) (g k')) : NM b w (mjoin kk f) (njoin kk' g) := h2 _ _ h1
theorem nm_obj (hM : MOK b w) {M : MP} {N : NP} (h : NM b w M N) : NM b w (mobj 11 b M) N := fun S z => ⟨hM.1, h S z⟩
theorem nm_getI (hM : MOK b w) {k : Nat} {f : Int → MP} {g : Int → NP} (h : ∀ v, NM b w (f v) (g v)) : NM b w (mgetI 11 b k f) (nget k g) := fun S z => ⟨hM.1, by
  have := h _ S z
  have e := nput_I (b := b) (w := w) S (j := 0) (by omega) k
  rw [Nat.add_zero] at e
  rw [e]
  exact this⟩
theorem nm_getA (hM : MOK b w) {k j : Nat} {f : Nat → MP} {N : NP} (hz : (k, j) ∈ nrefs) (h : NM b w (f (b + j)) N) : NM b w (mgetA 11 b k f) N := fun S z => ⟨hM.1, b + j, hM.2.2 _ hz, h S z⟩
theorem nm_putI (hM : MOK b w) {k : Nat} {v : Int} {f : MP} {g : NP} (h : NM b w f g) : NM b w (mputI 11 b k v f) (nset k v g) := fun S z => ⟨hM.1, by
  have e := nput_up (b := b) (w := w) S (j := 0) (by omega) k v
  rw [Nat.add_zero] at e
  rw [e]
  exact h _ z⟩
theorem nm_putZ (hM : MOK b w) {k : Nat} {v : Int} {f : MP} {g : NP} (h : NM b w f g) : NM b w (mputZ 11 b k v f) (nsetZ k v g) := fun S z => ⟨z.1, nm_putI hM h S z.2⟩
theorem nm_aldI (hM : MOK b w) {t j n : Nat} {i : Int} {f : Int → MP} {g : Int → NP} (hz : (j, t, n) ∈ narrs) (h : ∀ v, NM b w (f v) (g v)) : NM b w (maldI t (b + j) i f) (nald j n i g) := fun S z => ⟨n, hM.2.1 _ hz, z.1, z.2.1, by
  rw [nput_I S (narrs_lt _ hz)]
  exact h _ S z.2.2⟩
theorem nm_ast (hM : MOK b w) {t j n : Nat} {i x : Int} {f : MP} {g : NP} (hz : (j, t, n) ∈ narrs) (h : NM b w f g) : NM b w (mastT t (b + j) i x f) (nast j n i x g) := fun S z => ⟨n, hM.2.1 _ hz, z.1, z.2.1, by
  rw [nput_up S (narrs_lt _ hz)]
  exact h _ z.2.2⟩
theorem nm_alen (hM : MOK b w) {t j n : Nat} {f : Int → MP} {N : NP} (hz : (j, t, n) ∈ narrs) (h : NM b w (f n) N) : NM b w (malen (b + j) f) N := fun S z => ⟨t, n, hM.2.1 _ hz, h S z⟩
theorem mj_length {sK : Nat → Nat} {i : Nat} (hi : i < 16) {Q : Int → MP} {μ : Mu} (h : Q (jsl.getD i 0 : Nat) μ) : MJ3_length sK (sK i) Q μ := by
  refine ⟨i, ⟨hi, rfl⟩, i, ⟨hi, rfl⟩, ⟨i, hi, rfl⟩, ⟨fun z => absurd z (by decide), fun _ => ⟨i, ⟨hi, rfl⟩, ?_, ?_⟩⟩⟩
  · unfold mnar; rfl
  · have e : mshr ((jsl.getD i 0 : Nat) : Int) 0 = (jsl.getD i 0 : Nat) := by
      revert i; intro i hi _
      unfold mshr
      have : ∀ i, i < 16 → (jshr (Int32.ofInt ((jsl.getD i 0 : Nat) : Int)) (Int32.ofInt 0)).toInt = ((jsl.getD i 0 : Nat) : Int) := by decide
      exact this i hi
    show Q (mshr ((jsl.getD i 0 : Nat) : Int) 0) μ
    rw [e]
    exact h
theorem mj_charAt {sK : Nat → Nat} {i : Nat} (hi : i < 16) {k : Int} (h0 : 0 ≤ k) (h1 : k < (jsl.getD i 0 : Nat)) {Q : Int → MP} {μ : Mu} (h : Q (((jsb.getD i []).getD k.toNat 0).toInt) μ) : MJ3_charAt sK (sK i) k Q μ := by
  have hc : ∀ i, i < 16 → ∀ j, j < jsl.getD i 0 → mi2c (mand32 ((jsb.getD i []).getD j 0).toInt 255) = ((jsb.getD i []).getD j 0).toInt ∧ mnar .char (((jsb.getD i []).getD j 0).toInt) := by unfold mnar; decide
  obtain ⟨c1, c2⟩ := hc i hi k.toNat (by omega)
  refine ⟨⟨i, hi, rfl⟩, ?_⟩
  refine ⟨fun z => absurd z (by decide), fun _ => ⟨i, ⟨hi, rfl⟩, fun _ => ?_, fun z => absurd rfl z⟩⟩
  refine ⟨fun z => absurd z (by decide), fun _ => ⟨i, ⟨hi, rfl⟩, i, ⟨hi, rfl⟩, fun r => ?_⟩⟩
  refine ⟨fun z => absurd z (by omega), fun _ => ⟨fun _ => ⟨i, ⟨hi, rfl, h0, h1⟩, ?_⟩, fun z => absurd h1 z⟩⟩
  show mnar .char (mi2c (mand32 ((jsb.getD i []).getD k.toNat 0).toInt 255)) ∧ mnar .char (mi2c (mand32 ((jsb.getD i []).getD k.toNat 0).toInt 255)) ∧ Q (mi2c (mand32 ((jsb.getD i []).getD k.toNat 0).toInt 255)) μ
  rw [c1]
  exact ⟨c2, c2, h⟩
theorem nm_slen {sK : Nat → Nat} {a : Nat} {f : Int → MP} {g : Int → NP} (h : ∀ v, NM b w (f v) (g v)) : NM b w (msobj sK a (MJ3_length sK a f)) (nslen sK a g) := by
  rintro S ⟨i, hi, rfl, z⟩
  exact ⟨⟨i, hi, rfl⟩, mj_length hi (h _ S z)⟩
theorem nm_schr {sK : Nat → Nat} {a : Nat} {k : Int} {f : Int → MP} {g : Int → NP} (h : ∀ v, NM b w (f v) (g v)) : NM b w (msobj sK a (MJ3_charAt sK a k f)) (nschr sK a k g) := by
  rintro S ⟨i, hi, rfl, h0, h1, z⟩
  exact ⟨⟨i, hi, rfl⟩, mj_charAt hi h0 h1 (h _ S z)⟩
end
