set_option maxRecDepth 100000
/-! M: the heap with Ints, and how J-programs are met by M-programs -/
abbrev Ty : Type := Nat ⊕ (Nat × Nat)
abbrev Ty.obj (c : Nat) : Ty := Sum.inl c
abbrev Ty.arr (t n : Nat) : Ty := Sum.inr (t, n)
abbrev Mu : Type := (Nat → Option Ty) × (Nat → Nat → Int) × (Nat → Nat → Option Nat) × Nat
abbrev Mu.ty (μ : Mu) : Nat → Option Ty := μ.1
abbrev Mu.I (μ : Mu) : Nat → Nat → Int := μ.2.1
abbrev Mu.R (μ : Mu) : Nat → Nat → Option Nat := μ.2.2.1
abbrev Mu.nx (μ : Mu) : Nat := μ.2.2.2
abbrev MP : Type := Mu → Prop
def jvk (v : Value) : Nat := match v with
  | .int _ => 0
  | .long _ => 1
  | .ref _ => 2
  | .null => 2
  | _ => 3
def jdf (c : Nat) : List Value := [[], df1, df2, [], df4, df5, df6, df7, df8, df9, df10, df11, df12, df13, df14, df15, df16, df17, df18, df19, df20, df21, df22, df23, df24].getD c []
def jkd (c : Nat) : List Nat := (jdf c).map jvk
def vI (v : Option Value) : Int := match v with
  | some (.int x) => x.toInt
  | some (.long x) => x.toInt
  | _ => 0
def vR (v : Option Value) : Option Nat := match v with
  | some (.ref a) => some a
  | _ => none
def aI (x : vp_A) (k : Nat) : Int := match x.2 with
  | .inl g => (g k).toInt
  | .inr (.inl g) => (g k).toInt
  | _ => 0
def aR (x : vp_A) (k : Nat) : Option Nat := match x.2 with
  | .inr (.inr (.inr (.inr g))) => g k
  | _ => none
def aK (t : Nat) (x : vp_A) : Bool := decide (x.1 < 2 ^ 31) && decide (t ≤ 12) && (match x.2 with
  | .inl _ => decide (t ≤ 2)
  | .inr (.inl _) => decide (t = 3)
  | .inr (.inr (.inr (.inr _))) => decide (4 ≤ t)
  | _ => false)
def oT (o : Option Ob) : Option Ty := match o with
  | some (.inl (c, fs)) => if fs.map jvk = jkd c then some (.obj c) else none
  | some (.inr (t, x)) => if aK t x = true then some (.arr t x.1) else none
  | none => none
def oI (o : Option Ob) (k : Nat) : Int := match o with
  | some (.inl (_, fs)) => vI fs[k]?
  | some (.inr (_, x)) => aI x k
  | none => 0
def oR (o : Option Ob) (k : Nat) : Option Nat := match o with
  | some (.inl (_, fs)) => vR fs[k]?
  | some (.inr (_, x)) => aR x k
  | none => none
def absH (σ : Hp) : Mu := (fun a => oT (σ.1 a), fun a => oI (σ.1 a), fun a => oR (σ.1 a), σ.2)
def SM (P : JP) (M : MP) : Prop := ∀ σ, M (absH σ) → P σ
def up2 {α : Type} (f : Nat → Nat → α) (a k : Nat) (v : α) : Nat → Nat → α := fun b j => if b = a ∧ j = k then v else f b j
def Mu.putI (μ : Mu) (a k : Nat) (v : Int) : Mu := (μ.1, up2 μ.I a k v, μ.2.2)
def Mu.putR (μ : Mu) (a k : Nat) (v : Option Nat) : Mu := (μ.1, μ.2.1, up2 μ.R a k v, μ.nx)
def Mu.make (μ : Mu) (t : Ty) : Mu := (fun b => if b = μ.nx then some t else μ.ty b, fun b k => if b = μ.nx then 0 else μ.I b k, fun b k => if b = μ.nx then none else μ.R b k, μ.nx + 1)
def Mu.gap (μ : Mu) : Mu := (μ.1, μ.2.1, μ.2.2.1, μ.nx + 1)
def w32 (x : Int) : Int := x.bmod (2 ^ 32)
def w64 (x : Int) : Int := x.bmod (2 ^ 64)
def mand32 (x y : Int) : Int := (Int32.ofInt x &&& Int32.ofInt y).toInt
def mor32 (x y : Int) : Int := (Int32.ofInt x ||| Int32.ofInt y).toInt
def mxor32 (x y : Int) : Int := (Int32.ofInt x ^^^ Int32.ofInt y).toInt
def mshl (x y : Int) : Int := (jshl (Int32.ofInt x) (Int32.ofInt y)).toInt
def mshr (x y : Int) : Int := (jshr (Int32.ofInt x) (Int32.ofInt y)).toInt
def mushr (x y : Int) : Int := (jushr (Int32.ofInt x) (Int32.ofInt y)).toInt
def mlshl (x y : Int) : Int := (jlshl (Int64.ofInt x) (Int32.ofInt y)).toInt
def mi2b (x : Int) : Int := (ji2b (Int32.ofInt x)).toInt
def mi2c (x : Int) : Int := (ji2c (Int32.ofInt x)).toInt
def mcmp (x y : Int) : Int := if x < y then -1 else if x = y then 0 else 1
def mabs (x : Int) : Int := if 0 ≤ x then x else w32 (-x)
def mnZ (x : Int) : Int := (vp_nar .boolean (Int32.ofInt x)).toInt
def mnB (x : Int) : Int := (vp_nar .byte (Int32.ofInt x)).toInt
/-! programs -/
def mif (c : Prop) (P1 P2 : MP) : MP := fun μ => (c → P1 μ) ∧ (¬ c → P2 μ)
def mand (c : Prop) (P1 : MP) : MP := fun μ => c ∧ P1 μ
def mbot : MP := fun _ => False
def mgetI (ci a k : Nat) (f : Int → MP) : MP := fun μ => μ.ty a = some (.obj ci) ∧ f (μ.I a k) μ
def mgetL (ci a k : Nat) (f : Int → MP) : MP := fun μ => μ.ty a = some (.obj ci) ∧ f (μ.I a k) μ
def mgetA (ci a k : Nat) (f : Nat → MP) : MP := fun μ => μ.ty a = some (.obj ci) ∧ ∃ v, μ.R a k = some v ∧ f v μ
def mgetO (ci a k : Nat) (f : Option Nat → MP) : MP := fun μ => μ.ty a = some (.obj ci) ∧ f (μ.R a k) μ
def mputI (ci a k : Nat) (v : Int) (f : MP) : MP := fun μ => μ.ty a = some (.obj ci) ∧ f (μ.putI a k v)
def mputZ (ci a k : Nat) (v : Int) (f : MP) : MP := fun μ => (v = 0 ∨ v = 1) ∧ μ.ty a = some (.obj ci) ∧ f (μ.putI a k v)
def mputR (ci a k : Nat) (v : Option Nat) (f : MP) : MP := fun μ => μ.ty a = some (.obj ci) ∧ f (μ.putR a k v)
def maldI (t a : Nat) (i : Int) (f : Int → MP) : MP := fun μ => ∃ n : Nat, μ.ty a = some (.arr t n) ∧ 0 ≤ i ∧ i < n ∧ f (μ.I a i.toNat) μ
def maldL (a : Nat) (i : Int) (f : Int → MP) : MP := maldI 3 a i f
def maldA (t a : Nat) (i : Int) (f : Nat → MP) : MP := fun μ => ∃ n : Nat, μ.ty a = some (.arr t n) ∧ 0 ≤ i ∧ i < n ∧ ∃ v, μ.R a i.toNat = some v ∧ f v μ
def mastT (t a : Nat) (i x : Int) (f : MP) : MP := fun μ => ∃ n : Nat, μ.ty a = some (.arr t n) ∧ 0 ≤ i ∧ i < n ∧ f (μ.putI a i.toNat x)
def mastI (a : Nat) (i x : Int) (f : MP) : MP := mastT 0 a i x f
def mastZ (a : Nat) (i x : Int) (f : MP) : MP := mastT 1 a i (mnZ x) f
def mastB (a : Nat) (i x : Int) (f : MP) : MP := mastT 2 a i (mnB x) f
def mastL (a : Nat) (i x : Int) (f : MP) : MP := mastT 3 a i x f
def mastA (t ci a : Nat) (i : Int) (v : Nat) (f : MP) : MP := fun μ => ∃ n : Nat, μ.ty a = some (.arr t n) ∧ 0 ≤ i ∧ i < n ∧ μ.ty v = some (.obj ci) ∧ f (μ.putR a i.toNat (some v))
def mastX (t a : Nat) (i : Int) (v : Nat) (f : MP) : MP := fun μ => ∃ ci, jfit t ci ∧ mastA t ci a i v f μ
def mastS (sK : Nat → Nat) (a : Nat) (i : Int) (v : Nat) (f : MP) : MP := fun μ => ∃ n : Nat, μ.ty a = some (.arr 4 n) ∧ 0 ≤ i ∧ i < n ∧ (∃ k : Nat, k < 16 ∧ v = sK k) ∧ f (μ.putR a i.toNat (some v))
def malen (a : Nat) (f : Int → MP) : MP := fun μ => ∃ t n : Nat, μ.ty a = some (.arr t n) ∧ f n μ
def mnew (ci N bc bs : Nat) (f : Nat → MP) : MP := fun μ => 1 ≤ bc ∧ N ≤ bs ∧ f μ.nx (μ.make (.obj ci))
def mnewT (t : Nat) (i : Int) (bc bs : Nat) (f : Nat → MP) : MP := fun μ => 1 ≤ bc ∧ i.toNat ≤ bs ∧ 0 ≤ i ∧ i ≤ 60000000 ∧ f μ.nx (μ.make (.arr t i.toNat))
def mobj (ci a : Nat) (P1 : MP) : MP := fun μ => μ.ty a = some (.obj ci) ∧ P1 μ
def msome (r : Option Nat) (f : Nat → MP) : MP := fun μ => ∃ a, r = some a ∧ f a μ
def mnull (r : Option Nat) (P1 P2 : MP) : MP := fun μ => (r = none → P1 μ) ∧ (r ≠ none → P2 μ)
def mbud (bc bs : Nat) (f : Nat → Nat → MP) : MP := fun μ => ∃ mc ms : Nat, mc ≤ bc ∧ ms ≤ bs ∧ f mc ms μ
def mjoin {α : Type} (k : α) (f : α → MP) : MP := f k
def mex (f : Nat → MP) : MP := fun μ => ∃ n, f n μ
def many' (f : Option Nat → MP) : MP := fun μ => ∀ r : Option Nat, f r μ
def mcpyI (a0 : Nat) (sp : Int) (a : Nat) (dp n : Int) (f : MP) : MP := fun μ => ∃ n0 n1 : Nat, μ.ty a0 = some (.arr 0 n0) ∧ μ.ty a = some (.arr 0 n1) ∧ 0 ≤ sp ∧ 0 ≤ dp ∧ 0 ≤ n ∧ sp + n ≤ n0 ∧ dp + n ≤ n1 ∧ f (μ.1, fun b k => if b = a ∧ dp.toNat ≤ k ∧ k < dp.toNat + n.toNat then μ.I a0 (sp.toNat + (k - dp.toNat)) else μ.I b k, μ.2.2)
def mcpyA (t a0 : Nat) (sp : Int) (a : Nat) (dp n : Int) (f : MP) : MP := fun μ => ∃ n0 n1 : Nat, μ.ty a0 = some (.arr t n0) ∧ μ.ty a = some (.arr t n1) ∧ 4 ≤ t ∧ 0 ≤ sp ∧ 0 ≤ dp ∧ 0 ≤ n ∧ sp + n ≤ n0 ∧ dp + n ≤ n1 ∧ (∀ i : Nat, i < n.toNat → ∀ y : Nat, μ.R a0 (sp.toNat + i) = some y → ∃ ci : Nat, μ.ty y = some (.obj ci) ∧ jfit t ci) ∧ f (μ.1, μ.2.1, fun b k => if b = a ∧ dp.toNat ≤ k ∧ k < dp.toNat + n.toNat then μ.R a0 (sp.toNat + (k - dp.toNat)) else μ.R b k, μ.nx)
def mnewM2 (n k bc bs : Nat) (f : Nat → MP) : MP := fun μ => 1 + n ≤ bc ∧ n + n * k ≤ bs ∧ n < 2 ^ 31 ∧ k < 2 ^ 31 ∧ f μ.nx (fun b => if b = μ.nx then some (.arr 11 n) else if μ.nx < b ∧ b ≤ μ.nx + n then some (.arr 0 k) else μ.ty b, fun b j => if μ.nx ≤ b ∧ b ≤ μ.nx + n then 0 else μ.I b j, fun b j => if b = μ.nx then (if j < n then some (μ.nx + 1 + j) else none) else if μ.nx < b ∧ b ≤ μ.nx + n then none else μ.R b j, μ.nx + 1 + n)
def mnewM3 (n1 n2 k bc bs : Nat) (f : Nat → MP) : MP := fun μ => 1 + n1 * (1 + n2) ≤ bc ∧ n1 + n1 * (n2 + n2 * k) ≤ bs ∧ n1 < 2 ^ 31 ∧ n2 < 2 ^ 31 ∧ k < 2 ^ 31 ∧ f μ.nx (fun b => if b = μ.nx then some (.arr 12 n1) else if μ.nx < b ∧ b ≤ μ.nx + n1 * (1 + n2) then (if (b - μ.nx - 1) % (1 + n2) = 0 then some (.arr 11 n2) else some (.arr 0 k)) else μ.ty b, fun b j => if μ.nx ≤ b ∧ b ≤ μ.nx + n1 * (1 + n2) then 0 else μ.I b j, fun b j => if b = μ.nx then (if j < n1 then some (μ.nx + 1 + j * (1 + n2)) else none) else if μ.nx < b ∧ b ≤ μ.nx + n1 * (1 + n2) then (if (b - μ.nx - 1) % (1 + n2) = 0 then (if j < n2 then some (b + 1 + j) else none) else none) else μ.R b j, μ.nx + 1 + n1 * (1 + n2))
def mthrow (x bc bs : Nat) (Ex : Nat → Nat → MP) : MP := fun μ => 1 ≤ bc ∧ 6 ≤ bs ∧ Ex x μ.nx μ.gap
def mthrowO (x a : Nat) (Ex : Nat → Nat → MP) : MP := fun μ => μ.ty a = some (.obj 6) ∧ x = 4 ∧ Ex x a μ
def mdisp (a : Nat) (alts : List (Nat × MP)) : MP := fun μ => ∃ c P, μ.ty a = some (.obj c) ∧ alts.lookup c = some P ∧ P μ
def msval (sK : Nat → Nat) (a : Nat) (f : Nat → MP) : MP := mex fun i => mand (i < 16 ∧ a = sK i) (f (sK (16 + i)))
def mscod (sK : Nat → Nat) (a : Nat) (P1 : MP) : MP := mex fun i => mand (i < 16 ∧ a = sK i) P1
def mslen (sK : Nat → Nat) (v : Nat) (f : Int → MP) : MP := mex fun i => mand (i < 16 ∧ v = sK (16 + i)) (f (jsl.getD i 0 : Nat))
def mschr (sK : Nat → Nat) (v : Nat) (k : Int) (f : Int → MP) : MP := mex fun i => mand (i < 16 ∧ v = sK (16 + i) ∧ 0 ≤ k ∧ k < (jsl.getD i 0 : Nat)) (f ((jsb.getD i []).getD k.toNat 0).toInt)
def msobj (sK : Nat → Nat) (b : Nat) (P1 : MP) : MP := mand (∃ i : Nat, i < 16 ∧ b = sK i) P1
def mscr (Ln : Nat) (xs : Nat → Int32) (i : Int) (f : Int → MP) : MP := mand (0 ≤ i ∧ i < Ln) (f (xs i.toNat).toInt)
/-! the lemmas -/
theorem SM.bot {P : JP} : SM P mbot := fun _ h => h.elim
theorem sm_if {c c' : Prop} {P1 P2 : JP} {M1 M2 : MP} (hc : c ↔ c') (h1 : SM P1 M1) (h2 : SM P2 M2) : SM (jif c P1 P2) (mif c' M1 M2) := fun σ h => ⟨fun z => h1 σ (h.1 (hc.mp z)), fun z => h2 σ (h.2 (fun q => z (hc.mpr q)))⟩
theorem sm_and {c c' : Prop} {P1 : JP} {M1 : MP} (hc : c' → c) (h1 : SM P1 M1) : SM (jand c P1) (mand c' M1) := fun σ h => ⟨hc h.1, h1 σ h.2⟩
theorem sm_ex {f : Nat → JP} {g : Nat → MP} (h : ∀ n, SM (f n) (g n)) : SM (jex f) (mex g) := fun σ ⟨n, z⟩ => ⟨n, h n σ z⟩
theorem sm_bud {bc bs : Nat} {f : Nat → Nat → JP} {g : Nat → Nat → MP} (h : ∀ mc ms, SM (f mc ms) (g mc ms)) : SM (jbud bc bs f) (mbud bc bs g) := fun σ ⟨mc, ms, a, b, z⟩ => ⟨mc, ms, a, b, h mc ms σ z⟩
theorem sm_some {r : Option Nat} {f : Nat → JP} {g : Nat → MP} (h : ∀ a, SM (f a) (g a)) : SM (jsome r f) (msome r g) := by
  rintro σ ⟨a, rfl, z⟩
  exact h a σ z
theorem sm_null {r : Option Nat} {P1 P2 : JP} {M1 M2 : MP} (h1 : SM P1 M1) (h2 : SM P2 M2) : SM (jnull r P1 P2) (mnull r M1 M2) := fun σ h => ⟨fun z => h1 σ (h.1 z), fun z => h2 σ (h.2 z)⟩
theorem sm_any {f : Option Nat → JP} {g : Option Nat → MP} (h : ∀ r, SM (f r) (g r)) : SM (jany f) (many' g) := fun σ z r => h r σ (z r)
theorem oT_obj {o : Option Ob} {c : Nat} (h : oT o = some (.obj c)) : ∃ fs, o = some (.inl (c, fs)) ∧ fs.map jvk = jkd c := by
  unfold oT at h
  split at h
  · split at h
    · cases h
      exact ⟨_, rfl, by assumption⟩
    · cases h
  · split at h <;> cases h
  · cases h
theorem oT_arr {o : Option Ob} {t n : Nat} (h : oT o = some (.arr t n)) : ∃ x : vp_A, o = some (.inr (t, x)) ∧ x.1 = n ∧ aK t x = true := by
  unfold oT at h
  split at h
  · split at h <;> cases h
  · split at h
    · cases h
      exact ⟨_, rfl, rfl, by assumption⟩
    · cases h
  · cases h
theorem kd_at {fs : List Value} {c k q : Nat} (h : fs.map jvk = jkd c) (hk : (jkd c)[k]? = some q) : ∃ v, fs[k]? = some v ∧ jvk v = q := by
  rw [← h, List.getElem?_map] at hk
  cases hv : fs[k]? with
  | none => rw [hv] at hk; cases hk
  | some v => rw [hv] at hk; exact ⟨v, rfl, Option.some.inj hk⟩
theorem jvk0 {v : Value} (h : jvk v = 0) : ∃ x, v = .int x := by cases v <;> simp [jvk] at h <;> exact ⟨_, rfl⟩
theorem jvk1 {v : Value} (h : jvk v = 1) : ∃ x, v = .long x := by cases v <;> simp [jvk] at h <;> exact ⟨_, rfl⟩
theorem jvk2 {v : Value} (h : jvk v = 2) : (∃ x, v = .ref x) ∨ v = .null := by cases v <;> simp [jvk] at h <;> simp
theorem sm_getI {ci a k : Nat} {f : Int32 → JP} {g : Int → MP} (hk : (jkd ci)[k]? = some 0) (h : ∀ v, SM (f v) (g v.toInt)) : SM (jgetI ci a k f) (mgetI ci a k g) := by
  rintro σ ⟨h1, h2⟩
  obtain ⟨fs, e, hs⟩ := oT_obj (o := σ.1 a) h1
  obtain ⟨v, ev, hv⟩ := kd_at hs hk
  obtain ⟨x, rfl⟩ := jvk0 hv
  have e2 : (absH σ).I a k = x.toInt := by show oI (σ.1 a) k = _; rw [e]; show vI fs[k]? = _; rw [ev]; rfl
  rw [e2] at h2
  unfold jgetI
  rw [e]
  refine ⟨rfl, ?_⟩
  rw [ev]
  exact h x σ h2
theorem sm_getL {ci a k : Nat} {f : Int64 → JP} {g : Int → MP} (hk : (jkd ci)[k]? = some 1) (h : ∀ v, SM (f v) (g v.toInt)) : SM (jgetL ci a k f) (mgetL ci a k g) := by
  rintro σ ⟨h1, h2⟩
  obtain ⟨fs, e, hs⟩ := oT_obj (o := σ.1 a) h1
  obtain ⟨v, ev, hv⟩ := kd_at hs hk
  obtain ⟨x, rfl⟩ := jvk1 hv
  have e2 : (absH σ).I a k = x.toInt := by show oI (σ.1 a) k = _; rw [e]; show vI fs[k]? = _; rw [ev]; rfl
  rw [e2] at h2
  unfold jgetL
  rw [e]
  refine ⟨rfl, ?_⟩
  rw [ev]
  exact h x σ h2
theorem sm_getA {ci a k : Nat} {f : Nat → JP} {g : Nat → MP} (hk : (jkd ci)[k]? = some 2) (h : ∀ v, SM (f v) (g v)) : SM (jgetA ci a k f) (mgetA ci a k g) := by
  rintro σ ⟨h1, w, h3, h2⟩
  obtain ⟨fs, e, hs⟩ := oT_obj (o := σ.1 a) h1
  obtain ⟨v, ev, hv⟩ := kd_at hs hk
  have h3 : oR (σ.1 a) k = some w := h3
  rw [e] at h3
  have h3 : vR fs[k]? = some w := h3
  rw [ev] at h3
  unfold jgetA
  rw [e]
  refine ⟨rfl, ?_⟩
  rw [ev]
  rcases jvk2 hv with ⟨x, rfl⟩ | rfl
  · cases h3
    exact h _ σ h2
  · cases h3
theorem sm_getO {ci a k : Nat} {f : Option Nat → JP} {g : Option Nat → MP} (hk : (jkd ci)[k]? = some 2) (h : ∀ v, SM (f v) (g v)) : SM (jgetO ci a k f) (mgetO ci a k g) := by
  rintro σ ⟨h1, h2⟩
  obtain ⟨fs, e, hs⟩ := oT_obj (o := σ.1 a) h1
  obtain ⟨v, ev, hv⟩ := kd_at hs hk
  have e2 : (absH σ).R a k = vR (some v) := by show oR (σ.1 a) k = _; rw [e]; show vR fs[k]? = _; rw [ev]
  rw [e2] at h2
  unfold jgetO
  rw [e]
  refine ⟨rfl, ?_⟩
  rw [ev]
  rcases jvk2 hv with ⟨x, rfl⟩ | rfl
  · exact h _ σ h2
  · exact h _ σ h2
theorem Mu.ext' {μ ν : Mu} (h1 : μ.ty = ν.ty) (h2 : μ.I = ν.I) (h3 : μ.R = ν.R) (h4 : μ.nx = ν.nx) : μ = ν := Prod.ext h1 (Prod.ext h2 (Prod.ext h3 h4))
theorem abs_put {σ : Hp} {a c k : Nat} {fs : List Value} {v w : Value} (e : σ.1 a = some (.inl (c, fs))) (hs : fs.map jvk = jkd c) (hw : fs[k]? = some w) (hv : jvk v = jvk w) : absH (jset σ a (.inl (c, fs.set k v))) = ((absH σ).ty, up2 (absH σ).I a k (vI (some v)), up2 (absH σ).R a k (vR (some v)), σ.2) := by
  have hk : k < fs.length := (List.getElem?_eq_some_iff.mp hw).1
  have hm : (fs.set k v).map jvk = jkd c := by
    rw [← hs, List.map_set, hv]
    apply List.ext_getElem?
    intro i
    rw [List.getElem?_set]
    split
    · rename_i hi
      subst hi
      simp [hk]
      rw [List.getElem?_eq_getElem hk] at hw
      rw [Option.some.inj hw]
    · rfl
  refine Mu.ext' (funext fun b => ?_) (funext fun b => funext fun j => ?_) (funext fun b => funext fun j => ?_) rfl
  · show oT ((jset σ a _).1 b) = oT (σ.1 b)
    unfold jset
    by_cases hb : b = a
    · subst hb
      simp only [if_pos]
      rw [e]
      show (if _ then _ else _) = (if _ then _ else _)
      rw [if_pos hm, if_pos hs]
    · simp only [if_neg hb]
  · show oI ((jset σ a _).1 b) j = up2 (fun a => oI (σ.1 a)) a k _ b j
    unfold jset up2
    by_cases hb : b = a
    · subst hb
      simp only [if_pos]
      show vI (fs.set k v)[j]? = _
      rw [List.getElem?_set]
      by_cases hj : j = k
      · subst hj
        simp [hk]
      · rw [if_neg (fun q => hj q.symm), if_neg (fun q => hj q.2), e]
        rfl
    · simp only [if_neg hb]
      rw [if_neg (fun q => hb q.1)]
  · show oR ((jset σ a _).1 b) j = up2 (fun a => oR (σ.1 a)) a k _ b j
    unfold jset up2
    by_cases hb : b = a
    · subst hb
      simp only [if_pos]
      show vR (fs.set k v)[j]? = _
      rw [List.getElem?_set]
      by_cases hj : j = k
      · subst hj
        simp [hk]
      · rw [if_neg (fun q => hj q.symm), if_neg (fun q => hj q.2), e]
        rfl
    · simp only [if_neg hb]
      rw [if_neg (fun q => hb q.1)]
theorem up2_same {α : Type} {f : Nat → Nat → α} {a k : Nat} {v : α} (h : f a k = v) : up2 f a k v = f := by
  funext b j
  unfold up2
  split
  · rename_i q
    rw [q.1, q.2, h]
  · rfl
theorem sm_putI {ci a k : Nat} {x : Int32} {X : Int} {f : JP} {g : MP} (hk : (jkd ci)[k]? = some 0) (hx : x.toInt = X) (h : SM f g) : SM (jput ci a k (.int x) f) (mputI ci a k X g) := by
  rintro σ ⟨h1, h2⟩
  obtain ⟨fs, e, hs⟩ := oT_obj (o := σ.1 a) h1
  obtain ⟨v, ev, hv⟩ := kd_at hs hk
  unfold jput
  rw [e]
  refine ⟨rfl, (List.getElem?_eq_some_iff.mp ev).1, h _ ?_⟩
  rw [abs_put e hs ev (by rw [hv]; rfl)]
  obtain ⟨y, rfl⟩ := jvk0 hv
  have hR : (absH σ).R a k = none := by show oR (σ.1 a) k = _; rw [e]; show vR fs[k]? = _; rw [ev]; rfl
  show g (_, _, up2 _ a k none, _)
  rw [up2_same hR]
  subst hx
  exact h2
theorem sm_putL {ci a k : Nat} {x : Int64} {X : Int} {f : JP} {g : MP} (hk : (jkd ci)[k]? = some 1) (hx : x.toInt = X) (h : SM f g) : SM (jput ci a k (.long x) f) (mputI ci a k X g) := by
  rintro σ ⟨h1, h2⟩
  obtain ⟨fs, e, hs⟩ := oT_obj (o := σ.1 a) h1
  obtain ⟨v, ev, hv⟩ := kd_at hs hk
  unfold jput
  rw [e]
  refine ⟨rfl, (List.getElem?_eq_some_iff.mp ev).1, h _ ?_⟩
  rw [abs_put e hs ev (by rw [hv]; rfl)]
  obtain ⟨y, rfl⟩ := jvk1 hv
  have hR : (absH σ).R a k = none := by show oR (σ.1 a) k = _; rw [e]; show vR fs[k]? = _; rw [ev]; rfl
  show g (_, _, up2 _ a k none, _)
  rw [up2_same hR]
  subst hx
  exact h2
theorem sm_putZ {ci a k : Nat} {x : Int32} {X : Int} {f : JP} {g : MP} (hk : (jkd ci)[k]? = some 0) (hx : x.toInt = X) (h : SM f g) : SM (jputZ ci a k x f) (mputZ ci a k X g) := by
  rintro σ ⟨h0, h1⟩
  refine ⟨?_, sm_putI hk hx h σ h1⟩
  subst hx
  rcases h0 with h0 | h0
  · exact Or.inl (Int32.toInt_inj.mp (by rw [h0]; rfl))
  · exact Or.inr (Int32.toInt_inj.mp (by rw [h0]; rfl))
theorem sm_putR {ci a k : Nat} {v : Value} {r : Option Nat} {f : JP} {g : MP} (hk : (jkd ci)[k]? = some 2) (hv : v = va_rf r) (h : SM f g) : SM (jput ci a k v f) (mputR ci a k r g) := by
  rintro σ ⟨h1, h2⟩
  obtain ⟨fs, e, hs⟩ := oT_obj (o := σ.1 a) h1
  obtain ⟨w, ev, hw⟩ := kd_at hs hk
  unfold jput
  rw [e]
  refine ⟨rfl, (List.getElem?_eq_some_iff.mp ev).1, h _ ?_⟩
  subst hv
  rw [abs_put e hs ev (by rw [hw]; cases r <;> rfl)]
  have hI : (absH σ).I a k = 0 := by
    show oI (σ.1 a) k = _
    rw [e]
    show vI fs[k]? = _
    rw [ev]
    rcases jvk2 hw with ⟨x, rfl⟩ | rfl <;> rfl
  have e1 : vI (some (va_rf r)) = 0 := by cases r <;> rfl
  have e2 : vR (some (va_rf r)) = r := by cases r <;> rfl
  rw [e1, e2, up2_same hI]
  exact h2
theorem aK_lt {t : Nat} {x : vp_A} (h : aK t x = true) : x.1 < 2 ^ 31 := by
  unfold aK at h
  simp only [Bool.and_eq_true, decide_eq_true_eq] at h
  exact h.1.1
theorem aK_le {t : Nat} {x : vp_A} (h : aK t x = true) : t ≤ 12 := by
  unfold aK at h
  simp only [Bool.and_eq_true, decide_eq_true_eq] at h
  exact h.1.2
theorem aK_int {t : Nat} {x : vp_A} (h : aK t x = true) (ht : t ≤ 2) : ∃ g, x = (x.1, .inl g) := by
  unfold aK at h
  obtain ⟨n, g⟩ := x
  simp only [Bool.and_eq_true, decide_eq_true_eq] at h
  have h2 := h.2
  match g, h2 with
  | .inl g, _ => exact ⟨g, rfl⟩
  | .inr (.inl g), h2 => simp at h2; omega
  | .inr (.inr (.inl g)), h2 => cases h2
  | .inr (.inr (.inr (.inl g))), h2 => cases h2
  | .inr (.inr (.inr (.inr g))), h2 => simp at h2; omega
theorem aK_long {x : vp_A} (h : aK 3 x = true) : ∃ g, x = (x.1, .inr (.inl g)) := by
  unfold aK at h
  obtain ⟨n, g⟩ := x
  simp only [Bool.and_eq_true, decide_eq_true_eq] at h
  have h2 := h.2
  match g, h2 with
  | .inl g, h2 => simp at h2
  | .inr (.inl g), h2 => exact ⟨g, rfl⟩
  | .inr (.inr (.inl g)), h2 => cases h2
  | .inr (.inr (.inr (.inl g))), h2 => cases h2
  | .inr (.inr (.inr (.inr g))), h2 => simp at h2
theorem aK_ref {t : Nat} {x : vp_A} (h : aK t x = true) (ht : 4 ≤ t) : ∃ g, x = (x.1, .inr (.inr (.inr (.inr g)))) := by
  unfold aK at h
  obtain ⟨n, g⟩ := x
  simp only [Bool.and_eq_true, decide_eq_true_eq] at h
  have h2 := h.2
  match g, h2 with
  | .inl g, h2 => simp at h2; omega
  | .inr (.inl g), h2 => simp at h2; omega
  | .inr (.inr (.inl g)), h2 => cases h2
  | .inr (.inr (.inr (.inl g))), h2 => cases h2
  | .inr (.inr (.inr (.inr g))), h2 => exact ⟨g, rfl⟩
theorem in_of {i : Int32} {I : Int} {n : Nat} (hi : i.toInt = I) (h0 : 0 ≤ I) (h1 : I < n) : vp_in i n ∧ i.toNatClampNeg = I.toNat := by
  have e : i.toNatClampNeg = I.toNat := by rw [← hi]; rfl
  refine ⟨fun h => ?_, e⟩
  rcases h with h | h
  · have := Int32.lt_iff_toInt_lt.mp h
    rw [hi] at this
    have e0 : (0 : Int32).toInt = 0 := rfl
    omega
  · omega
theorem sm_aldI {t a : Nat} {i : Int32} {I : Int} {f : Int32 → JP} {g : Int → MP} (ht : t ≤ 2) (hi : i.toInt = I) (h : ∀ v, SM (f v) (g v.toInt)) : SM (jaldI t a i f) (maldI t a I g) := by
  rintro σ ⟨n, h1, h2, h3, h4⟩
  obtain ⟨x, e, en, hx⟩ := oT_arr (o := σ.1 a) h1
  obtain ⟨q, ex⟩ := aK_int hx ht
  obtain ⟨i1, i2⟩ := in_of hi h2 h3
  have e2 : (absH σ).I a I.toNat = (q I.toNat).toInt := by show oI (σ.1 a) _ = _; rw [e, ex]; rfl
  rw [e2] at h4
  unfold jaldI
  rw [e, ex, en]
  exact ⟨rfl, i1, by rw [i2]; exact h _ σ h4⟩
theorem sm_aldL {a : Nat} {i : Int32} {I : Int} {f : Int64 → JP} {g : Int → MP} (hi : i.toInt = I) (h : ∀ v, SM (f v) (g v.toInt)) : SM (jaldL a i f) (maldL a I g) := by
  rintro σ ⟨n, h1, h2, h3, h4⟩
  obtain ⟨x, e, en, hx⟩ := oT_arr (o := σ.1 a) h1
  obtain ⟨q, ex⟩ := aK_long hx
  obtain ⟨i1, i2⟩ := in_of hi h2 h3
  have e2 : (absH σ).I a I.toNat = (q I.toNat).toInt := by show oI (σ.1 a) _ = _; rw [e, ex]; rfl
  rw [e2] at h4
  unfold jaldL
  rw [e, ex, en]
  exact ⟨rfl, i1, by rw [i2]; exact h _ σ h4⟩
theorem sm_aldA {t a : Nat} {i : Int32} {I : Int} {f : Nat → JP} {g : Nat → MP} (ht : 4 ≤ t) (hi : i.toInt = I) (h : ∀ v, SM (f v) (g v)) : SM (jaldA t a i f) (maldA t a I g) := by
  rintro σ ⟨n, h1, h2, h3, v, h4, h5⟩
  obtain ⟨x, e, en, hx⟩ := oT_arr (o := σ.1 a) h1
  obtain ⟨q, ex⟩ := aK_ref hx ht
  obtain ⟨i1, i2⟩ := in_of hi h2 h3
  have h4 : oR (σ.1 a) I.toNat = some v := h4
  rw [e, ex] at h4
  have h4 : q I.toNat = some v := h4
  unfold jaldA
  rw [e, ex, en]
  refine ⟨rfl, i1, ?_⟩
  rw [i2, h4]
  exact h _ σ h5
theorem abs_arr {σ : Hp} {a t : Nat} {x y : vp_A} (e : σ.1 a = some (.inr (t, x))) (hx : aK t x = true) (hy : aK t y = true) (hn : y.1 = x.1) : absH (jset σ a (.inr (t, y))) = ((absH σ).ty, (fun b j => if b = a then aI y j else (absH σ).I b j), (fun b j => if b = a then aR y j else (absH σ).R b j), σ.2) := by
  refine Mu.ext' (funext fun b => ?_) (funext fun b => funext fun j => ?_) (funext fun b => funext fun j => ?_) rfl
  · show oT ((jset σ a _).1 b) = oT (σ.1 b)
    unfold jset
    by_cases hb : b = a
    · subst hb
      simp only [if_pos]
      rw [e]
      show (if _ then _ else _) = (if _ then _ else _)
      rw [if_pos hy, if_pos hx, hn]
    · simp only [if_neg hb]
  · show oI ((jset σ a _).1 b) j = (if b = a then _ else oI (σ.1 b) j)
    unfold jset
    by_cases hb : b = a
    · simp only [if_pos hb]; rfl
    · simp only [if_neg hb]
  · show oR ((jset σ a _).1 b) j = (if b = a then _ else oR (σ.1 b) j)
    unfold jset
    by_cases hb : b = a
    · simp only [if_pos hb]; rfl
    · simp only [if_neg hb]
theorem SM.arrI {σ : Hp} {a t n I : Nat} {q : Nat → Int32} {x : Int32} {g : MP} (e : σ.1 a = some (.inr (t, n, .inl q))) (hx : aK t (n, .inl q) = true) (h2 : g ((absH σ).putI a I x.toInt)) : g (absH (jset σ a (.inr (t, n, .inl (upd q I x))))) := by
  have hy : aK t (n, .inl (upd q I x)) = true := hx
  rw [abs_arr (y := (n, .inl (upd q I x))) e hx hy rfl]
  have : ((absH σ).putI a I x.toInt) = ((absH σ).ty, (fun b j => if b = a then aI (n, .inl (upd q I x)) j else (absH σ).I b j), (fun b j => if b = a then aR (n, .inl (upd q I x)) j else (absH σ).R b j), σ.2) := by
    refine Mu.ext' rfl (funext fun b => funext fun j => ?_) (funext fun b => funext fun j => ?_) rfl
    · show up2 (absH σ).I a I _ b j = (if b = a then _ else _)
      unfold up2
      by_cases hb : b = a
      · subst hb
        simp only [true_and, if_pos]
        show _ = (upd q I x j).toInt
        unfold upd
        by_cases hj : j = I
        · simp [hj]
        · simp only [if_neg hj]
          show oI (σ.1 b) j = _
          rw [e]
          rfl
      · simp only [if_neg hb]
        rw [if_neg (fun z => hb z.1)]
    · show oR (σ.1 b) j = (if b = a then _ else oR (σ.1 b) j)
      by_cases hb : b = a
      · subst hb
        rw [if_pos rfl, e]
        rfl
      · rw [if_neg hb]
  rw [← this]
  exact h2
theorem sm_astI {a : Nat} {i x : Int32} {I X : Int} {f : JP} {g : MP} (hi : i.toInt = I) (hx : x.toInt = X) (h : SM f g) : SM (jastI a i x f) (mastI a I X g) := by
  rintro σ ⟨n, h1, h2, h3, h4⟩
  obtain ⟨y, e, en, hy⟩ := oT_arr (o := σ.1 a) h1
  obtain ⟨q, ex⟩ := aK_int hy (by omega)
  obtain ⟨i1, i2⟩ := in_of hi h2 h3
  subst hx
  rw [ex] at e hy
  unfold jastI
  rw [e]
  refine ⟨rfl, by rw [en]; exact i1, h _ ?_⟩
  rw [i2]
  exact SM.arrI e hy h4
theorem sm_astZ {a : Nat} {i x : Int32} {I X : Int} {f : JP} {g : MP} (hi : i.toInt = I) (hx : x.toInt = X) (h : SM f g) : SM (jastZ a i x f) (mastZ a I X g) := by
  rintro σ ⟨n, h1, h2, h3, h4⟩
  obtain ⟨y, e, en, hy⟩ := oT_arr (o := σ.1 a) h1
  obtain ⟨q, ex⟩ := aK_int hy (by omega)
  obtain ⟨i1, i2⟩ := in_of hi h2 h3
  subst hx
  rw [ex] at e hy
  unfold jastZ
  rw [e]
  refine ⟨rfl, by rw [en]; exact i1, h _ ?_⟩
  rw [i2]
  unfold mnZ at h4
  rw [Int32.ofInt_toInt] at h4
  exact SM.arrI e hy h4
theorem sm_astB {a : Nat} {i x : Int32} {I X : Int} {f : JP} {g : MP} (hi : i.toInt = I) (hx : x.toInt = X) (h : SM f g) : SM (jastB a i x f) (mastB a I X g) := by
  rintro σ ⟨n, h1, h2, h3, h4⟩
  obtain ⟨y, e, en, hy⟩ := oT_arr (o := σ.1 a) h1
  obtain ⟨q, ex⟩ := aK_int hy (by omega)
  obtain ⟨i1, i2⟩ := in_of hi h2 h3
  subst hx
  rw [ex] at e hy
  unfold jastB
  rw [e]
  refine ⟨rfl, by rw [en]; exact i1, h _ ?_⟩
  rw [i2]
  unfold mnB at h4
  rw [Int32.ofInt_toInt] at h4
  exact SM.arrI e hy h4
theorem sm_astL {a : Nat} {i : Int32} {x : Int64} {I X : Int} {f : JP} {g : MP} (hi : i.toInt = I) (hx : x.toInt = X) (h : SM f g) : SM (jastL a i x f) (mastL a I X g) := by
  rintro σ ⟨n, h1, h2, h3, h4⟩
  obtain ⟨y, e, en, hy⟩ := oT_arr (o := σ.1 a) h1
  obtain ⟨q, ex⟩ := aK_long hy
  obtain ⟨i1, i2⟩ := in_of hi h2 h3
  subst hx
  rw [ex] at e hy
  unfold jastL
  rw [e]
  refine ⟨rfl, by rw [en]; exact i1, h _ ?_⟩
  rw [i2]
  have hy' : aK 3 (y.1, .inr (.inl (vp_updL q I.toNat x))) = true := hy
  rw [abs_arr (y := (y.1, .inr (.inl (vp_updL q I.toNat x)))) e hy hy' rfl]
  have : ((absH σ).putI a I.toNat x.toInt) = ((absH σ).ty, (fun b j => if b = a then aI (y.1, .inr (.inl (vp_updL q I.toNat x))) j else (absH σ).I b j), (fun b j => if b = a then aR (y.1, .inr (.inl (vp_updL q I.toNat x))) j else (absH σ).R b j), σ.2) := by
    refine Mu.ext' rfl (funext fun b => funext fun j => ?_) (funext fun b => funext fun j => ?_) rfl
    · show up2 (absH σ).I a I.toNat _ b j = (if b = a then _ else _)
      unfold up2
      by_cases hb : b = a
      · subst hb
        simp only [true_and, if_pos]
        show _ = (vp_updL q I.toNat x j).toInt
        unfold vp_updL
        by_cases hj : j = I.toNat
        · simp [hj]
        · simp only [if_neg hj]
          show oI (σ.1 b) j = _
          rw [e]
          rfl
      · simp only [if_neg hb]
        rw [if_neg (fun z => hb z.1)]
    · show oR (σ.1 b) j = (if b = a then _ else oR (σ.1 b) j)
      by_cases hb : b = a
      · subst hb
        rw [if_pos rfl, e]
        rfl
      · rw [if_neg hb]
  rw [← this]
  exact h4
theorem SM.arrR {σ : Hp} {a t n I v : Nat} {q : Nat → Option Nat} {g : MP} (e : σ.1 a = some (.inr (t, n, .inr (.inr (.inr (.inr q)))))) (hx : aK t (n, .inr (.inr (.inr (.inr q)))) = true) (h2 : g ((absH σ).putR a I (some v))) : g (absH (jset σ a (.inr (t, n, .inr (.inr (.inr (.inr (va_up q I (some v))))))))) := by
  have hy : aK t (n, .inr (.inr (.inr (.inr (va_up q I (some v)))))) = true := hx
  rw [abs_arr (y := (n, .inr (.inr (.inr (.inr (va_up q I (some v))))))) e hx hy rfl]
  have : ((absH σ).putR a I (some v)) = ((absH σ).ty, (fun b j => if b = a then aI (n, .inr (.inr (.inr (.inr (va_up q I (some v)))))) j else (absH σ).I b j), (fun b j => if b = a then aR (n, .inr (.inr (.inr (.inr (va_up q I (some v)))))) j else (absH σ).R b j), σ.2) := by
    refine Mu.ext' rfl (funext fun b => funext fun j => ?_) (funext fun b => funext fun j => ?_) rfl
    · show oI (σ.1 b) j = (if b = a then _ else oI (σ.1 b) j)
      by_cases hb : b = a
      · subst hb
        rw [if_pos rfl, e]
        rfl
      · rw [if_neg hb]
    · show up2 (absH σ).R a I _ b j = (if b = a then _ else _)
      unfold up2
      by_cases hb : b = a
      · subst hb
        simp only [true_and, if_pos]
        show _ = va_up q I (some v) j
        unfold va_up
        by_cases hj : j = I
        · simp [hj]
        · simp only [if_neg hj]
          show oR (σ.1 b) j = _
          rw [e]
          rfl
      · simp only [if_neg hb]
        rw [if_neg (fun z => hb z.1)]
  rw [← this]
  exact h2
theorem sm_astA {t ci a v : Nat} {i : Int32} {I : Int} {f : JP} {g : MP} (ht : 4 ≤ t) (hi : i.toInt = I) (h : SM f g) : SM (jastA t ci a i v f) (mastA t ci a I v g) := by
  rintro σ ⟨n, h1, h2, h3, h5, h4⟩
  obtain ⟨y, e, en, hy⟩ := oT_arr (o := σ.1 a) h1
  obtain ⟨q, ex⟩ := aK_ref hy ht
  obtain ⟨i1, i2⟩ := in_of hi h2 h3
  obtain ⟨fs, ev, -⟩ := oT_obj (o := σ.1 v) h5
  rw [ex] at e hy
  unfold jastA
  rw [e, ev]
  refine ⟨rfl, rfl, by rw [en]; exact i1, h _ ?_⟩
  rw [i2]
  exact SM.arrR e hy h4
theorem sm_astX {t a v : Nat} {i : Int32} {I : Int} {f : JP} {g : MP} (ht : 4 ≤ t) (hi : i.toInt = I) (h : SM f g) : SM (jastX t a i v f) (mastX t a I v g) := fun σ ⟨ci, q, z⟩ => ⟨ci, q, sm_astA ht hi h σ z⟩
theorem sm_astS {sK : Nat → Nat} {a v : Nat} {i : Int32} {I : Int} {f : JP} {g : MP} (hi : i.toInt = I) (h : SM f g) : SM (jastS sK a i v f) (mastS sK a I v g) := by
  rintro σ ⟨n, h1, h2, h3, h5, h4⟩
  obtain ⟨y, e, en, hy⟩ := oT_arr (o := σ.1 a) h1
  obtain ⟨q, ex⟩ := aK_ref hy (by omega)
  obtain ⟨i1, i2⟩ := in_of hi h2 h3
  rw [ex] at e hy
  unfold jastS
  rw [e]
  refine ⟨rfl, h5, by rw [en]; exact i1, h _ ?_⟩
  rw [i2]
  exact SM.arrR e hy h4
theorem sm_alen {a : Nat} {f : Int32 → JP} {g : Int → MP} (h : ∀ v, SM (f v) (g v.toInt)) : SM (jalen a f) (malen a g) := by
  rintro σ ⟨t, n, h1, h2⟩
  obtain ⟨y, e, en, hy⟩ := oT_arr (o := σ.1 a) h1
  have hl := aK_lt hy
  obtain ⟨n', y⟩ := y
  cases en
  unfold jalen
  rw [e]
  refine ⟨aK_le hy, h _ σ ?_⟩
  rw [nI_toInt hl]
  exact h2
theorem abs_make {σ : Hp} {o : Ob} {T : Ty} (hT : oT (some o) = some T) (hI : ∀ k, oI (some o) k = 0) (hR : ∀ k, oR (some o) k = none) : absH (jall σ o) = (absH σ).make T := by
  refine Mu.ext' (funext fun b => ?_) (funext fun b => funext fun j => ?_) (funext fun b => funext fun j => ?_) rfl
  · show oT ((jall σ o).1 b) = (if b = σ.2 then _ else oT (σ.1 b))
    unfold jall
    by_cases hb : b = σ.2
    · simp only [if_pos hb]; exact hT
    · simp only [if_neg hb]
  · show oI ((jall σ o).1 b) j = (if b = σ.2 then _ else oI (σ.1 b) j)
    unfold jall
    by_cases hb : b = σ.2
    · simp only [if_pos hb]; exact hI j
    · simp only [if_neg hb]
  · show oR ((jall σ o).1 b) j = (if b = σ.2 then _ else oR (σ.1 b) j)
    unfold jall
    by_cases hb : b = σ.2
    · simp only [if_pos hb]; exact hR j
    · simp only [if_neg hb]
def jdf0 (v : Value) : Bool := match v with
  | .int x => decide (x = 0)
  | .long x => decide (x = 0)
  | .null => true
  | _ => false
theorem df0_at {fs : List Value} (h : fs.all jdf0 = true) (k : Nat) : vI fs[k]? = 0 ∧ vR fs[k]? = none := by
  cases hv : fs[k]? with
  | none => exact ⟨rfl, rfl⟩
  | some v =>
    have := List.all_eq_true.mp h v (List.mem_of_getElem? hv)
    cases v <;> simp [jdf0] at this
    · subst this; exact ⟨rfl, rfl⟩
    · subst this; exact ⟨rfl, rfl⟩
    · exact ⟨rfl, rfl⟩
theorem sm_new {ci N bc bs : Nat} {fs : List Value} {f : Nat → JP} {g : Nat → MP} (hs : fs.map jvk = jkd ci) (h0 : fs.all jdf0 = true) (h : ∀ v, SM (f v) (g v)) : SM (jnew ci N fs bc bs f) (mnew ci N bc bs g) := by
  rintro σ ⟨h1, h2, h3⟩
  refine ⟨h1, h2, h _ _ ?_⟩
  rw [abs_make (o := .inl (ci, fs)) (T := .obj ci) (by show (if _ then _ else _) = _; rw [if_pos hs]) (fun k => (df0_at h0 k).1) (fun k => (df0_at h0 k).2)]
  exact h3
theorem new_of {i : Int32} {I : Int} (hi : i.toInt = I) (h0 : 0 ≤ I) (h1 : I ≤ 60000000) : i.toNatClampNeg = I.toNat ∧ ¬ i < 0 ∧ i.toNatClampNeg ≤ 60000000 := by
  have e : i.toNatClampNeg = I.toNat := by rw [← hi]; rfl
  refine ⟨e, fun h => ?_, by omega⟩
  have := Int32.lt_iff_toInt_lt.mp h
  rw [hi] at this
  have e0 : (0 : Int32).toInt = 0 := rfl
  omega
theorem sm_newI {t bc bs : Nat} {i : Int32} {I : Int} {f : Nat → JP} {g : Nat → MP} (ht : t ≤ 2) (hi : i.toInt = I) (h : ∀ v, SM (f v) (g v)) : SM (jnewI t i bc bs f) (mnewT t I bc bs g) := by
  rintro σ ⟨h1, h2, h3, h4, h5⟩
  obtain ⟨e, e2, e3⟩ := new_of hi h3 h4
  refine ⟨h1, by omega, e2, e3, h _ _ ?_⟩
  rw [e, abs_make (T := .arr t I.toNat) (by show (if aK t (I.toNat, .inl _) = true then _ else _) = _; rw [if_pos]; unfold aK; simp; omega) (fun k => rfl) (fun k => rfl)]
  exact h5
theorem sm_newL {bc bs : Nat} {i : Int32} {I : Int} {f : Nat → JP} {g : Nat → MP} (hi : i.toInt = I) (h : ∀ v, SM (f v) (g v)) : SM (jnewL i bc bs f) (mnewT 3 I bc bs g) := by
  rintro σ ⟨h1, h2, h3, h4, h5⟩
  obtain ⟨e, e2, e3⟩ := new_of hi h3 h4
  refine ⟨h1, by omega, e2, e3, h _ _ ?_⟩
  rw [e, abs_make (T := .arr 3 I.toNat) (by show (if aK 3 (I.toNat, .inr (.inl _)) = true then _ else _) = _; rw [if_pos]; unfold aK; simp; omega) (fun k => rfl) (fun k => rfl)]
  exact h5
theorem sm_newA {t bc bs : Nat} {i : Int32} {I : Int} {f : Nat → JP} {g : Nat → MP} (ht : 4 ≤ t ∧ t ≤ 12) (hi : i.toInt = I) (h : ∀ v, SM (f v) (g v)) : SM (jnewA t i bc bs f) (mnewT t I bc bs g) := by
  rintro σ ⟨h1, h2, h3, h4, h5⟩
  obtain ⟨e, e2, e3⟩ := new_of hi h3 h4
  refine ⟨h1, by omega, e2, e3, h _ _ ?_⟩
  rw [e, abs_make (T := .arr t I.toNat) (by show (if aK t (I.toNat, .inr (.inr (.inr (.inr _)))) = true then _ else _) = _; rw [if_pos]; unfold aK; simp; omega) (fun k => rfl) (fun k => rfl)]
  exact h5
theorem sm_obj {ci a : Nat} {f : JP} {g : MP} (h : SM f g) : SM (jobj ci a f) (mobj ci a g) := by
  rintro σ ⟨h1, h2⟩
  obtain ⟨fs, e, -⟩ := oT_obj (o := σ.1 a) h1
  refine ⟨by rw [e], h σ h2⟩
theorem sm_throw {x bc bs : Nat} {Ex Em : Nat → Nat → _} (h : ∀ x q, SM (Ex x q) (Em x q)) : SM (jthrow x bc bs Ex) (mthrow x bc bs Em) := fun σ ⟨h1, h2, h3⟩ => ⟨h1, h2, h x σ.2 (jgap σ) h3⟩
theorem sm_throwO {x a : Nat} {Ex Em : Nat → Nat → _} (h : ∀ x q, SM (Ex x q) (Em x q)) : SM (jthrowO x a Ex) (mthrowO x a Em) := by
  rintro σ ⟨h1, h2, h3⟩
  obtain ⟨fs, e, -⟩ := oT_obj (o := σ.1 a) h1
  exact ⟨by rw [e], h2, h x a σ h3⟩
theorem sm_disp0 {a : Nat} : SM (jdisp a []) (mdisp a []) := by
  rintro σ ⟨c, P, h1, h2, h3⟩
  cases h2
theorem sm_dispC {a ci : Nat} {P : JP} {M : MP} {l : List (Nat × JP)} {k : List (Nat × MP)} (h : SM P M) (h2 : SM (jdisp a l) (mdisp a k)) : SM (jdisp a ((ci, P) :: l)) (mdisp a ((ci, M) :: k)) := by
  rintro σ ⟨c, P', h3, h4, h5⟩
  obtain ⟨fs, e, -⟩ := oT_obj (o := σ.1 a) h3
  have h2 := h2 σ
  unfold jdisp at h2 ⊢
  rw [e] at h2 ⊢
  simp only [List.lookup] at h4 h2 ⊢
  by_cases hc : c = ci
  · subst hc
    simp only [beq_self_eq_true] at h4 ⊢
    cases h4
    exact h σ h5
  · rw [show (c == ci) = false by simpa using hc] at h4 ⊢
    exact h2 ⟨c, P', h3, h4, h5⟩
theorem sm_sval {sK : Nat → Nat} {a : Nat} {f : Nat → JP} {g : Nat → MP} (h : ∀ v, SM (f v) (g v)) : SM (jsval sK a f) (msval sK a g) := sm_ex fun _ => sm_and id (h _)
theorem sm_scod {sK : Nat → Nat} {a : Nat} {f : JP} {g : MP} (h : SM f g) : SM (jscod sK a f) (mscod sK a g) := sm_ex fun _ => sm_and id h
theorem jsl_lt' (i : Nat) : jsl.getD i 0 < 2 ^ 31 := by
  by_cases h : i < 16
  · exact jsl_lt i h
  · rw [List.getD_eq_getElem?_getD, List.getElem?_eq_none (by show 16 ≤ i; omega)]; decide
theorem sm_slen {sK : Nat → Nat} {v : Nat} {f : Int32 → JP} {g : Int → MP} (h : ∀ v, SM (f v) (g v.toInt)) : SM (jslen sK v f) (mslen sK v g) := sm_ex fun i => sm_and id (by
  have := h (nI (jsl.getD i 0))
  rw [nI_toInt (jsl_lt' i)] at this
  exact this)
theorem sm_schr {sK : Nat → Nat} {v : Nat} {k : Int32} {K : Int} {f : Int32 → JP} {g : Int → MP} (hk : k.toInt = K) (h : ∀ v, SM (f v) (g v.toInt)) : SM (jschr sK v k f) (mschr sK v K g) := by
  rintro σ ⟨i, ⟨h1, h2, h3, h4⟩, h5⟩
  obtain ⟨i1, i2⟩ := in_of hk h3 h4
  exact ⟨i, ⟨h1, h2, i1⟩, by rw [i2]; exact h _ σ h5⟩
theorem sm_sobj {sK : Nat → Nat} {b : Nat} {f : JP} {g : MP} (h : SM f g) : SM (jsobj sK b f) (msobj sK b g) := sm_and id h
theorem sm_scr {Ln : Nat} {xs : Nat → Int32} {i : Int32} {I : Int} {f : Int32 → JP} {g : Int → MP} (hi : i.toInt = I) (h : ∀ v, SM (f v) (g v.toInt)) : SM (jscr Ln xs i f) (mscr Ln xs I g) := by
  rintro σ ⟨⟨h1, h2⟩, h3⟩
  obtain ⟨i1, i2⟩ := in_of hi h1 h2
  exact ⟨i1, by rw [i2]; exact h _ σ h3⟩
theorem nat_of {i : Int32} {I : Int} (hi : i.toInt = I) (h0 : 0 ≤ I) : i.toNatClampNeg = I.toNat ∧ ¬ i < 0 := by
  have e : i.toNatClampNeg = I.toNat := by rw [← hi]; rfl
  refine ⟨e, fun h => ?_⟩
  have := Int32.lt_iff_toInt_lt.mp h
  rw [hi] at this
  have e0 : (0 : Int32).toInt = 0 := rfl
  omega
theorem sm_cpyI {a0 a : Nat} {sp dp n : Int32} {SP DP N : Int} {f : JP} {g : MP} (h1 : sp.toInt = SP) (h2 : dp.toInt = DP) (h3 : n.toInt = N) (h : SM f g) : SM (jcpyI a0 sp a dp n f) (mcpyI a0 SP a DP N g) := by
  rintro σ ⟨n0, n1, t0, t1, q1, q2, q3, q4, q5, q6⟩
  obtain ⟨x0, e0, en0, k0⟩ := oT_arr (o := σ.1 a0) t0
  obtain ⟨x1, e1, en1, k1⟩ := oT_arr (o := σ.1 a) t1
  obtain ⟨g0, f0⟩ := aK_int k0 (by omega)
  obtain ⟨g1, f1⟩ := aK_int k1 (by omega)
  obtain ⟨a1, b1⟩ := nat_of h1 q1
  obtain ⟨a2, b2⟩ := nat_of h2 q2
  obtain ⟨a3, b3⟩ := nat_of h3 q3
  rw [f0] at e0
  rw [f1] at e1 k1
  unfold jcpyI
  rw [e0, e1]
  refine ⟨rfl, rfl, b1, b2, b3, by rw [a1, a3]; omega, by rw [a2, a3]; omega, h _ ?_⟩
  rw [a1, a2, a3]
  have hy : aK 0 (x1.1, .inl (va_cpy g0 g1 SP.toNat DP.toNat N.toNat)) = true := k1
  rw [abs_arr (y := (x1.1, .inl (va_cpy g0 g1 SP.toNat DP.toNat N.toNat))) e1 k1 hy rfl]
  have e : ((absH σ).1, (fun b k => if b = a ∧ DP.toNat ≤ k ∧ k < DP.toNat + N.toNat then (absH σ).I a0 (SP.toNat + (k - DP.toNat)) else (absH σ).I b k), (absH σ).2.2) = ((absH σ).ty, (fun b j => if b = a then aI (x1.1, .inl (va_cpy g0 g1 SP.toNat DP.toNat N.toNat)) j else (absH σ).I b j), (fun b j => if b = a then aR (x1.1, .inl (va_cpy g0 g1 SP.toNat DP.toNat N.toNat)) j else (absH σ).R b j), σ.2) := by
    refine Mu.ext' rfl (funext fun b => funext fun j => ?_) (funext fun b => funext fun j => ?_) rfl
    · show (if b = a ∧ _ then oI (σ.1 a0) _ else oI (σ.1 b) j) = (if b = a then (va_cpy g0 g1 SP.toNat DP.toNat N.toNat j).toInt else oI (σ.1 b) j)
      unfold va_cpy
      by_cases hb : b = a
      · subst hb
        rw [e0, e1]
        by_cases hj : DP.toNat ≤ j ∧ j < DP.toNat + N.toNat
        · rw [if_pos ⟨rfl, hj⟩, if_pos rfl, if_pos hj]; rfl
        · rw [if_neg (fun z => hj z.2), if_pos rfl, if_neg hj]; rfl
      · rw [if_neg hb, if_neg (fun z => hb z.1)]
    · show oR (σ.1 b) j = (if b = a then none else oR (σ.1 b) j)
      by_cases hb : b = a
      · subst hb
        rw [if_pos rfl, e1]
        rfl
      · rw [if_neg hb]
  rw [← e]
  exact q6
theorem sm_cpyA {t a0 a : Nat} {sp dp n : Int32} {SP DP N : Int} {f : JP} {g : MP} (h1 : sp.toInt = SP) (h2 : dp.toInt = DP) (h3 : n.toInt = N) (h : SM f g) : SM (jcpyA t a0 sp a dp n f) (mcpyA t a0 SP a DP N g) := by
  rintro σ ⟨n0, n1, t0, t1, ht, q1, q2, q3, q4, q5, q7, q6⟩
  obtain ⟨x0, e0, en0, k0⟩ := oT_arr (o := σ.1 a0) t0
  obtain ⟨x1, e1, en1, k1⟩ := oT_arr (o := σ.1 a) t1
  obtain ⟨g0, f0⟩ := aK_ref k0 ht
  obtain ⟨g1, f1⟩ := aK_ref k1 ht
  obtain ⟨a1, b1⟩ := nat_of h1 q1
  obtain ⟨a2, b2⟩ := nat_of h2 q2
  obtain ⟨a3, b3⟩ := nat_of h3 q3
  rw [f0] at e0
  rw [f1] at e1 k1
  unfold jcpyA
  rw [e0, e1]
  refine ⟨rfl, rfl, b1, b2, b3, by rw [a1, a3]; omega, by rw [a2, a3]; omega, fun i hi y hy => ?_, h _ ?_⟩
  · rw [a3] at hi
    rw [a1] at hy
    obtain ⟨ci, hc, hf⟩ := q7 i hi y (by show oR (σ.1 a0) _ = _; rw [e0]; exact hy)
    obtain ⟨fs, ev, -⟩ := oT_obj (o := σ.1 y) hc
    exact ⟨ci, fs, ev, hf⟩
  rw [a1, a2, a3]
  have hy : aK t (x1.1, .inr (.inr (.inr (.inr (va_cpy g0 g1 SP.toNat DP.toNat N.toNat))))) = true := k1
  rw [abs_arr (y := (x1.1, .inr (.inr (.inr (.inr (va_cpy g0 g1 SP.toNat DP.toNat N.toNat)))))) e1 k1 hy rfl]
  have e : ((absH σ).1, (absH σ).2.1, (fun b k => if b = a ∧ DP.toNat ≤ k ∧ k < DP.toNat + N.toNat then (absH σ).R a0 (SP.toNat + (k - DP.toNat)) else (absH σ).R b k), (absH σ).nx) = ((absH σ).ty, (fun b j => if b = a then aI (x1.1, .inr (.inr (.inr (.inr (va_cpy g0 g1 SP.toNat DP.toNat N.toNat))))) j else (absH σ).I b j), (fun b j => if b = a then aR (x1.1, .inr (.inr (.inr (.inr (va_cpy g0 g1 SP.toNat DP.toNat N.toNat))))) j else (absH σ).R b j), σ.2) := by
    refine Mu.ext' rfl (funext fun b => funext fun j => ?_) (funext fun b => funext fun j => ?_) rfl
    · show oI (σ.1 b) j = (if b = a then 0 else oI (σ.1 b) j)
      by_cases hb : b = a
      · subst hb
        rw [if_pos rfl, e1]
        rfl
      · rw [if_neg hb]
    · show (if b = a ∧ _ then oR (σ.1 a0) _ else oR (σ.1 b) j) = (if b = a then va_cpy g0 g1 SP.toNat DP.toNat N.toNat j else oR (σ.1 b) j)
      unfold va_cpy
      by_cases hb : b = a
      · subst hb
        rw [e0, e1]
        by_cases hj : DP.toNat ≤ j ∧ j < DP.toNat + N.toNat
        · rw [if_pos ⟨rfl, hj⟩, if_pos rfl, if_pos hj]; rfl
        · rw [if_neg (fun z => hj z.2), if_pos rfl, if_neg hj]; rfl
      · rw [if_neg hb, if_neg (fun z => hb z.1)]
  rw [← e]
  exact q6
theorem kA_r {t n : Nat} (ht : 4 ≤ t ∧ t ≤ 12) (hn : n < 2 ^ 31) (q : Nat → Option Nat) : aK t (n, .inr (.inr (.inr (.inr q)))) = true := by unfold aK; simp; omega
theorem kA_i {n : Nat} (hn : n < 2 ^ 31) (q : Nat → Int32) : aK 0 (n, .inl q) = true := by unfold aK; simp; omega
theorem sm_newM2 {n k bc bs : Nat} {f : Nat → JP} {g : Nat → MP} (h : ∀ v, SM (f v) (g v)) : SM (jnewM2 n k bc bs f) (mnewM2 n k bc bs g) := by
  rintro σ ⟨h1, h2, h3, h4, h5⟩
  refine ⟨h1, h2, h _ _ ?_⟩
  have e : absH (jgrid2 σ n k) = ((fun b => if b = (absH σ).nx then some (Ty.arr 11 n) else if (absH σ).nx < b ∧ b ≤ (absH σ).nx + n then some (Ty.arr 0 k) else (absH σ).ty b), (fun b j => if (absH σ).nx ≤ b ∧ b ≤ (absH σ).nx + n then 0 else (absH σ).I b j), (fun b j => if b = (absH σ).nx then (if j < n then some ((absH σ).nx + 1 + j) else none) else if (absH σ).nx < b ∧ b ≤ (absH σ).nx + n then none else (absH σ).R b j), (absH σ).nx + 1 + n) := by
    refine Mu.ext' (funext fun b => ?_) (funext fun b => funext fun j => ?_) (funext fun b => funext fun j => ?_) rfl
    · show oT ((jgrdA σ n k n).1 b) = (if b = σ.2 then _ else if σ.2 < b ∧ b ≤ σ.2 + n then _ else oT (σ.1 b))
      unfold jgrdA
      by_cases hb : b = σ.2
      · simp only [if_pos hb]; show (if _ then _ else _) = _; rw [if_pos (kA_r (by omega) h3 _)]
      · simp only [if_neg hb]
        by_cases hc : σ.2 < b ∧ b ≤ σ.2 + n
        · simp only [if_pos hc]; show (if _ then _ else _) = _; rw [if_pos (kA_i h4 _)]
        · simp only [if_neg hc]
    · show oI ((jgrdA σ n k n).1 b) j = (if σ.2 ≤ b ∧ b ≤ σ.2 + n then 0 else oI (σ.1 b) j)
      unfold jgrdA
      by_cases hb : b = σ.2
      · simp only [if_pos hb]; rw [if_pos (by omega)]; rfl
      · simp only [if_neg hb]
        by_cases hc : σ.2 < b ∧ b ≤ σ.2 + n
        · simp only [if_pos hc]; rw [if_pos (by omega)]; rfl
        · simp only [if_neg hc]; rw [if_neg (by omega)]
    · show oR ((jgrdA σ n k n).1 b) j = (if b = σ.2 then _ else if σ.2 < b ∧ b ≤ σ.2 + n then none else oR (σ.1 b) j)
      unfold jgrdA
      by_cases hb : b = σ.2
      · simp only [if_pos hb]; rfl
      · simp only [if_neg hb]
        by_cases hc : σ.2 < b ∧ b ≤ σ.2 + n
        · simp only [if_pos hc]; rfl
        · simp only [if_neg hc]
  rw [e]
  exact h5
theorem sm_newM3 {n1 n2 k bc bs : Nat} {f : Nat → JP} {g : Nat → MP} (h : ∀ v, SM (f v) (g v)) : SM (jnewM3 n1 n2 k bc bs f) (mnewM3 n1 n2 k bc bs g) := by
  rintro σ ⟨h1, h2, h3, h4, h6, h5⟩
  refine ⟨h1, h2, h _ _ ?_⟩
  have e : absH (jgrid3 σ n1 n2 k) = ((fun b => if b = (absH σ).nx then some (Ty.arr 12 n1) else if (absH σ).nx < b ∧ b ≤ (absH σ).nx + n1 * (1 + n2) then (if (b - (absH σ).nx - 1) % (1 + n2) = 0 then some (Ty.arr 11 n2) else some (Ty.arr 0 k)) else (absH σ).ty b), (fun b j => if (absH σ).nx ≤ b ∧ b ≤ (absH σ).nx + n1 * (1 + n2) then 0 else (absH σ).I b j), (fun b j => if b = (absH σ).nx then (if j < n1 then some ((absH σ).nx + 1 + j * (1 + n2)) else none) else if (absH σ).nx < b ∧ b ≤ (absH σ).nx + n1 * (1 + n2) then (if (b - (absH σ).nx - 1) % (1 + n2) = 0 then (if j < n2 then some (b + 1 + j) else none) else none) else (absH σ).R b j), (absH σ).nx + 1 + n1 * (1 + n2)) := by
    refine Mu.ext' (funext fun b => ?_) (funext fun b => funext fun j => ?_) (funext fun b => funext fun j => ?_) rfl
    · show oT ((jgrdB σ n1 n2 k n1).1 b) = (if b = σ.2 then _ else if σ.2 < b ∧ b ≤ σ.2 + n1 * (1 + n2) then _ else oT (σ.1 b))
      unfold jgrdB
      by_cases hb : b = σ.2
      · simp only [if_pos hb]; show (if _ then _ else _) = _; rw [if_pos (kA_r (by omega) h3 _)]
      · simp only [if_neg hb]
        by_cases hc : σ.2 < b ∧ b ≤ σ.2 + n1 * (1 + n2)
        · simp only [if_pos hc]
          by_cases hd : (b - σ.2 - 1) % (1 + n2) = 0
          · simp only [if_pos hd]; show (if _ then _ else _) = _; rw [if_pos (kA_r (by omega) h4 _), if_pos (show (b - (absH σ).nx - 1) % (1 + n2) = 0 from hd)]
          · simp only [if_neg hd]; show (if _ then _ else _) = _; rw [if_pos (kA_i h6 _), if_neg (show ¬ (b - (absH σ).nx - 1) % (1 + n2) = 0 from hd)]
        · simp only [if_neg hc]
    · show oI ((jgrdB σ n1 n2 k n1).1 b) j = (if σ.2 ≤ b ∧ b ≤ σ.2 + n1 * (1 + n2) then 0 else oI (σ.1 b) j)
      unfold jgrdB
      by_cases hb : b = σ.2
      · simp only [if_pos hb]; rw [if_pos (by omega)]; rfl
      · simp only [if_neg hb]
        by_cases hc : σ.2 < b ∧ b ≤ σ.2 + n1 * (1 + n2)
        · simp only [if_pos hc]; rw [if_pos (show σ.2 ≤ b ∧ b ≤ σ.2 + n1 * (1 + n2) from ⟨by omega, hc.2⟩)]
          by_cases hd : (b - σ.2 - 1) % (1 + n2) = 0
          · simp only [if_pos hd]; rfl
          · simp only [if_neg hd]; rfl
        · simp only [if_neg hc]; rw [if_neg (by omega)]
    · show oR ((jgrdB σ n1 n2 k n1).1 b) j = (if b = σ.2 then _ else if σ.2 < b ∧ b ≤ σ.2 + n1 * (1 + n2) then _ else oR (σ.1 b) j)
      unfold jgrdB
      by_cases hb : b = σ.2
      · simp only [if_pos hb]; rfl
      · simp only [if_neg hb]
        by_cases hc : σ.2 < b ∧ b ≤ σ.2 + n1 * (1 + n2)
        · simp only [if_pos hc]
          by_cases hd : (b - σ.2 - 1) % (1 + n2) = 0
          · simp only [if_pos hd]; rw [if_pos (show (b - (absH σ).nx - 1) % (1 + n2) = 0 from hd)]; rfl
          · simp only [if_neg hd]; rw [if_neg (show ¬ (b - (absH σ).nx - 1) % (1 + n2) = 0 from hd)]; rfl
        · simp only [if_neg hc]
  rw [e]
  exact h5
/-! values -/
theorem tI_rem (x y : Int32) : (jrem x y).toInt = x.toInt.tmod y.toInt := by
  unfold jrem
  rw [Int32.toInt_sub, Int32.toInt_mul, Int32.toInt_div, Int.bmod_mul_bmod, Int.sub_bmod_bmod, Int.mul_comm (x.toInt.tdiv y.toInt), ← Int.tmod_def, ← Int32.toInt_mod]
  exact Int32.toInt_bmod _
theorem tI_lrem (x y : Int64) : (jlrem x y).toInt = x.toInt.tmod y.toInt := by
  unfold jlrem
  rw [Int64.toInt_sub, Int64.toInt_mul, Int64.toInt_div, Int.bmod_mul_bmod, Int.sub_bmod_bmod, Int.mul_comm (x.toInt.tdiv y.toInt), ← Int.tmod_def, ← Int64.toInt_mod]
  exact Int64.toInt_bmod _
theorem tI_add (x y : Int32) : (x + y).toInt = w32 (x.toInt + y.toInt) := Int32.toInt_add x y
theorem tI_sub (x y : Int32) : (x - y).toInt = w32 (x.toInt - y.toInt) := Int32.toInt_sub x y
theorem tI_mul (x y : Int32) : (x * y).toInt = w32 (x.toInt * y.toInt) := Int32.toInt_mul x y
theorem tI_div (x y : Int32) : (x / y).toInt = w32 (x.toInt.tdiv y.toInt) := Int32.toInt_div x y
theorem tI_neg (x : Int32) : (-x).toInt = w32 (-x.toInt) := Int32.toInt_neg x
theorem tL_add (x y : Int64) : (x + y).toInt = w64 (x.toInt + y.toInt) := Int64.toInt_add x y
theorem tL_sub (x y : Int64) : (x - y).toInt = w64 (x.toInt - y.toInt) := Int64.toInt_sub x y
theorem tL_mul (x y : Int64) : (x * y).toInt = w64 (x.toInt * y.toInt) := Int64.toInt_mul x y
theorem tL_div (x y : Int64) : (x / y).toInt = w64 (x.toInt.tdiv y.toInt) := Int64.toInt_div x y
theorem tI_and (x y : Int32) : (x &&& y).toInt = mand32 x.toInt y.toInt := by unfold mand32; rw [Int32.ofInt_toInt, Int32.ofInt_toInt]
theorem tI_or (x y : Int32) : (x ||| y).toInt = mor32 x.toInt y.toInt := by unfold mor32; rw [Int32.ofInt_toInt, Int32.ofInt_toInt]
theorem tI_xor (x y : Int32) : (x ^^^ y).toInt = mxor32 x.toInt y.toInt := by unfold mxor32; rw [Int32.ofInt_toInt, Int32.ofInt_toInt]
theorem tI_shl (x y : Int32) : (jshl x y).toInt = mshl x.toInt y.toInt := by unfold mshl; rw [Int32.ofInt_toInt, Int32.ofInt_toInt]
theorem tI_shr (x y : Int32) : (jshr x y).toInt = mshr x.toInt y.toInt := by unfold mshr; rw [Int32.ofInt_toInt, Int32.ofInt_toInt]
theorem tI_ushr (x y : Int32) : (jushr x y).toInt = mushr x.toInt y.toInt := by unfold mushr; rw [Int32.ofInt_toInt, Int32.ofInt_toInt]
theorem tL_shl (x : Int64) (y : Int32) : (jlshl x y).toInt = mlshl x.toInt y.toInt := by unfold mlshl; rw [Int64.ofInt_toInt, Int32.ofInt_toInt]
theorem tI_i2b (x : Int32) : (ji2b x).toInt = mi2b x.toInt := by unfold mi2b; rw [Int32.ofInt_toInt]
theorem tI_i2c (x : Int32) : (ji2c x).toInt = mi2c x.toInt := by unfold mi2c; rw [Int32.ofInt_toInt]
theorem tI_cmp (x y : Int64) : (lg_cmp x y).toInt = mcmp x.toInt y.toInt := by
  unfold lg_cmp mcmp
  by_cases h : x > y
  · have h1 := Int64.lt_iff_toInt_lt.mp h
    rw [if_pos h, if_neg (by omega), if_neg (by omega)]
    rfl
  · have h1 : ¬ y.toInt < x.toInt := fun z => h (Int64.lt_iff_toInt_lt.mpr z)
    rw [if_neg h]
    by_cases h2 : x = y
    · subst h2
      rw [if_pos rfl, if_neg (by omega), if_pos rfl]
      rfl
    · have h3 : ¬ x.toInt = y.toInt := fun z => h2 (Int64.toInt_inj.mp z)
      rw [if_neg h2, if_pos (by omega)]
      rfl
theorem tI_abs (x : Int32) : (jabs x).toInt = mabs x.toInt := by
  unfold jabs mabs
  have e0 : (0 : Int32).toInt = 0 := rfl
  by_cases h : 0 ≤ x
  · rw [if_pos h, if_pos (by have := Int32.le_iff_toInt_le.mp h; rw [e0] at this; exact this)]
  · rw [if_neg h, if_neg (fun z => h (Int32.le_iff_toInt_le.mpr (by rw [e0]; exact z))), Int32.toInt_sub, e0]
    show _ = w32 _
    unfold w32
    congr 1
    omega
theorem tI_l2i (x : Int64) : (Int64.toInt32 x).toInt = w32 x.toInt := Int64.toInt_toInt32 x
theorem tI_i2l (x : Int32) : (Int32.toInt64 x).toInt = x.toInt := Int32.toInt_toInt64 x
theorem tI_max (x y : Int32) : (jmax x y).toInt = max x.toInt y.toInt := by
  unfold jmax
  by_cases h : x < y
  · rw [if_pos h]; have := Int32.lt_iff_toInt_lt.mp h; omega
  · rw [if_neg h]; have : ¬ x.toInt < y.toInt := fun z => h (Int32.lt_iff_toInt_lt.mpr z); omega
theorem tI_min (x y : Int32) : (jmin x y).toInt = min x.toInt y.toInt := by
  unfold jmin
  by_cases h : y < x
  · rw [if_pos h]; have := Int32.lt_iff_toInt_lt.mp h; omega
  · rw [if_neg h]; have : ¬ y.toInt < x.toInt := fun z => h (Int32.lt_iff_toInt_lt.mpr z); omega
theorem cI_eq {x y : Int32} {X Y : Int} (hx : x.toInt = X) (hy : y.toInt = Y) : x = y ↔ X = Y := by rw [← hx, ← hy]; exact ⟨fun h => by rw [h], Int32.toInt_inj.mp⟩
theorem cI_lt {x y : Int32} {X Y : Int} (hx : x.toInt = X) (hy : y.toInt = Y) : x < y ↔ X < Y := by rw [← hx, ← hy]; exact Int32.lt_iff_toInt_lt
theorem cI_le {x y : Int32} {X Y : Int} (hx : x.toInt = X) (hy : y.toInt = Y) : x ≤ y ↔ X ≤ Y := by rw [← hx, ← hy]; exact Int32.le_iff_toInt_le
section
variable {x y : Int32} {X Y : Int}
theorem tc_add (hx : x.toInt = X) (hy : y.toInt = Y) : (x + y).toInt = w32 (X + Y) := by rw [tI_add, hx, hy]
theorem tc_sub (hx : x.toInt = X) (hy : y.toInt = Y) : (x - y).toInt = w32 (X - Y) := by rw [tI_sub, hx, hy]
theorem tc_mul (hx : x.toInt = X) (hy : y.toInt = Y) : (x * y).toInt = w32 (X * Y) := by rw [tI_mul, hx, hy]
theorem tc_div (hx : x.toInt = X) (hy : y.toInt = Y) : (x / y).toInt = w32 (Int.tdiv X Y) := by rw [tI_div, hx, hy]
theorem tc_rem (hx : x.toInt = X) (hy : y.toInt = Y) : (jrem x y).toInt = Int.tmod X Y := by rw [tI_rem, hx, hy]
theorem tc_and (hx : x.toInt = X) (hy : y.toInt = Y) : (x &&& y).toInt = mand32 X Y := by rw [tI_and, hx, hy]
theorem tc_or (hx : x.toInt = X) (hy : y.toInt = Y) : (x ||| y).toInt = mor32 X Y := by rw [tI_or, hx, hy]
theorem tc_xor (hx : x.toInt = X) (hy : y.toInt = Y) : (x ^^^ y).toInt = mxor32 X Y := by rw [tI_xor, hx, hy]
theorem tc_shl (hx : x.toInt = X) (hy : y.toInt = Y) : (jshl x y).toInt = mshl X Y := by rw [tI_shl, hx, hy]
theorem tc_shr (hx : x.toInt = X) (hy : y.toInt = Y) : (jshr x y).toInt = mshr X Y := by rw [tI_shr, hx, hy]
theorem tc_ushr (hx : x.toInt = X) (hy : y.toInt = Y) : (jushr x y).toInt = mushr X Y := by rw [tI_ushr, hx, hy]
theorem tc_max (hx : x.toInt = X) (hy : y.toInt = Y) : (jmax x y).toInt = max X Y := by rw [tI_max, hx, hy]
theorem tc_min (hx : x.toInt = X) (hy : y.toInt = Y) : (jmin x y).toInt = min X Y := by rw [tI_min, hx, hy]
theorem tc_neg (hx : x.toInt = X) : (-x).toInt = w32 (-X) := by rw [tI_neg, hx]
theorem tc_i2b (hx : x.toInt = X) : (ji2b x).toInt = mi2b X := by rw [tI_i2b, hx]
theorem tc_i2c (hx : x.toInt = X) : (ji2c x).toInt = mi2c X := by rw [tI_i2c, hx]
theorem tc_abs (hx : x.toInt = X) : (jabs x).toInt = mabs X := by rw [tI_abs, hx]
theorem tc_i2l (hx : x.toInt = X) : (Int32.toInt64 x).toInt = X := by rw [tI_i2l, hx]
def mnar (ty : FieldType) (X : Int) : Prop := narrow ty (.int (Int32.ofInt X)) = .int (Int32.ofInt X)
theorem mnar_of {ty : FieldType} (hx : x.toInt = X) (h : mnar ty X) : narrow ty (.int x) = .int x := by
  unfold mnar at h
  rw [← hx, Int32.ofInt_toInt] at h
  exact h
end
section
variable {x y : Int64} {X Y : Int}
theorem tl_add (hx : x.toInt = X) (hy : y.toInt = Y) : (x + y).toInt = w64 (X + Y) := by rw [tL_add, hx, hy]
theorem tl_sub (hx : x.toInt = X) (hy : y.toInt = Y) : (x - y).toInt = w64 (X - Y) := by rw [tL_sub, hx, hy]
theorem tl_mul (hx : x.toInt = X) (hy : y.toInt = Y) : (x * y).toInt = w64 (X * Y) := by rw [tL_mul, hx, hy]
theorem tl_div (hx : x.toInt = X) (hy : y.toInt = Y) : (x / y).toInt = w64 (Int.tdiv X Y) := by rw [tL_div, hx, hy]
theorem tl_rem (hx : x.toInt = X) (hy : y.toInt = Y) : (jlrem x y).toInt = Int.tmod X Y := by rw [tI_lrem, hx, hy]
theorem tl_cmp (hx : x.toInt = X) (hy : y.toInt = Y) : (lg_cmp x y).toInt = mcmp X Y := by rw [tI_cmp, hx, hy]
theorem tl_shl {z : Int32} {Z : Int} (hx : x.toInt = X) (hz : z.toInt = Z) : (jlshl x z).toInt = mlshl X Z := by rw [tL_shl, hx, hz]
theorem tc_l2i (hx : x.toInt = X) : (Int64.toInt32 x).toInt = w32 X := by rw [tI_l2i, hx]
end
theorem sm_join {α β : Type} {kk : α} {kk' : β} {f : α → JP} {g : β → MP} (I : α → β → Prop) (h1 : I kk kk') (h2 : ∀ k k', I k k' → SM (f k) (g k')) : SM (jjoin kk f) (mjoin kk' g) := h2 _ _ h1
theorem cL_eq {x y : Int64} {X Y : Int} (hx : x.toInt = X) (hy : y.toInt = Y) : x = y ↔ X = Y := by rw [← hx, ← hy]; exact ⟨fun h => by rw [h], Int64.toInt_inj.mp⟩
