set_option maxRecDepth 100000
/-! M: the heap with Ints, and how J-programs are met by M-programs -/
abbrev Ty : Type := Nat ⊕ (Nat × Nat)
abbrev Ty.obj (c : Nat) : Ty := Sum.inl c
abbrev Ty.arr (t n : Nat) : Ty := Sum.inr (t, n)
abbrev Mu : Type := (Nat → Option Ty) × (Nat → Nat → Int) × (Nat → Nat → Option Nat) × Nat
abbrev Mu.ty (μ : Mu) : Nat → Option Ty := μ.1
abbrev Mu.I (μ : Mu) : Nat → Nat → Int := μ.2.1
abbrev Mu.R (μ : Mu) : Nat → Nat → Option Nat := μ.2.2.1
abbrev Mu.nx (μ : Mu) : Nat := μ.2.2.2
abbrev MP : Type := Mu → Prop
def jvk (v : Value) : Nat := match v with
  | .int _ => 0
  | .long _ => 1
  | .ref _ => 2
  | .null => 2
  | _ => 3
def jdf (c : Nat) : List Value := [[], df1, df2, [], df4, df5, df6, df7, df8, df9, df10, df11, df12, df13, df14, df15, df16, df17, df18, df19, df20, df21, df22, df23, df24].getD c []
def jkd (c : Nat) : List Nat := (jdf c).map jvk
def vI (v : Option Value) : Int := match v with
  | some (.int x) => x.toInt
  | some (.long x) => x.toInt
  | _ => 0
def vR (v : Option Value) : Option Nat := match v with
  | some (.ref a) => some a
  | _ => none
def aI (x : vp_A) (k : Nat) : Int := match x.2 with
  | .inl g => (g k).toInt
  | .inr (.inl g) => (g k).toInt
  | _ => 0
def aR (x : vp_A) (k : Nat) : Option Nat := match x.2 with
  | .inr (.inr (.inr (.inr g))) => g k
  | _ => none
def aK (t : Nat) (x : vp_A) : Bool := decide (x.1 < 2 ^ 31) && decide (t ≤ 12) && (match x.2 with
  | .inl _ => decide (t ≤ 2)
  | .inr (.inl _) => decide (t = 3)
  | .inr (.inr (.inr (.inr _))) => decide (4 ≤ t)
  | _ => false)
def oT (o : Option Ob) : Option Ty := match o with
  | some (.inl (c, fs)) => if fs.map jvk = jkd c then some (.obj c) else none
  | some (.inr (t, x)) => if aK t x = true then some (.arr t x.1) else none
  | none => none
def oI (o : Option Ob) (k : Nat) : Int := match o with
  | some (.inl (_, fs)) => vI fs[k]?
  | some (.inr (_, x)) => aI x k
  | none => 0
def oR (o : Option Ob) (k : Nat) : Option Nat := match o with
  | some (.inl (_, fs)) => vR fs[k]?
  | some (.inr (_, x)) => aR x k
  | none => none
def absH (σ : Hp) : Mu := (fun a => oT (σ.1 a), fun a => oI (σ.1 a), fun a => oR (σ.1 a), σ.2)
def SM (P : JP) (M : MP) : Prop := ∀ σ, M (absH σ) → P σ
def up2 {α : Type} (f : Nat → Nat → α) (a k : Nat) (v : α) : Nat → Nat → α := fun b j => if b = a ∧ j = k then v else f b j
def Mu.putI (μ : Mu) (a k : Nat) (v : Int) : Mu := (μ.1, up2 μ.I a k v, μ.2.2)
def Mu.putR (μ : Mu) (a k : Nat) (v : Option Nat) : Mu := (μ.1, μ.2.1, up2 μ.R a k v, μ.nx)
def Mu.make (μ : Mu) (t : Ty) : Mu := (fun b => if b = μ.nx then some t else μ.ty b, fun b k => if b = μ.nx then 0 else μ.I b k, fun b k => if b = μ.nx then none else μ.R b k, μ.nx + 1)
def Mu.gap (μ : Mu) : Mu := (μ.1, μ.2.1, μ.2.2.1, μ.nx + 1)
def w32 (x : Int) : Int := x.bmod (2 ^ 32)
def w64 (x : Int) : Int := x.bmod (2 ^ 64)
def mand32 (x y : Int) : Int := (Int32.ofInt x &&& Int32.ofInt y).toInt
def mor32 (x y : Int) : Int := (Int32.ofInt x ||| Int32.ofInt y).toInt
def mxor32 (x y : Int) : Int := (Int32.ofInt x ^^^ Int32.ofInt y).toInt
def mshl (x y : Int) : Int := (jshl (Int32.ofInt x) (Int32.ofInt y)).toInt
def mshr (x y : Int) : Int := (jshr (Int32.ofInt x) (Int32.ofInt y)).toInt
def mushr (x y : Int) : Int := (jushr (Int32.ofInt x) (Int32.ofInt y)).toInt
def mlshl (x y : Int) : Int := (jlshl (Int64.ofInt x) (Int32.ofInt y)).toInt
def mi2b (x : Int) : Int := (ji2b (Int32.ofInt x)).toInt
def mi2c (x : Int) : Int := (ji2c (Int32.ofInt x)).toInt
def mcmp (x y : Int) : Int := if x < y then -1 else if x = y then 0 else 1
def mabs (x : Int) : Int := if 0 ≤ x then x else w32 (-x)
def mnZ (x : Int) : Int := (vp_nar .boolean (Int32.ofInt x)).toInt
def mnB (x : Int) : Int := (vp_nar .byte (Int32.ofInt x)).toInt
/-! programs -/
def mif (c : Prop) (P1 P2 : MP) : MP := fun μ => (c → P1 μ) ∧ (¬ c → P2 μ)
def mand (c : Prop) (P1 : MP) : MP := fun μ => c ∧ P1 μ
def mbot : MP := fun _ => False
def mgetI (ci a k : Nat) (f : Int → MP) : MP := fun μ => μ.ty a = some (.obj ci) ∧ f (μ.I a k) μ
def mgetL (ci a k : Nat) (f : Int → MP) : MP := fun μ => μ.ty a = some (.obj ci) ∧ f (μ.I a k) μ
def mgetA (ci a k : Nat) (f : Nat → MP) : MP := fun μ => μ.ty a = some (.obj ci) ∧ ∃ v, μ.R a k = some v ∧ f v μ
def mgetO (ci a k : Nat) (f : Option Nat → MP) : MP := fun μ => μ.ty a = some (.obj ci) ∧ f (μ.R a k) μ
def mputI (ci a k : Nat) (v : Int) (f : MP) : MP := fun μ => μ.ty a = some (.obj ci) ∧ f (μ.putI a k v)
def mputZ (ci a k : Nat) (v : Int) (f : MP) : MP := fun μ => (v = 0 ∨ v = 1) ∧ μ.ty a = some (.obj ci) ∧ f (μ.putI a k v)
def mputR (ci a k : Nat) (v : Option Nat) (f : MP) : MP := fun μ => μ.ty a = some (.obj ci) ∧ f (μ.putR a k v)
def maldI (t a : Nat) (i : Int) (f : Int → MP) : MP := fun μ => ∃ n : Nat, μ.ty a = some (.arr t n) ∧ 0 ≤ i ∧ i < n ∧ f (μ.I a i.toNat) μ
def maldL (a : Nat) (i : Int) (f : Int → MP) : MP := maldI 3 a i f
def maldA (t a : Nat) (i : Int) (f : Nat → MP) : MP := fun μ => ∃ n : Nat, μ.ty a = some (.arr t n) ∧ 0 ≤ i ∧ i < n ∧ ∃ v, μ.R a i.toNat = some v ∧ f v μ
def mastT (t a : Nat) (i x : Int) (f : MP) : MP := fun μ => ∃ n : Nat, μ.ty a = some (.arr t n) ∧ 0 ≤ i ∧ i < n ∧ f (μ.putI a i.toNat x)
def mastI (a : Nat) (i x : Int) (f : MP) : MP := mastT 0 a i x f
def mastZ (a : Nat) (i x : Int) (f : MP) : MP := mastT 1 a i (mnZ x) f
def mastB (a : Nat) (i x : Int) (f : MP) : MP := mastT 2 a i (mnB x) f
def mastL (a : Nat) (i x : Int) (f : MP) : MP := mastT 3 a i x f
def mastA (t ci a : Nat) (i : Int) (v : Nat) (f : MP) : MP := fun μ => ∃ n : Nat, μ.ty a = some (.arr t n) ∧ 0 ≤ i ∧ i < n ∧ μ.ty v = some (.obj ci) ∧ f (μ.putR a i.toNat (some v))
def mastX (t a : Nat) (i : Int) (v : Nat) (f : MP) : MP := fun μ => ∃ ci, jfit t ci ∧ mastA t ci a i v f μ
def mastS (sK : Nat → Nat) (a : Nat) (i : Int) (v : Nat) (f : MP) : MP := fun μ => ∃ n : Nat, μ.ty a = some (.arr 4 n) ∧ 0 ≤ i ∧ i < n ∧ (∃ k : Nat, k < 16 ∧ v = sK k) ∧ f (μ.putR a i.toNat (some v))
def malen (a : Nat) (f : Int → MP) : MP := fun μ => ∃ t n : Nat, μ.ty a = some (.arr t n) ∧ f n μ
def mnew (ci N bc bs : Nat) (f : Nat → MP) : MP := fun μ => 1 ≤ bc ∧ N ≤ bs ∧ f μ.nx (μ.make (.obj ci))
def mnewT (t : Nat) (i : Int) (bc bs : Nat) (f : Nat → MP) : MP := fun μ => 1 ≤ bc ∧ i.toNat ≤ bs ∧ 0 ≤ i ∧ i ≤ 60000000 ∧ f μ.nx (μ.make (.arr t i.toNat))
def mobj (ci a : Nat) (P1 : MP) : MP := fun μ => μ.ty a = some (.obj ci) ∧ P1 μ
def msome (r : Option Nat) (f : Nat → MP) : MP := fun μ => ∃ a, r = some a ∧ f a μ
def mnull (r : Option Nat) (P1 P2 : MP) : MP := fun μ => (r = none → P1 μ) ∧ (r ≠ none → P2 μ)
def mbud (bc bs : Nat) (f : Nat → Nat → MP) : MP := fun μ => ∃ mc ms : Nat, mc ≤ bc ∧ ms ≤ bs ∧ f mc ms μ
def mjoin {α : Type} (k : α) (f : α → MP) : MP := f k
def mex (f : Nat → MP) : MP := fun μ => ∃ n, f n μ
def many' (f : Option Nat → MP) : MP := fun μ => ∀ r : Option Nat, f r μ
def mcpyI (a0 : Nat) (sp : Int) (a : Nat) (dp n : Int) (f : MP) : MP := fun μ => ∃ n0 n1 : Nat, μ.ty a0 = some (.arr 0 n0) ∧ μ.ty a = some (.arr 0 n1) ∧ 0 ≤ sp ∧ 0 ≤ dp ∧ 0 ≤ n ∧ sp + n ≤ n0 ∧ dp + n ≤ n1 ∧ f (μ.1, fun b k => if b = a ∧ dp.toNat ≤ k ∧ k < dp.toNat + n.toNat then μ.I a0 (sp.toNat + (k - dp.toNat)) else μ.I b k, μ.2.2)
def mcpyA (t a0 : Nat) (sp : Int) (a : Nat) (dp n : Int) (f : MP) : MP := fun μ => ∃ n0 n1 : Nat, μ.ty a0 = some (.arr t n0) ∧ μ.ty a = some (.arr t n1) ∧ 4 ≤ t ∧ 0 ≤ sp ∧ 0 ≤ dp ∧ 0 ≤ n ∧ sp + n ≤ n0 ∧ dp + n ≤ n1 ∧ (∀ i : Nat, i < n.toNat → ∀ y : Nat, μ.R a0 (sp.toNat + i) = some y → ∃ ci : Nat, μ.ty y = some (.obj ci) ∧ jfit t ci) ∧ f (μ.1, μ.2.1, fun b k => if b = a ∧ dp.toNat ≤ k ∧ k < dp.toNat + n.toNat then μ.R a0 (sp.toNat + (k - dp.toNat)) else μ.R b k, μ.nx)
def mnewM2 (n k bc bs : Nat) (f : Nat → MP) : MP := fun μ => 1 + n ≤ bc ∧ n + n * k ≤ bs ∧ n < 2 ^ 31 ∧ k < 2 ^ 31 ∧ f μ.nx (fun b => if b = μ.nx then some (.arr 11 n) else if μ.nx < b ∧ b ≤ μ.nx + n then some (.arr 0 k) else μ.ty b, fun b j => if μ.nx ≤ b ∧ b ≤ μ.nx + n then 0 else μ.I b j, fun b j => if b = μ.nx then (if j < n then some (μ.nx + 1 + j) else none) else if μ.nx < b ∧ b ≤ μ.nx + n then none else μ.R b j, μ.nx + 1 + n)
def mnewM3 (n1 n2 k bc bs : Nat) (f : Nat → MP) : MP := fun μ => 1 + n1 * (1 + n2) ≤ bc ∧ n1 + n1 * (n2 + n2 * k) ≤ bs ∧ n1 < 2 ^ 31 ∧ n2 < 2 ^ 31 ∧ k < 2 ^ 31 ∧ f μ.nx (fun b => if b = μ.nx then some (.arr 12 n1) else if μ.nx < b ∧ b ≤ μ.nx + n1 * (1 + n2) then (if (b - μ.nx - 1) % (1 + n2) = 0 then some (.arr 11 n2) else some (.arr 0 k)) else μ.ty b, fun b j => if μ.nx ≤ b ∧ b ≤ μ.nx + n1 * (1 + n2) then 0 else μ.I b j, fun b j => if b = μ.nx then (if j < n1 then some (μ.nx + 1 + j * (1 + n2)) else none) else if μ.nx < b ∧ b ≤ μ.nx + n1 * (1 + n2) then (if (b - μ.nx - 1) % (1 + n2) = 0 then (if j < n2 then some (b + 1 + j) else none) else none) else μ.R b j, μ.nx + 1 + n1 * (1 + n2))
def mthrow (x bc bs : Nat) (Ex : Nat → Nat → MP) : MP := fun μ => 1 ≤ bc ∧ 6 ≤ bs ∧ Ex x μ.nx μ.gap
def mthrowO (x a : Nat) (Ex : Nat → Nat → MP) : MP := fun μ => μ.ty a = some (.obj 6) ∧ x = 4 ∧ Ex x a μ
def mdisp (a : Nat) (alts : List (Nat × MP)) : MP := fun μ => ∃ c P, μ.ty a = some (.obj c) ∧ alts.lookup c = some P ∧ P μ
def msval (sK : Nat → Nat) (a : Nat) (f : Nat → MP) : MP := mex fun i => mand (i < 16 ∧ a = sK i) (f (sK (16 + i)))
def mscod (sK : Nat → Nat) (a : Nat) (P1 : MP) : MP := mex fun i => mand (i < 16 ∧ a = sK i) P1
def mslen (sK : Nat → Nat) (v : Nat) (f : Int → MP) : MP := mex fun i => mand (i < 16 ∧ v = sK (16 + i)) (f (jsl.getD i 0 : Nat))
def mschr (sK : Nat → Nat) (v : Nat) (k : Int) (f : Int → MP) : MP := mex fun i => mand (i < 16 ∧ v = sK (16 + i) ∧ 0 ≤ k ∧ k < (jsl.getD i 0 : Nat)) (f ((jsb.getD i []).getD k.toNat 0).toInt)
def msobj (sK : Nat → Nat) (b : Nat) (P1 : MP) : MP := mand (∃ i : Nat, i < 16 ∧ b = sK i) P1
def mscr (Ln : Nat) (xs : Nat → Int32) (i : Int) (f : Int → MP) : MP := mand (0 ≤ i ∧ i < Ln) (f (xs i.toNat).toInt)
/-! the lemmas -/
theorem SM.bot {P : JP} : SM P mbot := fun _ h => h.elim
theorem sm_if {c c' : Prop} {P1 P2 : JP} {M1 M2 : MP} (hc : c ↔ c') (h1 : SM P1 M1) (h2 : SM P2 M2) : SM (jif c P1 P2) (mif c' M1 M2) := fun σ h => ⟨fun z => h1 σ (h.1 (hc.mp z)), fun z => h2 σ (h.2 (fun q => z (hc.mpr q)))⟩
theorem sm_and {c c' : Prop} {P1 : JP} {M1 : MP} (hc : c' → c) (h1 : SM P1 M1) : SM (jand c P1) (mand c' M1) := fun σ h => ⟨hc h.1, h1 σ h.2⟩
theorem sm_ex {f : Nat → JP} {g : Nat → MP} (h : ∀ n, SM (f n) (g n)) : SM (jex f) (mex g) := fun σ ⟨n, z⟩ => ⟨n, h n σ z⟩
theorem sm_bud {bc bs : Nat} {f : Nat → Nat → JP} {g : Nat → Nat → MP} (h : ∀ mc ms, SM (f mc ms) (g mc ms)) : SM (jbud bc bs f) (mbud bc bs g) := fun σ ⟨mc, ms, a, b, z⟩ => ⟨mc, ms, a, b, h mc ms σ z⟩
theorem sm_some {r : Option Nat} {f : Nat → JP} {g : Nat → MP} (h : ∀ a, SM (f a) (g a)) : SM (jsome r f) (msome r g) := by
  rintro σ ⟨a, rfl, z⟩
  exact h a σ z
theorem sm_null {r : Option Nat} {P1 P2 : JP} {M1 M2 : MP} (h1 : SM P1 M1) (h2 : SM P2 M2) : SM (jnull r P1 P2) (mnull r M1 M2) := fun σ h => ⟨fun z => h1 σ (h.1 z), fun z => h2 σ (h.2 z)⟩
theorem sm_any {f : Option Nat → JP} {g : Option Nat → MP} (h : ∀ r, SM (f r) (g r)) : SM (jany f) (many' g) := fun σ z r => h r σ (z r)
theorem oT_obj {o : Option Ob} {c : Nat} (h : oT o = some (.obj c)) : ∃ fs, o = some (.inl (c, fs)) ∧ fs.map jvk = jkd c := by
  unfold oT at h
  split at h
  · split at h
    · cases h
      exact ⟨_, rfl, by assumption⟩
    · cases h
  · split at h <;> cases h
  · cases h
theorem oT_arr {o : Option Ob} {t n : Nat} (h : oT o = some (.arr t n)) : ∃ x : vp_A, o = some (.inr (t, x)) ∧ x.1 = n ∧ aK t x = true := by
  unfold oT at h
  split at h
  · split at h <;> cases h
  · split at h
    · cases h
      exact ⟨_, rfl, rfl, by assumption⟩
    · cases h
  · cases h
theorem kd_at {fs : List Value} {c k q : Nat} (h : fs.map jvk = jkd c) (hk : (jkd c)[k]? = some q) : ∃ v, fs[k]? = some v ∧ jvk v = q := by
  rw [← h, List.getElem?_map] at hk
  cases hv : fs[k]? with
  | none => rw [hv] at hk; cases hk
  | some v => rw [hv] at hk; exact ⟨v, rfl, Option.some.inj hk⟩
theorem jvk0 {v : Value} (h : jvk v = 0) : ∃ x, v = .int x := by cases v <;> simp [jvk] at h <;> exact ⟨_, rfl⟩
theorem jvk1 {v : Value} (h : jvk v = 1) : ∃ x, v = .long x := by cases v <;> simp [jvk] at h <;> exact ⟨_, rfl⟩
theorem jvk2 {v : Value} (h : jvk v = 2) : (∃ x, v = .ref x) ∨ v = .null := by cases v <;> simp [jvk] at h <;> simp
theorem sm_getI {ci a k : Nat} {f : Int32 → JP} {g : Int → MP} (hk : (jkd ci)[k]? = some 0) (h : ∀ v, SM (f v) (g v.toInt)) : SM (jgetI ci a k f) (mgetI ci a k g) := by
  rintro σ ⟨h1, h2⟩
  obtain ⟨fs, e, hs⟩ := oT_obj (o := σ.1 a) h1
  obtain ⟨v, ev, hv⟩ := kd_at hs hk
  obtain ⟨x, rfl⟩ := jvk0 hv
  have e2 : (absH σ).I a k = x.toInt := by show oI (σ.1 a) k = _; rw [e]; show vI fs[k]? = _; rw [ev]; rfl
  rw [e2] at h2
  unfold jgetI
  rw [e]
  refine ⟨rfl, ?_⟩
  rw [ev]
  exact h x σ h2
theorem sm_getL {ci a k : Nat} {f : Int64 → JP} {g : Int → MP} (hk : (jkd ci)[k]? = some 1) (h : ∀ v, SM (f v) (g v.toInt)) : SM (jgetL ci a k f) (mgetL ci a k g) := by
  rintro σ ⟨h1, h2⟩
  obtain ⟨fs, e, hs⟩ := oT_obj (o := σ.1 a) h1
  obtain ⟨v, ev, hv⟩ := kd_at hs hk
  obtain ⟨x, rfl⟩ := jvk1 hv
  have e2 : (absH σ).I a k = x.toInt := by show oI (σ.1 a) k = _; rw [e]; show vI fs[k]? = _; rw [ev]; rfl
  rw [e2] at h2
  unfold jgetL
  rw [e]
  refine ⟨rfl, ?_⟩
  rw [ev]
  exact h x σ h2
theorem sm_getA {ci a k : Nat} {f : Nat → JP} {g : Nat → MP} (hk : (jkd ci)[k]? = some 2) (h : ∀ v, SM (f v) (g v)) : SM (jgetA ci a k f) (mgetA ci a k g) := by
  rintro σ ⟨h1, w, h3, h2⟩
  obtain ⟨fs, e, hs⟩ := oT_obj (o := σ.1 a) h1
  obtain ⟨v, ev, hv⟩ := kd_at hs hk
  have h3 : oR (σ.1 a) k = some w := h3
  rw [e] at h3
  have h3 : vR fs[k]? = some w := h3
  rw [ev] at h3
  unfold jgetA
  rw [e]
  refine ⟨rfl, ?_⟩
  rw [ev]
  rcases jvk2 hv with ⟨x, rfl⟩ | rfl
  · cases h3
    exact h _ σ h2
  · cases h3
theorem sm_getO {ci a k : Nat} {f : Option Nat → JP} {g : Option Nat → MP} (hk : (jkd ci)[k]? = some 2) (h : ∀ v, SM (f v) (g v)) : SM (jgetO ci a k f) (mgetO ci a k g) := by
  rintro σ ⟨h1, h2⟩
  obtain ⟨fs, e, hs⟩ := oT_obj (o := σ.1 a) h1
  obtain ⟨v, ev, hv⟩ := kd_at hs hk
  have e2 : (absH σ).R a k = vR (some v) := by show oR (σ.1 a) k = _; rw [e]; show vR fs[k]? = _; rw [ev]
  rw [e2] at h2
  unfold jgetO
  rw [e]
  refine ⟨rfl, ?_⟩
  rw [ev]
  rcases jvk2 hv with ⟨x, rfl⟩ | rfl
  · exact h _ σ h2
  · exact h _ σ h2
theorem Mu.ext' {μ ν : Mu} (h1 : μ.ty = ν.ty) (h2 : μ.I = ν.I) (h3 : μ.R = ν.R) (h4 : μ.nx = ν.nx) : μ = ν := Prod.ext h1 (Prod.ext h2 (Prod.ext h3 h4))
theorem abs_put {σ : Hp} {a c k : Nat} {fs : List Value} {v w : Value} (e : σ.1 a = some (.inl (c, fs))) (hs : fs.map jvk = jkd c) (hw : fs[k]? = some w) (hv : jvk v = jvk w) : absH (jset σ a (.inl (c, fs.set k v))) = ((absH σ).ty, up2 (absH σ).I a k (vI (some v)), up2 (absH σ).R a k (vR (some v)), σ.2) := by
  have hk : k < fs.length := (List.getElem?_eq_some_iff.mp hw).1
  have hm : (fs.set k v).map jvk = jkd c := by
    rw [← hs, List.map_set, hv]
    apply List.ext_getElem?
    intro i
    rw [List.getElem?_set]
    split
    · rename_i hi
      subst hi
      simp [hk]
      rw [List.getElem?_eq_getElem hk] at hw
      rw [Option.some.inj hw]
    · rfl
  refine Mu.ext' (funext fun b => ?_) (funext fun b => funext fun j => ?_) (funext fun b => funext fun j => ?_) rfl
  · show oT ((jset σ a _).1 b) = oT (σ.1 b)
    unfold jset
    by_cases hb : b = a
    · subst hb
      simp only [if_pos]
      rw [e]
      show (if _ then _ else _) = (if _ then _ else _)
      rw [if_pos hm, if_pos hs]
    · simp only [if_neg hb]
  · show oI ((jset σ a _).1 b) j = up2 (fun a => oI (σ.1 a)) a k _ b j
    unfold jset up2
    by_cases hb : b = a
    · subst hb
      simp only [if_pos]
      show vI (fs.set k v)[j]? = _
      rw [List.getElem?_set]
      by_cases hj : j = k
      · subst hj
        simp [hk]
      · rw [if_neg (fun q => hj q.symm), if_neg (fun q => hj q.2), e]
        rfl
    · simp only [if_neg hb]
      rw [if_neg (fun q => hb q.1)]
  · show oR ((jset σ a _).1 b) j = up2 (fun a => oR (σ.1 a)) a k _ b j
    unfold jset up2
    by_cases hb : b = a
    · subst hb
      simp only [if_pos]
      show vR (fs.set k v)[j]? = _
      rw [List.getElem?_set]
      by_cases hj : j = k
      · subst hj
        simp [hk]
      · rw [if_neg (fun q => hj q.symm), if_neg (fun q => hj q.2), e]
        rfl
    · simp only [if_neg hb]
      rw [if_neg (fun q => hb q.1)]
theorem up2_same {α : Type} {f : Nat → Nat → α} {a k : Nat} {v : α} (h : f a k = v) : up2 f a k v = f := by
  funext b j
  unfold up2
  split
  · rename_i q
    rw [q.1, q.2, h]
  · rfl
theorem sm_putI {ci a k : Nat} {x : Int32} {X : Int} {f : JP} {g : MP} (hk : (jkd ci)[k]? = some 0) (hx : x.toInt = X) (h : SM f g) : SM (jput ci a k (.int x) f) (mputI ci a k X g) := by
  rintro σ ⟨h1, h2⟩
  obtain ⟨fs, e, hs⟩ := oT_obj (o := σ.1 a) h1
  obtain ⟨v, ev, hv⟩ := kd_at hs hk
  unfold jput
  rw [e]
  refine ⟨rfl, (List.getElem?_eq_some_iff.mp ev).1, h _ ?_⟩
  rw [abs_put e hs ev (by rw [hv]; rfl)]
  obtain ⟨y, rfl⟩ := jvk0 hv
  have hR : (absH σ).R a k = none := by show oR (σ.1 a) k = _; rw [e]; show vR fs[k]? = _; rw [ev]; rfl
  show g (_, _, up2 _ a k none, _)
  rw [up2_same hR]
  subst hx
  exact h2
theorem sm_putL {ci a k : Nat} {x : Int64} {X : Int} {f : JP} {g : MP} (hk : (jkd ci)[k]? = some 1) (hx : x.toInt = X) (h : SM f g) : SM (jput ci a k (.long x) f) (mputI ci a k X g) := by
  rintro σ ⟨h1, h2⟩
  obtain ⟨fs, e, hs⟩ := oT_obj (o := σ.1 a) h1
  obtain ⟨v, ev, hv⟩ := kd_at hs hk
  unfold jput
  rw [e]
  refine ⟨rfl, (List.getElem?_eq_some_iff.mp ev).1, h _ ?_⟩
  rw [abs_put e hs ev (by rw [hv]; rfl)]
  obtain ⟨y, rfl⟩ := jvk1 hv
  have hR : (absH σ).R a k = none := by show oR (σ.1 a) k = _; rw [e]; show vR fs[k]? = _; rw [ev]; rfl
  show g (_, _, up2 _ a k none, _)
  rw [up2_same hR]
  subst hx
  exact h2
theorem sm_putZ {ci a k : Nat} {x : Int32} {X : Int} {f : JP} {g : MP} (hk : (jkd ci)[k]? = some 0) (hx : x.toInt = X) (h : SM f g) : SM (jputZ ci a k x f) (mputZ ci a k X g) := by
  rintro σ ⟨h0, h1⟩
  refine ⟨?_, sm_putI hk hx h σ h1⟩
  subst hx
  rcases h0 with h0 | h0
  · exact Or.inl (Int32.toInt_inj.mp (by rw [h0]; rfl))
  · exact Or.inr (Int32.toInt_inj.mp (by rw [h0]; rfl))
theorem sm_putR {ci a k : Nat} {v : Value} {r : Option Nat} {f : JP} {g : MP} (hk : (jkd ci)[k]? = some 2) (hv : v = va_rf r) (h : SM f g) : SM (jput ci a k v f) (mputR ci a k r g) := by
  rintro σ ⟨h1, h2⟩
  obtain ⟨fs, e, hs⟩ := oT_obj (o := σ.1 a) h1
  obtain ⟨w, ev, hw⟩ := kd_at hs hk
  unfold jput
  rw [e]
  refine ⟨rfl, (List.getElem?_eq_some_iff.mp ev).1, h _ ?_⟩
  subst hv
  rw [abs_put e hs ev (by rw [hw]; cases r <;> rfl)]
  have hI : (absH σ).I a k = 0 := by
    show oI (σ.1 a) k = _
    rw [e]
    show vI fs[k]? = _
    rw [ev]
    rcases jvk2 hw with ⟨x, rfl⟩ | rfl <;> rfl
  have e1 : vI (some (va_rf r)) = 0 := by cases r <;> rfl
  have e2 : vR (some (va_rf r)) = r := by cases r <;> rfl
  rw [e1, e2, up2_same hI]
  exact h2
