set_option maxRecDepth 100000
/-! J: the abstract heap, programs over it (predicate transformers), the judgement, the rows -/
abbrev Ob : Type := (Nat × List Value) ⊕ (Nat × vp_A)
abbrev Hp : Type := (Nat → Option Ob) × Nat
abbrev JP : Type := Hp → Prop
abbrev jE : Type := va_G × (Nat → ClassId)
def jT0 : u_T := fun _ => ("", "", "", false)
theorem in_j0 (C : String) : ∀ w ∈ u_ws C jT0 0, w ∈ lw_all := fun _ h => nomatch h
abbrev jcl : List vw_C := [(RX1, TX1, 18), (RX1, TX1, 18), (RX2, TX2, 11), (RX4, jT0, 0), (RX4, jT0, 0), (RX5, jT0, 0), (RX6, TX6, 7), (RX7, TX7, 10), (RX8, TX8, 2), (RX9, TX9, 3), (RX10, TX10, 30), (RX11, TX11, 52), (RX12, TX12, 2), (RX13, TX13, 1), (RX14, TX14, 1), (RX15, TX15, 1), (RX16, TX16, 3), (RX17, TX17, 3), (RX18, TX18, 1), (RX19, TX19, 2), (RX20, TX20, 2), (RX21, TX21, 1), (RX22, TX22, 1), (RX23, TX23, 4), (RX24, TX24, 4)]
/-- kinds of arrays: 0 int, 1 boolean, 2 byte, 3 long, then references -/
def jty (t : Nat) : FieldType := match t with
  | 0 => .int
  | 1 => .boolean
  | 2 => .byte
  | 3 => .long
  | 4 => .object "java/lang/String"
  | 5 => .object "MoveNotes$Going"
  | 6 => .object "MoveNotes$PlayLine"
  | 7 => .object "MoveNotes$Kind"
  | 8 => .object "MoveNotes$Book"
  | 9 => .object "MoveNotes$Picture"
  | 10 => .object "MoveNotes$Note"
  | 11 => .array .int
  | _ => .array (.array .int)
def jtys (d : Nat → ClassId) : List (ClassId × FieldType) := [(d 0, jty 0), (d 1, jty 1), (d 2, jty 2), (d 3, jty 3), (d 4, jty 4), (d 5, jty 5), (d 6, jty 6), (d 7, jty 7), (d 8, jty 8), (d 9, jty 9), (d 10, jty 10), (d 11, jty 11), (d 12, jty 12)]
def jreal (d : Nat → ClassId) (o : Ob) : va_E := match o with
  | .inl q => .inr q
  | .inr q => .inl (d q.1, q.2)
def jKD (D : jE) (U : State) : Prop := va_K D.1 jcl (jtys D.2) U
def jRep (D : jE) (b0 : Nat) (σ : Hp) (H : Heap) : Prop := σ.2 = H.size ∧ b0 ≤ H.size ∧ ∀ (a : Nat) (o : Ob), σ.1 a = some o → b0 ≤ a ∧ va_at D.1 jcl (a, jreal D.2 o) H
def jset (σ : Hp) (a : Nat) (o : Ob) : Hp := (fun b => if b = a then some o else σ.1 b, σ.2)
def jall (σ : Hp) (o : Ob) : Hp := (fun b => if b = σ.2 then some o else σ.1 b, σ.2 + 1)
def jgap (σ : Hp) : Hp := (σ.1, σ.2 + 1)
theorem jRep.one {D : jE} {b0 : Nat} {σ : Hp} {H : Heap} (h : jRep D b0 σ H) {a : Nat} {o : Ob} (ha : σ.1 a = some o) : va_P D.1 jcl [(a, jreal D.2 o)] H := by
  intro k q hk
  have hz : k < 1 := (List.getElem?_eq_some_iff.mp hk).1
  rw [show k = 0 by omega] at hk
  cases hk
  exact (h.2.2 a o ha).2
theorem jRep.lt {D : jE} {b0 : Nat} {σ : Hp} {H : Heap} (h : jRep D b0 σ H) {a : Nat} {o : Ob} (ha : σ.1 a = some o) : a < H.size := (h.2.2 a o ha).2.lt
theorem jRep.ge {D : jE} {b0 : Nat} {σ : Hp} {H : Heap} (h : jRep D b0 σ H) {a : Nat} {o : Ob} (ha : σ.1 a = some o) : b0 ≤ a := (h.2.2 a o ha).1
theorem jRep.set {D : jE} {b0 : Nat} {σ : Hp} {H H1 : Heap} (h : jRep D b0 σ H) {a : Nat} {o0 o : Ob} (ha : σ.1 a = some o0) (hz : H1.size = H.size) (hq : ∀ q : Nat, q ≠ a → H1[q]? = H[q]?) (ho : va_at D.1 jcl (a, jreal D.2 o) H1) : jRep D b0 (jset σ a o) H1 := by
  refine ⟨by rw [hz]; exact h.1, by rw [hz]; exact h.2.1, fun b x hb => ?_⟩
  by_cases e : b = a
  · subst e
    simp only [jset, if_pos] at hb
    cases hb
    exact ⟨h.ge ha, ho⟩
  · simp only [jset, if_neg e] at hb
    exact ⟨h.ge hb, ((h.2.2 b x hb).2).kept (hq b e)⟩
theorem jRep.push {D : jE} {b0 : Nat} {σ : Hp} {H H1 : Heap} (h : jRep D b0 σ H) {o : Ob} (hz : H1.size = H.size + 1) (hq : ∀ q : Nat, q < H.size → H1[q]? = H[q]?) (ho : va_at D.1 jcl (H.size, jreal D.2 o) H1) : jRep D b0 (jall σ o) H1 := by
  have h1 := h.1
  have h2 := h.2.1
  refine ⟨by rw [hz, ← h1]; rfl, by omega, fun b x hb => ?_⟩
  by_cases e : b = σ.2
  · subst e
    simp only [jall, if_pos] at hb
    cases hb
    rw [h1]
    exact ⟨h2, ho⟩
  · simp only [jall, if_neg e] at hb
    exact ⟨h.ge hb, ((h.2.2 b x hb).2).kept (hq b (h.lt hb))⟩
theorem jRep.gap {D : jE} {b0 : Nat} {σ : Hp} {H H1 : Heap} (h : jRep D b0 σ H) (hz : H1.size = H.size + 1) (hq : ∀ q : Nat, q < H.size → H1[q]? = H[q]?) : jRep D b0 (jgap σ) H1 := by
  have h1 := h.1
  have h2 := h.2.1
  exact ⟨by rw [hz, ← h1]; rfl, by omega, fun b x hb => ⟨h.ge hb, ((h.2.2 b x hb).2).kept (hq b (h.lt hb))⟩⟩
/-! programs -/
def jif (c : Prop) (P1 P2 : JP) : JP := fun σ => (c → P1 σ) ∧ (¬ c → P2 σ)
def jand (c : Prop) (P1 : JP) : JP := fun σ => c ∧ P1 σ
def jbot : JP := fun _ => False
/-- ints of a field -/
def jgetI (ci a k : Nat) (f : Int32 → JP) : JP := fun σ => match σ.1 a with
  | some (.inl (c, fs)) => c = ci ∧ (match fs[k]? with
    | some (.int v) => f v σ
    | _ => False)
  | _ => False
def jgetL (ci a k : Nat) (f : Int64 → JP) : JP := fun σ => match σ.1 a with
  | some (.inl (c, fs)) => c = ci ∧ (match fs[k]? with
    | some (.long v) => f v σ
    | _ => False)
  | _ => False
/-- a reference that isn't null -/
def jgetA (ci a k : Nat) (f : Nat → JP) : JP := fun σ => match σ.1 a with
  | some (.inl (c, fs)) => c = ci ∧ (match fs[k]? with
    | some (.ref v) => f v σ
    | _ => False)
  | _ => False
def jgetO (ci a k : Nat) (f : Option Nat → JP) : JP := fun σ => match σ.1 a with
  | some (.inl (c, fs)) => c = ci ∧ (match fs[k]? with
    | some (.ref v) => f (some v) σ
    | some .null => f none σ
    | _ => False)
  | _ => False
def jput (ci a k : Nat) (v : Value) (f : JP) : JP := fun σ => match σ.1 a with
  | some (.inl (c, fs)) => c = ci ∧ k < fs.length ∧ f (jset σ a (.inl (c, fs.set k v)))
  | _ => False
def jputZ (ci a k : Nat) (x : Int32) (f : JP) : JP := fun σ => (x = nI 0 ∨ x = nI 1) ∧ jput ci a k (.int x) f σ
/-- arrays -/
def jaldI (t a : Nat) (i : Int32) (f : Int32 → JP) : JP := fun σ => match σ.1 a with
  | some (.inr (t', n, .inl g)) => t' = t ∧ vp_in i n ∧ f (g i.toNatClampNeg) σ
  | _ => False
def jaldL (a : Nat) (i : Int32) (f : Int64 → JP) : JP := fun σ => match σ.1 a with
  | some (.inr (t', n, .inr (.inl g))) => t' = 3 ∧ vp_in i n ∧ f (g i.toNatClampNeg) σ
  | _ => False
def jaldA (t a : Nat) (i : Int32) (f : Nat → JP) : JP := fun σ => match σ.1 a with
  | some (.inr (t', n, .inr (.inr (.inr (.inr g))))) => t' = t ∧ vp_in i n ∧ (match g i.toNatClampNeg with
    | some v => f v σ
    | none => False)
  | _ => False
def jastI (a : Nat) (i x : Int32) (f : JP) : JP := fun σ => match σ.1 a with
  | some (.inr (t', n, .inl g)) => t' = 0 ∧ vp_in i n ∧ f (jset σ a (.inr (t', n, .inl (upd g i.toNatClampNeg x))))
  | _ => False
def jastZ (a : Nat) (i x : Int32) (f : JP) : JP := fun σ => match σ.1 a with
  | some (.inr (t', n, .inl g)) => t' = 1 ∧ vp_in i n ∧ f (jset σ a (.inr (t', n, .inl (upd g i.toNatClampNeg (vp_nar .boolean x)))))
  | _ => False
def jastB (a : Nat) (i x : Int32) (f : JP) : JP := fun σ => match σ.1 a with
  | some (.inr (t', n, .inl g)) => t' = 2 ∧ vp_in i n ∧ f (jset σ a (.inr (t', n, .inl (upd g i.toNatClampNeg (vp_nar .byte x)))))
  | _ => False
def jastL (a : Nat) (i : Int32) (x : Int64) (f : JP) : JP := fun σ => match σ.1 a with
  | some (.inr (t', n, .inr (.inl g))) => t' = 3 ∧ vp_in i n ∧ f (jset σ a (.inr (t', n, .inr (.inl (vp_updL g i.toNatClampNeg x)))))
  | _ => False
/-- a reference to an object of class ci goes into an array of references -/
def jastA (t ci a : Nat) (i : Int32) (v : Nat) (f : JP) : JP := fun σ => match σ.1 a, σ.1 v with
  | some (.inr (t', n, .inr (.inr (.inr (.inr g))))), some (.inl (c, _)) => t' = t ∧ c = ci ∧ vp_in i n ∧ f (jset σ a (.inr (t', n, .inr (.inr (.inr (.inr (va_up g i.toNatClampNeg (some v))))))))
  | _, _ => False
def jalen (a : Nat) (f : Int32 → JP) : JP := fun σ => match σ.1 a with
  | some (.inr (t, n, _)) => t ≤ 12 ∧ f (nI n) σ
  | _ => False
/-- what is made -/
def jnew (ci N : Nat) (fs : List Value) (bc bs : Nat) (f : Nat → JP) : JP := fun σ => 1 ≤ bc ∧ N ≤ bs ∧ f σ.2 (jall σ (.inl (ci, fs)))
def jnewI (t : Nat) (i : Int32) (bc bs : Nat) (f : Nat → JP) : JP := fun σ => 1 ≤ bc ∧ i.toNatClampNeg ≤ bs ∧ ¬ i < 0 ∧ i.toNatClampNeg ≤ 60000000 ∧ f σ.2 (jall σ (.inr (t, i.toNatClampNeg, .inl (fun _ => 0))))
def jnewL (i : Int32) (bc bs : Nat) (f : Nat → JP) : JP := fun σ => 1 ≤ bc ∧ i.toNatClampNeg ≤ bs ∧ ¬ i < 0 ∧ i.toNatClampNeg ≤ 60000000 ∧ f σ.2 (jall σ (.inr (3, i.toNatClampNeg, .inr (.inl (fun _ => 0)))))
def jnewA (t : Nat) (i : Int32) (bc bs : Nat) (f : Nat → JP) : JP := fun σ => 1 ≤ bc ∧ i.toNatClampNeg ≤ bs ∧ ¬ i < 0 ∧ i.toNatClampNeg ≤ 60000000 ∧ f σ.2 (jall σ (.inr (t, i.toNatClampNeg, .inr (.inr (.inr (.inr (fun _ => none)))))))
/-- the class of a receiver -/
def jobj (ci a : Nat) (P1 : JP) : JP := fun σ => (match σ.1 a with
  | some (.inl (c, _)) => c = ci
  | _ => False) ∧ P1 σ
def jsome (r : Option Nat) (f : Nat → JP) : JP := match r with
  | some a => f a
  | none => jbot
def jnull (r : Option Nat) (P1 P2 : JP) : JP := fun σ => (r = none → P1 σ) ∧ (r ≠ none → P2 σ)
/-- a part of the budget for a callee -/
def jbud (bc bs : Nat) (f : Nat → Nat → JP) : JP := fun σ => ∃ mc ms : Nat, mc ≤ bc ∧ ms ≤ bs ∧ f mc ms σ
def jjoin {α : Type} (k : α) (f : α → JP) : JP := f k
def jex (f : Nat → JP) : JP := fun σ => ∃ n, f n σ
def jit {α : Type} (F : α → α) (bot : α) : Nat → α
  | 0 => bot
  | n + 1 => F (jit F bot n)
def jrem (x y : Int32) : Int32 := x - x / y * y
def jlrem (x y : Int64) : Int64 := x - x / y * y
def jshl (x y : Int32) : Int32 := x <<< (y &&& 31)
def jshr (x y : Int32) : Int32 := x >>> (y &&& 31)
def jushr (x y : Int32) : Int32 := (x.toUInt32 >>> (y.toUInt32 &&& Int32.toUInt32 31)).toInt32
def jlshl (x : Int64) (y : Int32) : Int64 := x <<< (y.toInt64 &&& 63)
def ji2b (x : Int32) : Int32 := x.toInt8.toInt32
def ji2c (x : Int32) : Int32 := (x.toUInt32 % 65536).toInt32
def jabs (x : Int32) : Int32 := if 0 ≤ x then x else 0 - x
/-- System.arraycopy -/
def jcpyI (a0 : Nat) (sp : Int32) (a : Nat) (dp n : Int32) (f : JP) : JP := fun σ => match σ.1 a0, σ.1 a with
  | some (.inr (t0, n0, .inl g0)), some (.inr (t1, n1, .inl g1)) => t0 = 0 ∧ t1 = 0 ∧ ¬ sp < 0 ∧ ¬ dp < 0 ∧ ¬ n < 0 ∧ sp.toNatClampNeg + n.toNatClampNeg ≤ n0 ∧ dp.toNatClampNeg + n.toNatClampNeg ≤ n1 ∧ f (jset σ a (.inr (t1, n1, .inl (va_cpy g0 g1 sp.toNatClampNeg dp.toNatClampNeg n.toNatClampNeg))))
  | _, _ => False
def jfit (t ci : Nat) : Prop := ∃ (r : vw_C) (E : String), jcl[ci]? = some r ∧ jty t = .object E ∧ (r.1 = E ∨ Cond.castable r.1 E ∈ lw_tbl)
def jcpyA (t a0 : Nat) (sp : Int32) (a : Nat) (dp n : Int32) (f : JP) : JP := fun σ => match σ.1 a0, σ.1 a with
  | some (.inr (t0, n0, .inr (.inr (.inr (.inr g0))))), some (.inr (t1, n1, .inr (.inr (.inr (.inr g1))))) => t0 = t ∧ t1 = t ∧ ¬ sp < 0 ∧ ¬ dp < 0 ∧ ¬ n < 0 ∧ sp.toNatClampNeg + n.toNatClampNeg ≤ n0 ∧ dp.toNatClampNeg + n.toNatClampNeg ≤ n1 ∧ (∀ i : Nat, i < n.toNatClampNeg → ∀ y : Nat, g0 (sp.toNatClampNeg + i) = some y → ∃ (ci : Nat) (fs : List Value), σ.1 y = some (.inl (ci, fs)) ∧ jfit t ci) ∧ f (jset σ a (.inr (t1, n1, .inr (.inr (.inr (.inr (va_cpy g0 g1 sp.toNatClampNeg dp.toNatClampNeg n.toNatClampNeg)))))))
  | _, _ => False
/-- arrays of arrays: the outer one first, then each inner one; i of them are made -/
def jgrdA (σ : Hp) (n k i : Nat) : Hp := (fun b => if b = σ.2 then some (.inr (11, n, .inr (.inr (.inr (.inr (fun j => if j < i then some (σ.2 + 1 + j) else none)))))) else if σ.2 < b ∧ b ≤ σ.2 + i then some (.inr (0, k, .inl (fun _ => 0))) else σ.1 b, σ.2 + 1 + i)
def jgrid2 (σ : Hp) (n k : Nat) : Hp := jgrdA σ n k n
def jgrdB (σ : Hp) (n1 n2 k i : Nat) : Hp := (fun b => if b = σ.2 then some (.inr (12, n1, .inr (.inr (.inr (.inr (fun j => if j < i then some (σ.2 + 1 + j * (1 + n2)) else none)))))) else if σ.2 < b ∧ b ≤ σ.2 + i * (1 + n2) then (if (b - σ.2 - 1) % (1 + n2) = 0 then some (.inr (11, n2, .inr (.inr (.inr (.inr (fun j => if j < n2 then some (b + 1 + j) else none)))))) else some (.inr (0, k, .inl (fun _ => 0)))) else σ.1 b, σ.2 + 1 + i * (1 + n2))
def jgrid3 (σ : Hp) (n1 n2 k : Nat) : Hp := jgrdB σ n1 n2 k n1
def jnewM2 (n k bc bs : Nat) (f : Nat → JP) : JP := fun σ => 1 + n ≤ bc ∧ n + n * k ≤ bs ∧ f σ.2 (jgrid2 σ n k)
def jnewM3 (n1 n2 k bc bs : Nat) (f : Nat → JP) : JP := fun σ => 1 + n1 * (1 + n2) ≤ bc ∧ n1 + n1 * (n2 + n2 * k) ≤ bs ∧ f σ.2 (jgrid3 σ n1 n2 k)
/-- throwing: the class by its number (0 IllegalArgument, 1 UnsupportedOperation, 2 IndexOutOfBounds, 3 NoSuchElement, 4 Wrong), the thing's address -/
def jxn (x : Nat) : String := match x with
  | 0 => "java/lang/IllegalArgumentException"
  | 1 => "java/lang/UnsupportedOperationException"
  | 2 => "java/lang/IndexOutOfBoundsException"
  | 3 => "java/util/NoSuchElementException"
  | _ => "MoveNotes$Wrong"
def jthrow (x bc bs : Nat) (Ex : Nat → Nat → JP) : JP := fun σ => 1 ≤ bc ∧ 6 ≤ bs ∧ Ex x σ.2 (jgap σ)
/-- an object that was made before is thrown -/
def jthrowO (x a : Nat) (Ex : Nat → Nat → JP) : JP := fun σ => (match σ.1 a with
  | some (.inl (c, _)) => c = 6
  | _ => False) ∧ x = 4 ∧ Ex x a σ
def jastX (t a : Nat) (i : Int32) (v : Nat) (f : JP) : JP := fun σ => ∃ ci, jfit t ci ∧ jastA t ci a i v f σ
/-- a call by the receiver's class -/
def jdisp (a : Nat) (alts : List (Nat × JP)) : JP := fun σ => match σ.1 a with
  | some (.inl (c, _)) => (match alts.lookup c with
    | some P => P σ
    | none => False)
  | _ => False
/-! the locals -/
def jls (L : List (Option Value)) : List (Nat × Value) := (List.range L.length).filterMap fun i => match L[i]? with
  | some (some v) => some (i, v)
  | _ => none
theorem jls_mem {L : List (Option Value)} {i : Nat} {v : Value} : (i, v) ∈ jls L ↔ L[i]? = some (some v) := by
  unfold jls
  rw [List.mem_filterMap]
  constructor
  · rintro ⟨j, -, h⟩
    split at h
    · rename_i w hw
      cases h
      exact hw
    · cases h
  · intro h
    exact ⟨i, List.mem_range.mpr (List.getElem?_eq_some_iff.mp h).1, by rw [h]⟩
def jL (ls : Array Slot) (nL : Nat) (L : List (Option Value)) : Prop := ls.size = nL ∧ lv_wf ls ∧ ∀ (i : Nat) (v : Value), L[i]? = some (some v) → ls[i]? = some (.val v)
theorem jL.has {ls : Array Slot} {nL : Nat} {L : List (Option Value)} (h : jL ls nL L) : lv_has ls nL (jls L) := ⟨h.1, h.2.1, fun q hq => h.2.2 q.1 q.2 (jls_mem.mp hq)⟩
def jn2 (L : List (Option Value)) (i : Nat) : Bool := match i with
  | 0 => true
  | i + 1 => match L[i]? with
    | some (some (.long _)) => false
    | some (some (.double _)) => false
    | _ => true
theorem jn2_spec {L : List (Option Value)} {i j : Nat} {v : Value} (h : jn2 L i = true) (hj : L[j]? = some (some v)) (e : j + 1 = i) : ¬ v.category = 2 := by
  subst e
  simp only [jn2, hj] at h
  cases v <;> simp [Value.category] at h ⊢
theorem jL.set1 {ls' : Array Slot} {nL i : Nat} {L : List (Option Value)} {x : Value} (h : lv_has ls' nL ((i, x) :: (jls L).filter (fun q => !(q.1 == i) && !(q.1 + 1 == i && q.2.category == 2)))) (h2 : jn2 L i = true) : jL ls' nL (L.set i (some x)) := by
  refine ⟨h.1, h.2.1, fun j v hj => ?_⟩
  by_cases e : i = j
  · subst e
    rw [List.getElem?_set] at hj
    simp only [if_pos] at hj
    split at hj
    · cases hj
      exact h.2.2 (i, x) List.mem_cons_self
    · cases hj
  · rw [List.getElem?_set_ne e] at hj
    refine h.2.2 (j, v) (List.mem_cons_of_mem _ (List.mem_filter.mpr ⟨jls_mem.mpr hj, ?_⟩))
    simp only [Bool.and_eq_true, Bool.not_eq_true', beq_eq_false_iff_ne, ne_eq, Bool.and_eq_false_iff]
    refine ⟨fun q => e q.symm, ?_⟩
    by_cases e2 : j + 1 = i
    · exact Or.inr (jn2_spec h2 hj e2)
    · exact Or.inl e2
theorem jL.set2 {ls' : Array Slot} {nL i : Nat} {L : List (Option Value)} {x : Value} (h : lv_has ls' nL ((i, x) :: (jls L).filter (fun q => !(q.1 == i) && (!(q.1 == i + 1) && !(q.1 + 1 == i && q.2.category == 2))))) (h2 : jn2 L i = true) : jL ls' nL ((L.set i (some x)).set (i + 1) none) := by
  refine ⟨h.1, h.2.1, fun j v hj => ?_⟩
  by_cases e1 : i + 1 = j
  · subst e1
    rw [List.getElem?_set] at hj
    simp only [if_pos] at hj
    split at hj <;> cases hj
  · rw [List.getElem?_set_ne e1] at hj
    by_cases e : i = j
    · subst e
      rw [List.getElem?_set] at hj
      simp only [if_pos] at hj
      split at hj
      · cases hj
        exact h.2.2 (i, x) List.mem_cons_self
      · cases hj
    · rw [List.getElem?_set_ne e] at hj
      refine h.2.2 (j, v) (List.mem_cons_of_mem _ (List.mem_filter.mpr ⟨jls_mem.mpr hj, ?_⟩))
      simp only [Bool.and_eq_true, Bool.not_eq_true', beq_eq_false_iff_ne, ne_eq, Bool.and_eq_false_iff]
      refine ⟨fun q => e q.symm, fun q => e1 q.symm, ?_⟩
      by_cases e2 : j + 1 = i
      · exact Or.inr (jn2_spec h2 hj e2)
      · exact Or.inl e2
def jarg1 : List Value → List (Option Value)
  | [] => []
  | v :: vs => if v.category = 2 then some v :: none :: jarg1 vs else some v :: jarg1 vs
def jargs (vs : List Value) (n : Nat) : List (Option Value) := (jarg1 vs ++ List.replicate n none).take n
theorem jarg1_spec : ∀ (vs : List Value) (i k : Nat) (v : Value), (jarg1 vs)[i]? = some (some v) → (k + i, v) ∈ lv_args k vs
  | [], i, k, v, h => by simp [jarg1] at h
  | w :: vs, i, k, v, h => by
    unfold jarg1 at h
    unfold lv_args
    split at h
    · rename_i hc
      rw [if_pos hc]
      match i, h with
      | 0, h => cases h; exact List.mem_cons_self
      | 1, h => cases h
      | i + 2, h =>
        have := jarg1_spec vs i (k + 2) v h
        rw [show k + (i + 2) = k + 2 + i by omega]
        exact List.mem_cons_of_mem _ this
    · rename_i hc
      rw [if_neg hc]
      match i, h with
      | 0, h => cases h; exact List.mem_cons_self
      | i + 1, h =>
        have := jarg1_spec vs i (k + 1) v h
        rw [show k + (i + 1) = k + 1 + i by omega]
        exact List.mem_cons_of_mem _ this
theorem jargs_spec {vs : List Value} {n i : Nat} {v : Value} (h : (jargs vs n)[i]? = some (some v)) : (i, v) ∈ lv_args 0 vs := by
  unfold jargs at h
  rw [List.getElem?_take] at h
  split at h
  · by_cases hl : i < (jarg1 vs).length
    · rw [List.getElem?_append_left hl] at h
      have := jarg1_spec vs i 0 v h
      rwa [Nat.zero_add] at this
    · rw [List.getElem?_append_right (by omega), List.getElem?_replicate] at h
      split at h <;> cases h
  · cases h
/-! what holds all through a run of the law, and in a method -/
def jA (S0 : State) : Nat → Prop := fun q => S0.heap.size ≤ q
def jrm (HG bc bs : Nat) : Room := { frames := HG, cells := bc, slots := bs, locals := 60 * HG }
def jB (D : jE) (S0 : State) (P : JP) (U : State) : Prop := S0.WarmedH U.vm ∧ (∀ q : Nat, q < S0.heap.size → U.heap[q]? = S0.heap[q]?) ∧ S0.heap.size ≤ U.heap.size ∧ ∃ σ : Hp, jRep D S0.heap.size σ U.heap ∧ P σ
def jG (l : Launch) (D : jE) (S0 : State) (A0 : Array Value) : Prop := l.flags = flags0 ∧ (∀ w ∈ lw_tbl, w.before A0 S0 = true) ∧ jKD D S0 ∧ (Jvm.Cond.and given_1 narrow_1).before A0 S0 = true
def JK (p : Program) (l : Launch) (R : Room) (s : State) (m : MethodId) (args : Array Value) (meth : Method) (c : Code) (D : jE) (S0 : State) (A0 : Array Value) (nL : Nat) (cc : ByteArray) (own : String) (HG : Nat) : Prop :=
  p.tables.exec = Jvm.exec ∧ c.code = cc ∧ c.maxLocals = nL ∧ meth.locks = false ∧ s.vm.findClass own = some m.cls ∧ (∀ w ∈ lw_all, w.before args s = true) ∧ jG l D S0 A0 ∧ S0.WarmedH s.vm ∧ (∀ q : Nat, q < S0.heap.size → s.heap[q]? = S0.heap[q]?) ∧ S0.heap.size ≤ s.heap.size ∧ HG ≤ R.frames ∧ 60 * HG ≤ R.locals
def JR (p : Program) (l : Launch) (e : Env) (R : Room) (s : State) (m : MethodId) (args : Array Value) (below : List Frame) (meth : Method) (c : Code) (Q : State → Prop) (D : jE) (S0 : State) (nL bc bs : Nat) (P : JP) (pc : Nat) (L : List (Option Value)) (st : List Value) : Prop :=
  ∀ (σ : Hp) (H : Heap) (locs : List Loc) (cells slots : Nat) (ls : Array Slot), P σ → jRep D S0.heap.size σ H → va_S (jA S0) s.heap H locs → cells + bc ≤ R.cells → slots + bs ≤ R.slots → jL ls nL L → W p l e R s m args below meth c H locs cells slots Q (F0 m pc ls st)
section JKS
variable {p : Program} {l : Launch} {e : Env} {R : Room} {s : State} {m : MethodId} {args : Array Value} {below : List Frame} {meth : Method} {c : Code} {Q : State → Prop} {D : jE} {S0 : State} {A0 : Array Value} {nL bc bs HG : Nat} {cc : ByteArray} {own : String} {P P1 P2 : JP} {pc : Nat} {L : List (Option Value)} {st : List Value}
theorem JK.hx (K : JK p l R s m args meth c D S0 A0 nL cc own HG) : p.tables.exec = Jvm.exec := K.1
theorem JK.hb (K : JK p l R s m args meth c D S0 A0 nL cc own HG) : c.code = cc := K.2.1
theorem JK.hml (K : JK p l R s m args meth c D S0 A0 nL cc own HG) : c.maxLocals = nL := K.2.2.1
theorem JK.hlocks (K : JK p l R s m args meth c D S0 A0 nL cc own HG) : meth.locks = false := K.2.2.2.1
theorem JK.hown (K : JK p l R s m args meth c D S0 A0 nL cc own HG) : s.vm.findClass own = some m.cls := K.2.2.2.2.1
theorem JK.hts (K : JK p l R s m args meth c D S0 A0 nL cc own HG) : ∀ w ∈ lw_all, w.before args s = true := K.2.2.2.2.2.1
theorem JK.hG (K : JK p l R s m args meth c D S0 A0 nL cc own HG) : jG l D S0 A0 := K.2.2.2.2.2.2.1
theorem JK.hW (K : JK p l R s m args meth c D S0 A0 nL cc own HG) : S0.WarmedH s.vm := K.2.2.2.2.2.2.2.1
theorem JK.hlo (K : JK p l R s m args meth c D S0 A0 nL cc own HG) : ∀ q : Nat, q < S0.heap.size → s.heap[q]? = S0.heap[q]? := K.2.2.2.2.2.2.2.2.1
theorem JK.hge (K : JK p l R s m args meth c D S0 A0 nL cc own HG) : S0.heap.size ≤ s.heap.size := K.2.2.2.2.2.2.2.2.2.1
theorem JK.hRf (K : JK p l R s m args meth c D S0 A0 nL cc own HG) : HG ≤ R.frames := K.2.2.2.2.2.2.2.2.2.2.1
theorem JK.hRl (K : JK p l R s m args meth c D S0 A0 nL cc own HG) : 60 * HG ≤ R.locals := K.2.2.2.2.2.2.2.2.2.2.2
theorem JK.hK (K : JK p l R s m args meth c D S0 A0 nL cc own HG) : va_K D.1 jcl (jtys D.2) s := va_K.moved K.hW.alike K.hG.2.2.1
theorem JK.hA (K : JK p l R s m args meth c D S0 A0 nL cc own HG) : ∀ q : Nat, s.heap.size ≤ q → jA S0 q := fun _ h => Nat.le_trans K.hge h
theorem JR.same {pc' : Nat} {st' : List Value} (h : ∀ {H : Heap} {locs : List Loc} {cells slots : Nat} {ls : Array Slot}, jL ls nL L → W p l e R s m args below meth c H locs cells slots Q (F0 m pc' ls st') → W p l e R s m args below meth c H locs cells slots Q (F0 m pc ls st)) (k : JR p l e R s m args below meth c Q D S0 nL bc bs P pc' L st') : JR p l e R s m args below meth c Q D S0 nL bc bs P pc L st :=
  fun σ H locs cells slots ls h1 h2 h3 h4 h5 h6 => h h6 (k σ H locs cells slots ls h1 h2 h3 h4 h5 h6)
theorem JR.imp (h : ∀ σ, P σ → P1 σ) (k : JR p l e R s m args below meth c Q D S0 nL bc bs P1 pc L st) : JR p l e R s m args below meth c Q D S0 nL bc bs P pc L st :=
  fun σ H locs cells slots ls h1 h2 h3 h4 h5 h6 => k σ H locs cells slots ls (h σ h1) h2 h3 h4 h5 h6
theorem JR.bot : JR p l e R s m args below meth c Q D S0 nL bc bs jbot pc L st := fun _ _ _ _ _ _ h => h.elim
theorem jr_and {q : Prop} (k : q → JR p l e R s m args below meth c Q D S0 nL bc bs P pc L st) : JR p l e R s m args below meth c Q D S0 nL bc bs (jand q P) pc L st :=
  fun σ H locs cells slots ls h1 h2 h3 h4 h5 h6 => k h1.1 σ H locs cells slots ls h1.2 h2 h3 h4 h5 h6
/-! constants -/
theorem jr_iconst (K : JK p l R s m args meth c D S0 A0 nL cc own HG) {n : Int} {v : Int32} (d : decode cc pc = .ok (.iconst n, 1)) (hv : Int32.ofInt n = v) (k : JR p l e R s m args below meth c Q D S0 nL bc bs P (pc + 1) L (.int v :: st)) : JR p l e R s m args below meth c Q D S0 nL bc bs P pc L st := JR.same (fun _ w => lv_iconst K.hx K.hb d hv w) k
theorem jr_bipush (K : JK p l R s m args meth c D S0 A0 nL cc own HG) {n : Int} {v : Int32} (d : decode cc pc = .ok (.bipush n, 2)) (hv : (Int8.ofInt n).toInt32 = v) (k : JR p l e R s m args below meth c Q D S0 nL bc bs P (pc + 2) L (.int v :: st)) : JR p l e R s m args below meth c Q D S0 nL bc bs P pc L st := JR.same (fun _ w => lv_bipush K.hx K.hb d hv w) k
theorem jr_sipush (K : JK p l R s m args meth c D S0 A0 nL cc own HG) {n : Int} {v : Int32} (d : decode cc pc = .ok (.sipush n, 3)) (hv : (Int16.ofInt n).toInt32 = v) (k : JR p l e R s m args below meth c Q D S0 nL bc bs P (pc + 3) L (.int v :: st)) : JR p l e R s m args below meth c Q D S0 nL bc bs P pc L st := JR.same (fun _ w => lv_sipush K.hx K.hb d hv w) k
theorem jr_lconst (K : JK p l R s m args meth c D S0 A0 nL cc own HG) {n : Fin 2} {v : Int64} (d : decode cc pc = .ok (.lconst n, 1)) (hv : Int64.ofNat (n : Nat) = v) (k : JR p l e R s m args below meth c Q D S0 nL bc bs P (pc + 1) L (.long v :: st)) : JR p l e R s m args below meth c Q D S0 nL bc bs P pc L st := JR.same (fun _ w => lv_lconst K.hx K.hb d hv w) k
theorem jr_ldc (K : JK p l R s m args meth c D S0 A0 nL cc own HG) {index : Nat} {v0 v : Int32} (hq : Jvm.Cond.constant own index v0 ∈ lw_all) (hv : v0 = v) (d : decode cc pc = .ok (.ldc index, 2)) (k : JR p l e R s m args below meth c Q D S0 nL bc bs P (pc + 2) L (.int v :: st)) : JR p l e R s m args below meth c Q D S0 nL bc bs P pc L st := by
  subst hv
  exact JR.same (fun _ w => lv_ldc K.hx K.hb K.hown (K.hts _ hq) d w) k
theorem jr_ldcw (K : JK p l R s m args meth c D S0 A0 nL cc own HG) {index : Nat} {v0 v : Int32} (hq : Jvm.Cond.constant own index v0 ∈ lw_all) (hv : v0 = v) (d : decode cc pc = .ok (.ldc_w index, 3)) (k : JR p l e R s m args below meth c Q D S0 nL bc bs P (pc + 3) L (.int v :: st)) : JR p l e R s m args below meth c Q D S0 nL bc bs P pc L st := by
  subst hv
  exact JR.same (fun _ w => lv_ldcw K.hx K.hb K.hown (K.hts _ hq) d w) k
theorem jr_ldc2 (K : JK p l R s m args meth c D S0 A0 nL cc own HG) {index : Nat} {v0 v : Int64} (hq : Jvm.Cond.constantLong own index v0 ∈ lw_all) (hv : v0 = v) (d : decode cc pc = .ok (.ldc2_w index, 3)) (k : JR p l e R s m args below meth c Q D S0 nL bc bs P (pc + 3) L (.long v :: st)) : JR p l e R s m args below meth c Q D S0 nL bc bs P pc L st := by
  subst hv
  exact JR.same (fun _ w => lv_ldc2 K.hx K.hb K.hown (K.hts _ hq) d w) k
theorem jr_null (K : JK p l R s m args meth c D S0 A0 nL cc own HG) (d : decode cc pc = .ok (.aconst_null, 1)) (k : JR p l e R s m args below meth c Q D S0 nL bc bs P (pc + 1) L (va_rf none :: st)) : JR p l e R s m args below meth c Q D S0 nL bc bs P pc L st := JR.same (fun _ w => lv_null K.hx K.hb d w) k
/-! locals -/
theorem jr_iload_n (K : JK p l R s m args meth c D S0 A0 nL cc own HG) {k0 : Fin 4} {x : Int32} (d : decode cc pc = .ok (.iload_n k0, 1)) (h : L[(k0 : Nat)]? = some (some (.int x))) (k : JR p l e R s m args below meth c Q D S0 nL bc bs P (pc + 1) L (.int x :: st)) : JR p l e R s m args below meth c Q D S0 nL bc bs P pc L st := JR.same (fun hl w => lv_iload_n K.hx K.hb d rfl (hl.2.2 _ _ h) w) k
theorem jr_iload (K : JK p l R s m args meth c D S0 A0 nL cc own HG) {i : Nat} {x : Int32} (d : decode cc pc = .ok (.iload i, 2)) (h : L[i]? = some (some (.int x))) (k : JR p l e R s m args below meth c Q D S0 nL bc bs P (pc + 2) L (.int x :: st)) : JR p l e R s m args below meth c Q D S0 nL bc bs P pc L st := JR.same (fun hl w => lv_iload K.hx K.hb d (hl.2.2 _ _ h) w) k
theorem jr_lload_n (K : JK p l R s m args meth c D S0 A0 nL cc own HG) {k0 : Fin 4} {x : Int64} (d : decode cc pc = .ok (.lload_n k0, 1)) (h : L[(k0 : Nat)]? = some (some (.long x))) (k : JR p l e R s m args below meth c Q D S0 nL bc bs P (pc + 1) L (.long x :: st)) : JR p l e R s m args below meth c Q D S0 nL bc bs P pc L st := JR.same (fun hl w => lv_lload_n K.hx K.hb d rfl (hl.2.2 _ _ h) w) k
theorem jr_lload (K : JK p l R s m args meth c D S0 A0 nL cc own HG) {i : Nat} {x : Int64} (d : decode cc pc = .ok (.lload i, 2)) (h : L[i]? = some (some (.long x))) (k : JR p l e R s m args below meth c Q D S0 nL bc bs P (pc + 2) L (.long x :: st)) : JR p l e R s m args below meth c Q D S0 nL bc bs P pc L st := JR.same (fun hl w => lv_lload K.hx K.hb d (hl.2.2 _ _ h) w) k
theorem jr_aload_n (K : JK p l R s m args meth c D S0 A0 nL cc own HG) {k0 : Fin 4} {x : Nat} (d : decode cc pc = .ok (.aload_n k0, 1)) (h : L[(k0 : Nat)]? = some (some (.ref x))) (k : JR p l e R s m args below meth c Q D S0 nL bc bs P (pc + 1) L (.ref x :: st)) : JR p l e R s m args below meth c Q D S0 nL bc bs P pc L st := JR.same (fun hl w => lv_aload_n K.hx K.hb d rfl (hl.2.2 _ _ h) w) k
theorem jr_aload (K : JK p l R s m args meth c D S0 A0 nL cc own HG) {i x : Nat} (d : decode cc pc = .ok (.aload i, 2)) (h : L[i]? = some (some (.ref x))) (k : JR p l e R s m args below meth c Q D S0 nL bc bs P (pc + 2) L (.ref x :: st)) : JR p l e R s m args below meth c Q D S0 nL bc bs P pc L st := JR.same (fun hl w => lv_aload K.hx K.hb d (hl.2.2 _ _ h) w) k
/-- a local that may be null -/
theorem jr_oload_n (K : JK p l R s m args meth c D S0 A0 nL cc own HG) {k0 : Fin 4} {r : Option Nat} (d : decode cc pc = .ok (.aload_n k0, 1)) (h : L[(k0 : Nat)]? = some (some (va_rf r))) (k : JR p l e R s m args below meth c Q D S0 nL bc bs P (pc + 1) L (va_rf r :: st)) : JR p l e R s m args below meth c Q D S0 nL bc bs P pc L st := by
  cases r with
  | none => exact JR.same (fun hl w => lv_aload_nN K.hx K.hb d rfl (hl.2.2 _ _ h) w) k
  | some x => exact JR.same (fun hl w => lv_aload_n K.hx K.hb d rfl (hl.2.2 _ _ h) w) k
theorem jr_oload (K : JK p l R s m args meth c D S0 A0 nL cc own HG) {i : Nat} {r : Option Nat} (d : decode cc pc = .ok (.aload i, 2)) (h : L[i]? = some (some (va_rf r))) (k : JR p l e R s m args below meth c Q D S0 nL bc bs P (pc + 2) L (va_rf r :: st)) : JR p l e R s m args below meth c Q D S0 nL bc bs P pc L st := by
  cases r with
  | none => exact JR.same (fun hl w => lv_aloadN K.hx K.hb d (hl.2.2 _ _ h) w) k
  | some x => exact JR.same (fun hl w => lv_aload K.hx K.hb d (hl.2.2 _ _ h) w) k
theorem JR.store {pc' : Nat} {L' : List (Option Value)} {st' : List Value} (h : ∀ {H : Heap} {locs : List Loc} {cells slots : Nat} {ls : Array Slot}, jL ls nL L → (∀ ls' : Array Slot, jL ls' nL L' → W p l e R s m args below meth c H locs cells slots Q (F0 m pc' ls' st')) → W p l e R s m args below meth c H locs cells slots Q (F0 m pc ls st)) (k : JR p l e R s m args below meth c Q D S0 nL bc bs P pc' L' st') : JR p l e R s m args below meth c Q D S0 nL bc bs P pc L st :=
  fun σ H locs cells slots ls h1 h2 h3 h4 h5 h6 => h h6 (fun ls' h7 => k σ H locs cells slots ls' h1 h2 h3 h4 h5 h7)
theorem jr_istore_n (K : JK p l R s m args meth c D S0 A0 nL cc own HG) {k0 : Fin 4} {x : Int32} {L' : List (Option Value)} (d : decode cc pc = .ok (.istore_n k0, 1)) (hn : (k0 : Nat) < nL) (h2 : jn2 L k0 = true) (hL : L.set k0 (some (.int x)) = L') (k : JR p l e R s m args below meth c Q D S0 nL bc bs P (pc + 1) L' st) : JR p l e R s m args below meth c Q D S0 nL bc bs P pc L (.int x :: st) := by
  subst hL
  exact JR.store (fun hl w => lv_istore_n K.hx K.hb d rfl hl.has hn rfl fun ls' h => w ls' (jL.set1 h h2)) k
theorem jr_istore (K : JK p l R s m args meth c D S0 A0 nL cc own HG) {i : Nat} {x : Int32} {L' : List (Option Value)} (d : decode cc pc = .ok (.istore i, 2)) (hn : i < nL) (h2 : jn2 L i = true) (hL : L.set i (some (.int x)) = L') (k : JR p l e R s m args below meth c Q D S0 nL bc bs P (pc + 2) L' st) : JR p l e R s m args below meth c Q D S0 nL bc bs P pc L (.int x :: st) := by
  subst hL
  exact JR.store (fun hl w => lv_istore K.hx K.hb d hl.has hn rfl fun ls' h => w ls' (jL.set1 h h2)) k
theorem jr_lstore_n (K : JK p l R s m args meth c D S0 A0 nL cc own HG) {k0 : Fin 4} {x : Int64} {L' : List (Option Value)} (d : decode cc pc = .ok (.lstore_n k0, 1)) (hn : (k0 : Nat) + 1 < nL) (h2 : jn2 L k0 = true) (hL : (L.set k0 (some (.long x))).set (k0 + 1) none = L') (k : JR p l e R s m args below meth c Q D S0 nL bc bs P (pc + 1) L' st) : JR p l e R s m args below meth c Q D S0 nL bc bs P pc L (.long x :: st) := by
  subst hL
  exact JR.store (fun hl w => lv_lstore_n K.hx K.hb d rfl hl.has hn rfl fun ls' h => w ls' (jL.set2 h h2)) k
theorem jr_lstore (K : JK p l R s m args meth c D S0 A0 nL cc own HG) {i : Nat} {x : Int64} {L' : List (Option Value)} (d : decode cc pc = .ok (.lstore i, 2)) (hn : i + 1 < nL) (h2 : jn2 L i = true) (hL : (L.set i (some (.long x))).set (i + 1) none = L') (k : JR p l e R s m args below meth c Q D S0 nL bc bs P (pc + 2) L' st) : JR p l e R s m args below meth c Q D S0 nL bc bs P pc L (.long x :: st) := by
  subst hL
  exact JR.store (fun hl w => lv_lstore K.hx K.hb d hl.has hn rfl fun ls' h => w ls' (jL.set2 h h2)) k
theorem jr_astore_n (K : JK p l R s m args meth c D S0 A0 nL cc own HG) {k0 : Fin 4} {x : Nat} {L' : List (Option Value)} (d : decode cc pc = .ok (.astore_n k0, 1)) (hn : (k0 : Nat) < nL) (h2 : jn2 L k0 = true) (hL : L.set k0 (some (.ref x)) = L') (k : JR p l e R s m args below meth c Q D S0 nL bc bs P (pc + 1) L' st) : JR p l e R s m args below meth c Q D S0 nL bc bs P pc L (.ref x :: st) := by
  subst hL
  exact JR.store (fun hl w => lv_astore_n K.hx K.hb d rfl hl.has hn rfl fun ls' h => w ls' (jL.set1 h h2)) k
theorem jr_astore (K : JK p l R s m args meth c D S0 A0 nL cc own HG) {i x : Nat} {L' : List (Option Value)} (d : decode cc pc = .ok (.astore i, 2)) (hn : i < nL) (h2 : jn2 L i = true) (hL : L.set i (some (.ref x)) = L') (k : JR p l e R s m args below meth c Q D S0 nL bc bs P (pc + 2) L' st) : JR p l e R s m args below meth c Q D S0 nL bc bs P pc L (.ref x :: st) := by
  subst hL
  exact JR.store (fun hl w => lv_astore K.hx K.hb d hl.has hn rfl fun ls' h => w ls' (jL.set1 h h2)) k
theorem jr_ostore_n (K : JK p l R s m args meth c D S0 A0 nL cc own HG) {k0 : Fin 4} {r : Option Nat} {L' : List (Option Value)} (d : decode cc pc = .ok (.astore_n k0, 1)) (hn : (k0 : Nat) < nL) (h2 : jn2 L k0 = true) (hL : L.set k0 (some (va_rf r)) = L') (k : JR p l e R s m args below meth c Q D S0 nL bc bs P (pc + 1) L' st) : JR p l e R s m args below meth c Q D S0 nL bc bs P pc L (va_rf r :: st) := by
  subst hL
  cases r with
  | none => exact JR.store (fun hl w => lv_astore_nN K.hx K.hb d rfl hl.has hn rfl fun ls' h => w ls' (jL.set1 h h2)) k
  | some x => exact JR.store (fun hl w => lv_astore_n K.hx K.hb d rfl hl.has hn rfl fun ls' h => w ls' (jL.set1 h h2)) k
theorem jr_iinc (K : JK p l R s m args meth c D S0 A0 nL cc own HG) {i : Nat} {n : Int} {x v : Int32} {L' : List (Option Value)} (d : decode cc pc = .ok (.iinc i n, 3)) (h : L[i]? = some (some (.int x))) (hv : x + Int32.ofInt n = v) (hn : i < nL) (h2 : jn2 L i = true) (hL : L.set i (some (.int v)) = L') (k : JR p l e R s m args below meth c Q D S0 nL bc bs P (pc + 3) L' st) : JR p l e R s m args below meth c Q D S0 nL bc bs P pc L st := by
  subst hL
  refine JR.store (fun hl w => ?_) k
  obtain ⟨j, hj⟩ := List.getElem?_of_mem (jls_mem.mpr h)
  exact lv_iinc K.hx K.hb d hl.has hj hv hn rfl fun ls' h => w ls' (jL.set1 h h2)
theorem jr_iadd (K : JK p l R s m args meth c D S0 A0 nL cc own HG) {x y : Int32} (d : decode cc pc = .ok (.iadd, 1)) (k : JR p l e R s m args below meth c Q D S0 nL bc bs P (pc + 1) L (.int (x + y) :: st)) : JR p l e R s m args below meth c Q D S0 nL bc bs P pc L (.int y :: .int x :: st) := JR.same (fun _ w => lv_iadd K.hx K.hb d w) k
theorem jr_isub (K : JK p l R s m args meth c D S0 A0 nL cc own HG) {x y : Int32} (d : decode cc pc = .ok (.isub, 1)) (k : JR p l e R s m args below meth c Q D S0 nL bc bs P (pc + 1) L (.int (x - y) :: st)) : JR p l e R s m args below meth c Q D S0 nL bc bs P pc L (.int y :: .int x :: st) := JR.same (fun _ w => lv_isub K.hx K.hb d w) k
theorem jr_imul (K : JK p l R s m args meth c D S0 A0 nL cc own HG) {x y : Int32} (d : decode cc pc = .ok (.imul, 1)) (k : JR p l e R s m args below meth c Q D S0 nL bc bs P (pc + 1) L (.int (x * y) :: st)) : JR p l e R s m args below meth c Q D S0 nL bc bs P pc L (.int y :: .int x :: st) := JR.same (fun _ w => lv_imul K.hx K.hb d w) k
theorem jr_iand (K : JK p l R s m args meth c D S0 A0 nL cc own HG) {x y : Int32} (d : decode cc pc = .ok (.iand, 1)) (k : JR p l e R s m args below meth c Q D S0 nL bc bs P (pc + 1) L (.int (x &&& y) :: st)) : JR p l e R s m args below meth c Q D S0 nL bc bs P pc L (.int y :: .int x :: st) := JR.same (fun _ w => lv_iand K.hx K.hb d w) k
theorem jr_ior (K : JK p l R s m args meth c D S0 A0 nL cc own HG) {x y : Int32} (d : decode cc pc = .ok (.ior, 1)) (k : JR p l e R s m args below meth c Q D S0 nL bc bs P (pc + 1) L (.int (x ||| y) :: st)) : JR p l e R s m args below meth c Q D S0 nL bc bs P pc L (.int y :: .int x :: st) := JR.same (fun _ w => lv_ior K.hx K.hb d w) k
theorem jr_ixor (K : JK p l R s m args meth c D S0 A0 nL cc own HG) {x y : Int32} (d : decode cc pc = .ok (.ixor, 1)) (k : JR p l e R s m args below meth c Q D S0 nL bc bs P (pc + 1) L (.int (x ^^^ y) :: st)) : JR p l e R s m args below meth c Q D S0 nL bc bs P pc L (.int y :: .int x :: st) := JR.same (fun _ w => lv_ixor K.hx K.hb d w) k
theorem jr_idiv (K : JK p l R s m args meth c D S0 A0 nL cc own HG) {x y : Int32} (d : decode cc pc = .ok (.idiv, 1)) (hne : ¬ y = 0) (k : JR p l e R s m args below meth c Q D S0 nL bc bs P (pc + 1) L (.int (x / y) :: st)) : JR p l e R s m args below meth c Q D S0 nL bc bs P pc L (.int y :: .int x :: st) := JR.same (fun _ w => lv_idiv K.hx K.hb d hne w) k
theorem jr_irem (K : JK p l R s m args meth c D S0 A0 nL cc own HG) {x y : Int32} (d : decode cc pc = .ok (.irem, 1)) (hne : ¬ y = 0) (k : JR p l e R s m args below meth c Q D S0 nL bc bs P (pc + 1) L (.int (jrem x y) :: st)) : JR p l e R s m args below meth c Q D S0 nL bc bs P pc L (.int y :: .int x :: st) := JR.same (fun _ w => lv_irem K.hx K.hb d hne w) k
theorem jr_ishl (K : JK p l R s m args meth c D S0 A0 nL cc own HG) {x y : Int32} (d : decode cc pc = .ok (.ishl, 1)) (k : JR p l e R s m args below meth c Q D S0 nL bc bs P (pc + 1) L (.int (jshl x y) :: st)) : JR p l e R s m args below meth c Q D S0 nL bc bs P pc L (.int y :: .int x :: st) := JR.same (fun _ w => lv_ishl K.hx K.hb d w) k
theorem jr_ishr (K : JK p l R s m args meth c D S0 A0 nL cc own HG) {x y : Int32} (d : decode cc pc = .ok (.ishr, 1)) (k : JR p l e R s m args below meth c Q D S0 nL bc bs P (pc + 1) L (.int (jshr x y) :: st)) : JR p l e R s m args below meth c Q D S0 nL bc bs P pc L (.int y :: .int x :: st) := JR.same (fun _ w => lv_ishr K.hx K.hb d w) k
theorem jr_ladd (K : JK p l R s m args meth c D S0 A0 nL cc own HG) {x y : Int64} (d : decode cc pc = .ok (.ladd, 1)) (k : JR p l e R s m args below meth c Q D S0 nL bc bs P (pc + 1) L (.long (x + y) :: st)) : JR p l e R s m args below meth c Q D S0 nL bc bs P pc L (.long y :: .long x :: st) := JR.same (fun _ w => lv_ladd K.hx K.hb d w) k
theorem jr_lsub (K : JK p l R s m args meth c D S0 A0 nL cc own HG) {x y : Int64} (d : decode cc pc = .ok (.lsub, 1)) (k : JR p l e R s m args below meth c Q D S0 nL bc bs P (pc + 1) L (.long (x - y) :: st)) : JR p l e R s m args below meth c Q D S0 nL bc bs P pc L (.long y :: .long x :: st) := JR.same (fun _ w => lv_lsub K.hx K.hb d w) k
theorem jr_lmul (K : JK p l R s m args meth c D S0 A0 nL cc own HG) {x y : Int64} (d : decode cc pc = .ok (.lmul, 1)) (k : JR p l e R s m args below meth c Q D S0 nL bc bs P (pc + 1) L (.long (x * y) :: st)) : JR p l e R s m args below meth c Q D S0 nL bc bs P pc L (.long y :: .long x :: st) := JR.same (fun _ w => lv_lmul K.hx K.hb d w) k
theorem jr_ldiv (K : JK p l R s m args meth c D S0 A0 nL cc own HG) {x y : Int64} (d : decode cc pc = .ok (.ldiv, 1)) (hne : ¬ y = 0) (k : JR p l e R s m args below meth c Q D S0 nL bc bs P (pc + 1) L (.long (x / y) :: st)) : JR p l e R s m args below meth c Q D S0 nL bc bs P pc L (.long y :: .long x :: st) := JR.same (fun _ w => lv_ldiv K.hx K.hb d hne w) k
theorem jr_lrem (K : JK p l R s m args meth c D S0 A0 nL cc own HG) {x y : Int64} (d : decode cc pc = .ok (.lrem, 1)) (hne : ¬ y = 0) (k : JR p l e R s m args below meth c Q D S0 nL bc bs P (pc + 1) L (.long (jlrem x y) :: st)) : JR p l e R s m args below meth c Q D S0 nL bc bs P pc L (.long y :: .long x :: st) := JR.same (fun _ w => lv_lrem K.hx K.hb d hne w) k
theorem jr_ineg (K : JK p l R s m args meth c D S0 A0 nL cc own HG) {x : Int32} (d : decode cc pc = .ok (.ineg, 1)) (k : JR p l e R s m args below meth c Q D S0 nL bc bs P (pc + 1) L (.int (-x) :: st)) : JR p l e R s m args below meth c Q D S0 nL bc bs P pc L (.int x :: st) := JR.same (fun _ w => lv_ineg K.hx K.hb d w) k
theorem jr_i2l (K : JK p l R s m args meth c D S0 A0 nL cc own HG) {x : Int32} (d : decode cc pc = .ok (.i2l, 1)) (k : JR p l e R s m args below meth c Q D S0 nL bc bs P (pc + 1) L (.long (x.toInt64) :: st)) : JR p l e R s m args below meth c Q D S0 nL bc bs P pc L (.int x :: st) := JR.same (fun _ w => lv_i2l K.hx K.hb d rfl w) k
theorem jr_l2i (K : JK p l R s m args meth c D S0 A0 nL cc own HG) {x : Int64} (d : decode cc pc = .ok (.l2i, 1)) (k : JR p l e R s m args below meth c Q D S0 nL bc bs P (pc + 1) L (.int (x.toInt32) :: st)) : JR p l e R s m args below meth c Q D S0 nL bc bs P pc L (.long x :: st) := JR.same (fun _ w => lv_l2i K.hx K.hb d rfl w) k
theorem jr_i2b (K : JK p l R s m args meth c D S0 A0 nL cc own HG) {x : Int32} (d : decode cc pc = .ok (.i2b, 1)) (k : JR p l e R s m args below meth c Q D S0 nL bc bs P (pc + 1) L (.int (ji2b x) :: st)) : JR p l e R s m args below meth c Q D S0 nL bc bs P pc L (.int x :: st) := JR.same (fun _ w => lv_i2b K.hx K.hb d rfl w) k
theorem jr_i2c (K : JK p l R s m args meth c D S0 A0 nL cc own HG) {x : Int32} (d : decode cc pc = .ok (.i2c, 1)) (k : JR p l e R s m args below meth c Q D S0 nL bc bs P (pc + 1) L (.int (ji2c x) :: st)) : JR p l e R s m args below meth c Q D S0 nL bc bs P pc L (.int x :: st) := JR.same (fun _ w => lv_i2c K.hx K.hb d rfl w) k
theorem jr_iushr (K : JK p l R s m args meth c D S0 A0 nL cc own HG) {x y : Int32} (d : decode cc pc = .ok (.iushr, 1)) (k : JR p l e R s m args below meth c Q D S0 nL bc bs P (pc + 1) L (.int (jushr x y) :: st)) : JR p l e R s m args below meth c Q D S0 nL bc bs P pc L (.int y :: .int x :: st) := JR.same (fun _ w => lv_iushr K.hx K.hb d rfl w) k
theorem jr_lshl (K : JK p l R s m args meth c D S0 A0 nL cc own HG) {x : Int64} {y : Int32} (d : decode cc pc = .ok (.lshl, 1)) (k : JR p l e R s m args below meth c Q D S0 nL bc bs P (pc + 1) L (.long (jlshl x y) :: st)) : JR p l e R s m args below meth c Q D S0 nL bc bs P pc L (.int y :: .long x :: st) := JR.same (fun _ w => lv_lshl K.hx K.hb d rfl w) k
theorem jr_lcmp (K : JK p l R s m args meth c D S0 A0 nL cc own HG) {x y : Int64} (d : decode cc pc = .ok (.lcmp, 1)) (k : JR p l e R s m args below meth c Q D S0 nL bc bs P (pc + 1) L (.int (lg_cmp x y) :: st)) : JR p l e R s m args below meth c Q D S0 nL bc bs P pc L (.long y :: .long x :: st) := JR.same (fun _ w => W.lcmp K.hx K.hb d w) k
theorem jr_dup (K : JK p l R s m args meth c D S0 A0 nL cc own HG) {v : Value} (d : decode cc pc = .ok (.dup, 1)) (hv : v.category = 1) (k : JR p l e R s m args below meth c Q D S0 nL bc bs P (pc + 1) L (v :: v :: st)) : JR p l e R s m args below meth c Q D S0 nL bc bs P pc L (v :: st) := JR.same (fun _ w => lv_dup K.hx K.hb d hv w) k
theorem jr_pop (K : JK p l R s m args meth c D S0 A0 nL cc own HG) {v : Value} (d : decode cc pc = .ok (.pop, 1)) (hv : v.category = 1) (k : JR p l e R s m args below meth c Q D S0 nL bc bs P (pc + 1) L st) : JR p l e R s m args below meth c Q D S0 nL bc bs P pc L (v :: st) := JR.same (fun _ w => lv_pop K.hx K.hb d hv w) k
theorem jr_dup2 (K : JK p l R s m args meth c D S0 A0 nL cc own HG) {v w : Value} (d : decode cc pc = .ok (.dup2, 1)) (hv : v.category = 1) (hw : w.category = 1) (k : JR p l e R s m args below meth c Q D S0 nL bc bs P (pc + 1) L (v :: w :: v :: w :: st)) : JR p l e R s m args below meth c Q D S0 nL bc bs P pc L (v :: w :: st) := JR.same (fun _ w => lv_dup2_11 K.hx K.hb d hv hw w) k
theorem jr_dupx1 (K : JK p l R s m args meth c D S0 A0 nL cc own HG) {v w : Value} (d : decode cc pc = .ok (.dup_x1, 1)) (hv : v.category = 1) (hw : w.category = 1) (k : JR p l e R s m args below meth c Q D S0 nL bc bs P (pc + 1) L (v :: w :: v :: st)) : JR p l e R s m args below meth c Q D S0 nL bc bs P pc L (v :: w :: st) := JR.same (fun _ w => lv_dup_x1 K.hx K.hb d hv hw w) k
theorem jr_dupx2 (K : JK p l R s m args meth c D S0 A0 nL cc own HG) {v w u : Value} (d : decode cc pc = .ok (.dup_x2, 1)) (hv : v.category = 1) (hw : w.category = 1) (hu : u.category = 1) (k : JR p l e R s m args below meth c Q D S0 nL bc bs P (pc + 1) L (v :: w :: u :: v :: st)) : JR p l e R s m args below meth c Q D S0 nL bc bs P pc L (v :: w :: u :: st) := JR.same (fun _ w => lv_dup_x2 K.hx K.hb d hv hw hu w) k
theorem jr_goto (K : JK p l R s m args meth c D S0 A0 nL cc own HG) {off : Int} {tgt : Nat} (d : decode cc pc = .ok (.goto off, 3)) (ht : (pc : Int) + off = (tgt : Int)) (k : JR p l e R s m args below meth c Q D S0 nL bc bs P tgt L st) : JR p l e R s m args below meth c Q D S0 nL bc bs P pc L st := JR.same (fun _ w => lv_goto K.hx K.hb d ht w) k
theorem jr_icmp_eq (K : JK p l R s m args meth c D S0 A0 nL cc own HG) {x y : Int32} {off : Int} {tgt : Nat} (d : decode cc pc = .ok (.if_icmp .eq off, 3)) (ht : (pc : Int) + off = (tgt : Int)) (kt : JR p l e R s m args below meth c Q D S0 nL bc bs P1 tgt L st) (kf : JR p l e R s m args below meth c Q D S0 nL bc bs P2 (pc + 3) L st) : JR p l e R s m args below meth c Q D S0 nL bc bs (jif (x = y) P1 P2) pc L (.int y :: .int x :: st) :=
  fun σ H locs cells slots ls h1 h2 h3 h4 h5 h6 => lv_icmp_eq K.hx K.hb d ht (fun z => kt σ H locs cells slots ls (h1.1 z) h2 h3 h4 h5 h6) (fun z => kf σ H locs cells slots ls (h1.2 z) h2 h3 h4 h5 h6)
theorem jr_if_eq (K : JK p l R s m args meth c D S0 A0 nL cc own HG) {x : Int32} {off : Int} {tgt : Nat} (d : decode cc pc = .ok (.ifCond .eq off, 3)) (ht : (pc : Int) + off = (tgt : Int)) (kt : JR p l e R s m args below meth c Q D S0 nL bc bs P1 tgt L st) (kf : JR p l e R s m args below meth c Q D S0 nL bc bs P2 (pc + 3) L st) : JR p l e R s m args below meth c Q D S0 nL bc bs (jif (x = nI 0) P1 P2) pc L (.int x :: st) :=
  fun σ H locs cells slots ls h1 h2 h3 h4 h5 h6 => lv_if_eq K.hx K.hb d ht (fun z => kt σ H locs cells slots ls (h1.1 z) h2 h3 h4 h5 h6) (fun z => kf σ H locs cells slots ls (h1.2 z) h2 h3 h4 h5 h6)
theorem jr_icmp_ne (K : JK p l R s m args meth c D S0 A0 nL cc own HG) {x y : Int32} {off : Int} {tgt : Nat} (d : decode cc pc = .ok (.if_icmp .ne off, 3)) (ht : (pc : Int) + off = (tgt : Int)) (kt : JR p l e R s m args below meth c Q D S0 nL bc bs P2 tgt L st) (kf : JR p l e R s m args below meth c Q D S0 nL bc bs P1 (pc + 3) L st) : JR p l e R s m args below meth c Q D S0 nL bc bs (jif (x = y) P1 P2) pc L (.int y :: .int x :: st) :=
  fun σ H locs cells slots ls h1 h2 h3 h4 h5 h6 => lv_icmp_ne K.hx K.hb d ht (fun z => kt σ H locs cells slots ls (h1.2 z) h2 h3 h4 h5 h6) (fun z => kf σ H locs cells slots ls (h1.1 z) h2 h3 h4 h5 h6)
theorem jr_if_ne (K : JK p l R s m args meth c D S0 A0 nL cc own HG) {x : Int32} {off : Int} {tgt : Nat} (d : decode cc pc = .ok (.ifCond .ne off, 3)) (ht : (pc : Int) + off = (tgt : Int)) (kt : JR p l e R s m args below meth c Q D S0 nL bc bs P2 tgt L st) (kf : JR p l e R s m args below meth c Q D S0 nL bc bs P1 (pc + 3) L st) : JR p l e R s m args below meth c Q D S0 nL bc bs (jif (x = nI 0) P1 P2) pc L (.int x :: st) :=
  fun σ H locs cells slots ls h1 h2 h3 h4 h5 h6 => lv_if_ne K.hx K.hb d ht (fun z => kt σ H locs cells slots ls (h1.2 z) h2 h3 h4 h5 h6) (fun z => kf σ H locs cells slots ls (h1.1 z) h2 h3 h4 h5 h6)
theorem jr_icmp_lt (K : JK p l R s m args meth c D S0 A0 nL cc own HG) {x y : Int32} {off : Int} {tgt : Nat} (d : decode cc pc = .ok (.if_icmp .lt off, 3)) (ht : (pc : Int) + off = (tgt : Int)) (kt : JR p l e R s m args below meth c Q D S0 nL bc bs P1 tgt L st) (kf : JR p l e R s m args below meth c Q D S0 nL bc bs P2 (pc + 3) L st) : JR p l e R s m args below meth c Q D S0 nL bc bs (jif (x < y) P1 P2) pc L (.int y :: .int x :: st) :=
  fun σ H locs cells slots ls h1 h2 h3 h4 h5 h6 => lv_icmp_lt K.hx K.hb d ht (fun z => kt σ H locs cells slots ls (h1.1 z) h2 h3 h4 h5 h6) (fun z => kf σ H locs cells slots ls (h1.2 z) h2 h3 h4 h5 h6)
theorem jr_if_lt (K : JK p l R s m args meth c D S0 A0 nL cc own HG) {x : Int32} {off : Int} {tgt : Nat} (d : decode cc pc = .ok (.ifCond .lt off, 3)) (ht : (pc : Int) + off = (tgt : Int)) (kt : JR p l e R s m args below meth c Q D S0 nL bc bs P1 tgt L st) (kf : JR p l e R s m args below meth c Q D S0 nL bc bs P2 (pc + 3) L st) : JR p l e R s m args below meth c Q D S0 nL bc bs (jif (x < nI 0) P1 P2) pc L (.int x :: st) :=
  fun σ H locs cells slots ls h1 h2 h3 h4 h5 h6 => lv_if_lt K.hx K.hb d ht (fun z => kt σ H locs cells slots ls (h1.1 z) h2 h3 h4 h5 h6) (fun z => kf σ H locs cells slots ls (h1.2 z) h2 h3 h4 h5 h6)
theorem jr_icmp_ge (K : JK p l R s m args meth c D S0 A0 nL cc own HG) {x y : Int32} {off : Int} {tgt : Nat} (d : decode cc pc = .ok (.if_icmp .ge off, 3)) (ht : (pc : Int) + off = (tgt : Int)) (kt : JR p l e R s m args below meth c Q D S0 nL bc bs P1 tgt L st) (kf : JR p l e R s m args below meth c Q D S0 nL bc bs P2 (pc + 3) L st) : JR p l e R s m args below meth c Q D S0 nL bc bs (jif (y ≤ x) P1 P2) pc L (.int y :: .int x :: st) :=
  fun σ H locs cells slots ls h1 h2 h3 h4 h5 h6 => lv_icmp_ge K.hx K.hb d ht (fun z => kt σ H locs cells slots ls (h1.1 z) h2 h3 h4 h5 h6) (fun z => kf σ H locs cells slots ls (h1.2 z) h2 h3 h4 h5 h6)
theorem jr_if_ge (K : JK p l R s m args meth c D S0 A0 nL cc own HG) {x : Int32} {off : Int} {tgt : Nat} (d : decode cc pc = .ok (.ifCond .ge off, 3)) (ht : (pc : Int) + off = (tgt : Int)) (kt : JR p l e R s m args below meth c Q D S0 nL bc bs P1 tgt L st) (kf : JR p l e R s m args below meth c Q D S0 nL bc bs P2 (pc + 3) L st) : JR p l e R s m args below meth c Q D S0 nL bc bs (jif (nI 0 ≤ x) P1 P2) pc L (.int x :: st) :=
  fun σ H locs cells slots ls h1 h2 h3 h4 h5 h6 => lv_if_ge K.hx K.hb d ht (fun z => kt σ H locs cells slots ls (h1.1 z) h2 h3 h4 h5 h6) (fun z => kf σ H locs cells slots ls (h1.2 z) h2 h3 h4 h5 h6)
theorem jr_icmp_gt (K : JK p l R s m args meth c D S0 A0 nL cc own HG) {x y : Int32} {off : Int} {tgt : Nat} (d : decode cc pc = .ok (.if_icmp .gt off, 3)) (ht : (pc : Int) + off = (tgt : Int)) (kt : JR p l e R s m args below meth c Q D S0 nL bc bs P1 tgt L st) (kf : JR p l e R s m args below meth c Q D S0 nL bc bs P2 (pc + 3) L st) : JR p l e R s m args below meth c Q D S0 nL bc bs (jif (y < x) P1 P2) pc L (.int y :: .int x :: st) :=
  fun σ H locs cells slots ls h1 h2 h3 h4 h5 h6 => lv_icmp_gt K.hx K.hb d ht (fun z => kt σ H locs cells slots ls (h1.1 z) h2 h3 h4 h5 h6) (fun z => kf σ H locs cells slots ls (h1.2 z) h2 h3 h4 h5 h6)
theorem jr_if_gt (K : JK p l R s m args meth c D S0 A0 nL cc own HG) {x : Int32} {off : Int} {tgt : Nat} (d : decode cc pc = .ok (.ifCond .gt off, 3)) (ht : (pc : Int) + off = (tgt : Int)) (kt : JR p l e R s m args below meth c Q D S0 nL bc bs P1 tgt L st) (kf : JR p l e R s m args below meth c Q D S0 nL bc bs P2 (pc + 3) L st) : JR p l e R s m args below meth c Q D S0 nL bc bs (jif (nI 0 < x) P1 P2) pc L (.int x :: st) :=
  fun σ H locs cells slots ls h1 h2 h3 h4 h5 h6 => lv_if_gt K.hx K.hb d ht (fun z => kt σ H locs cells slots ls (h1.1 z) h2 h3 h4 h5 h6) (fun z => kf σ H locs cells slots ls (h1.2 z) h2 h3 h4 h5 h6)
theorem jr_icmp_le (K : JK p l R s m args meth c D S0 A0 nL cc own HG) {x y : Int32} {off : Int} {tgt : Nat} (d : decode cc pc = .ok (.if_icmp .le off, 3)) (ht : (pc : Int) + off = (tgt : Int)) (kt : JR p l e R s m args below meth c Q D S0 nL bc bs P1 tgt L st) (kf : JR p l e R s m args below meth c Q D S0 nL bc bs P2 (pc + 3) L st) : JR p l e R s m args below meth c Q D S0 nL bc bs (jif (x ≤ y) P1 P2) pc L (.int y :: .int x :: st) :=
  fun σ H locs cells slots ls h1 h2 h3 h4 h5 h6 => lv_icmp_le K.hx K.hb d ht (fun z => kt σ H locs cells slots ls (h1.1 z) h2 h3 h4 h5 h6) (fun z => kf σ H locs cells slots ls (h1.2 z) h2 h3 h4 h5 h6)
theorem jr_if_le (K : JK p l R s m args meth c D S0 A0 nL cc own HG) {x : Int32} {off : Int} {tgt : Nat} (d : decode cc pc = .ok (.ifCond .le off, 3)) (ht : (pc : Int) + off = (tgt : Int)) (kt : JR p l e R s m args below meth c Q D S0 nL bc bs P1 tgt L st) (kf : JR p l e R s m args below meth c Q D S0 nL bc bs P2 (pc + 3) L st) : JR p l e R s m args below meth c Q D S0 nL bc bs (jif (x ≤ nI 0) P1 P2) pc L (.int x :: st) :=
  fun σ H locs cells slots ls h1 h2 h3 h4 h5 h6 => lv_if_le K.hx K.hb d ht (fun z => kt σ H locs cells slots ls (h1.1 z) h2 h3 h4 h5 h6) (fun z => kf σ H locs cells slots ls (h1.2 z) h2 h3 h4 h5 h6)
theorem jr_ifnull (K : JK p l R s m args meth c D S0 A0 nL cc own HG) {r : Option Nat} {off : Int} {tgt : Nat} (d : decode cc pc = .ok (.ifnull off, 3)) (ht : (pc : Int) + off = (tgt : Int)) (kt : r = none → JR p l e R s m args below meth c Q D S0 nL bc bs P1 tgt L st) (kf : r ≠ none → JR p l e R s m args below meth c Q D S0 nL bc bs P2 (pc + 3) L st) : JR p l e R s m args below meth c Q D S0 nL bc bs (jnull r P1 P2) pc L (va_rf r :: st) := by
  cases r with
  | none => exact fun σ H locs cells slots ls h1 h2 h3 h4 h5 h6 => lv_ifnullN K.hx K.hb d ht (kt rfl σ H locs cells slots ls (h1.1 rfl) h2 h3 h4 h5 h6)
  | some a => exact fun σ H locs cells slots ls h1 h2 h3 h4 h5 h6 => lv_ifnull K.hx K.hb d (kf (fun z => nomatch z) σ H locs cells slots ls (h1.2 (fun z => nomatch z)) h2 h3 h4 h5 h6)
theorem jr_ifnonnull (K : JK p l R s m args meth c D S0 A0 nL cc own HG) {r : Option Nat} {off : Int} {tgt : Nat} (d : decode cc pc = .ok (.ifnonnull off, 3)) (ht : (pc : Int) + off = (tgt : Int)) (kt : r ≠ none → JR p l e R s m args below meth c Q D S0 nL bc bs P2 tgt L st) (kf : r = none → JR p l e R s m args below meth c Q D S0 nL bc bs P1 (pc + 3) L st) : JR p l e R s m args below meth c Q D S0 nL bc bs (jnull r P1 P2) pc L (va_rf r :: st) := by
  cases r with
  | none => exact fun σ H locs cells slots ls h1 h2 h3 h4 h5 h6 => lv_ifnonnullN K.hx K.hb d (kf rfl σ H locs cells slots ls (h1.1 rfl) h2 h3 h4 h5 h6)
  | some a => exact fun σ H locs cells slots ls h1 h2 h3 h4 h5 h6 => lv_ifnonnull K.hx K.hb d ht (kt (fun z => nomatch z) σ H locs cells slots ls (h1.2 (fun z => nomatch z)) h2 h3 h4 h5 h6)
theorem jr_some {r : Option Nat} {f : Nat → JP} (k : ∀ a, r = some a → JR p l e R s m args below meth c Q D S0 nL bc bs (f a) pc L st) : JR p l e R s m args below meth c Q D S0 nL bc bs (jsome r f) pc L st := by
  cases r with
  | none => exact fun _ _ _ _ _ _ h => h.elim
  | some a => exact k a rfl
theorem jr_bud {f : Nat → Nat → JP} (k : ∀ mc ms : Nat, mc ≤ bc → ms ≤ bs → JR p l e R s m args below meth c Q D S0 nL bc bs (f mc ms) pc L st) : JR p l e R s m args below meth c Q D S0 nL bc bs (jbud bc bs f) pc L st := by
  intro σ H locs cells slots ls h1 h2 h3 h4 h5 h6
  obtain ⟨mc, ms, z1, z2, z3⟩ := h1
  exact k mc ms z1 z2 σ H locs cells slots ls z3 h2 h3 h4 h5 h6
theorem jr_ex {f : Nat → JP} (k : ∀ n : Nat, JR p l e R s m args below meth c Q D S0 nL bc bs (f n) pc L st) : JR p l e R s m args below meth c Q D S0 nL bc bs (jex f) pc L st := by
  intro σ H locs cells slots ls h1 h2 h3 h4 h5 h6
  obtain ⟨n, z⟩ := h1
  exact k n σ H locs cells slots ls z h2 h3 h4 h5 h6
theorem jr_tableOut (K : JK p l R s m args meth c D S0 A0 nL cc own HG) {dflt lo hi : Int} {offs : Array Int} {len : Nat} {x : Int32} {tgt : Nat} (d : decode cc pc = .ok (.tableswitch dflt lo hi offs, len)) (h : x.toInt < lo ∨ hi < x.toInt) (ht : (pc : Int) + dflt = (tgt : Int)) (k : JR p l e R s m args below meth c Q D S0 nL bc bs P tgt L st) : JR p l e R s m args below meth c Q D S0 nL bc bs P pc L (.int x :: st) := JR.same (fun _ w => lv_tableOut K.hx K.hb d h ht w) k
theorem jr_tableIn (K : JK p l R s m args meth c D S0 A0 nL cc own HG) {dflt lo hi : Int} {offs : Array Int} {len : Nat} {x : Int32} {off : Int} {tgt : Nat} (d : decode cc pc = .ok (.tableswitch dflt lo hi offs, len)) (h1 : ¬ x.toInt < lo) (h2 : ¬ hi < x.toInt) (ho : offs[(x.toInt - lo).toNat]? = some off) (ht : (pc : Int) + off = (tgt : Int)) (k : JR p l e R s m args below meth c Q D S0 nL bc bs P tgt L st) : JR p l e R s m args below meth c Q D S0 nL bc bs P pc L (.int x :: st) := JR.same (fun _ w => lv_tableIn K.hx K.hb d h1 h2 ho ht w) k
/-! fields -/
theorem JR.get (K : JK p l R s m args meth c D S0 A0 nL cc own HG) {C ref : String} {T : u_T} {N ci k0 index a : Nat} (hin : ∀ w ∈ u_ws C T N, w ∈ lw_all) (hcl : jcl[ci]? = some (C, T, N)) (hk : k0 < N) (hq : Cond.fieldLink own index ref (T k0).2.1 (T k0).2.2.1 ∈ lw_all) (hs : (T k0).1 = ref) (d : decode cc pc = .ok (.getfield index, 3))
    {σ : Hp} {H : Heap} {locs : List Loc} {cells slots : Nat} {ls : Array Slot} {fs : List Value} {v : Value} (hR : jRep D S0.heap.size σ H) (ha : σ.1 a = some (.inl (ci, fs))) (hv : fs[k0]? = some v) (w : W p l e R s m args below meth c H locs cells slots Q (F0 m (pc + 3) ls (v :: st))) : W p l e R s m args below meth c H locs cells slots Q (F0 m pc ls (.ref a :: st)) := by
  subst hs
  exact va_get (D := D.1) (cl := jcl) (tys := jtys D.2) (ws := [(a, .inr (ci, fs))]) K.hx K.hb K.hts hin K.hown K.hK (hR.one ha) 0 rfl hcl k0 hk (K.hts _ hq) (fun _ h9 => h9) hv d w
theorem JR.getN (K : JK p l R s m args meth c D S0 A0 nL cc own HG) {C ref host : String} {T : u_T} {N ci k0 index a : Nat} (hin : ∀ w ∈ u_ws C T N, w ∈ lw_all) (hcl : jcl[ci]? = some (C, T, N)) (hk : k0 < N) (hq : Cond.fieldLinkNest own index ref (T k0).2.1 (T k0).2.2.1 host ∈ lw_tbl) (hs : (T k0).1 = ref) (d : decode cc pc = .ok (.getfield index, 3))
    {σ : Hp} {H : Heap} {locs : List Loc} {cells slots : Nat} {ls : Array Slot} {fs : List Value} {v : Value} (hR : jRep D S0.heap.size σ H) (ha : σ.1 a = some (.inl (ci, fs))) (hv : fs[k0]? = some v) (w : W p l e R s m args below meth c H locs cells slots Q (F0 m (pc + 3) ls (v :: st))) : W p l e R s m args below meth c H locs cells slots Q (F0 m pc ls (.ref a :: st)) := by
  subst hs
  have h1 : va_Nw (.fieldLinkNest own index (T k0).1 (T k0).2.1 (T k0).2.2.1 host) S0 := va_Nw.of rfl (K.hG.2.1 _ hq)
  exact va_getN (D := D.1) (cl := jcl) (tys := jtys D.2) (ws := [(a, .inr (ci, fs))]) K.hx K.hb K.hts hin K.hown K.hK (hR.one ha) 0 rfl hcl k0 hk (va_Nw.use rfl (va_Nw.warmF K.hW h1)) (fun _ h9 => h9) hv d w
/-- what a get is, own or of a nest mate -/
def jGet (own : String) (index ci k0 : Nat) : Prop := ∃ (C ref : String) (T : u_T) (N : Nat), (∀ w ∈ u_ws C T N, w ∈ lw_all) ∧ jcl[ci]? = some (C, T, N) ∧ k0 < N ∧ (T k0).1 = ref ∧ (Cond.fieldLink own index ref (T k0).2.1 (T k0).2.2.1 ∈ lw_all ∨ ∃ host, Cond.fieldLinkNest own index ref (T k0).2.1 (T k0).2.2.1 host ∈ lw_tbl)
theorem jg_own {C ref : String} {T : u_T} {N ci k0 index : Nat} (hin : ∀ w ∈ u_ws C T N, w ∈ lw_all) (hcl : jcl[ci]? = some (C, T, N)) (hk : k0 < N) (hq : Cond.fieldLink own index ref (T k0).2.1 (T k0).2.2.1 ∈ lw_all) (hs : (T k0).1 = ref) : jGet own index ci k0 := ⟨C, ref, T, N, hin, hcl, hk, hs, Or.inl hq⟩
theorem jg_nest {C ref host : String} {T : u_T} {N ci k0 index : Nat} (hin : ∀ w ∈ u_ws C T N, w ∈ lw_all) (hcl : jcl[ci]? = some (C, T, N)) (hk : k0 < N) (hq : Cond.fieldLinkNest own index ref (T k0).2.1 (T k0).2.2.1 host ∈ lw_tbl) (hs : (T k0).1 = ref) : jGet own index ci k0 := ⟨C, ref, T, N, hin, hcl, hk, hs, Or.inr ⟨host, hq⟩⟩
theorem jGet.go (K : JK p l R s m args meth c D S0 A0 nL cc own HG) {ci k0 a index : Nat} (G : jGet own index ci k0) (d : decode cc pc = .ok (.getfield index, 3))
    {σ : Hp} {H : Heap} {locs : List Loc} {cells slots : Nat} {ls : Array Slot} {fs : List Value} {v : Value} (hR : jRep D S0.heap.size σ H) (ha : σ.1 a = some (.inl (ci, fs))) (hv : fs[k0]? = some v) (w : W p l e R s m args below meth c H locs cells slots Q (F0 m (pc + 3) ls (v :: st))) : W p l e R s m args below meth c H locs cells slots Q (F0 m pc ls (.ref a :: st)) := by
  obtain ⟨C, ref, T, N, hin, hcl, hk, hs, hq | ⟨host, hq⟩⟩ := G
  · exact JR.get K hin hcl hk hq hs d hR ha hv w
  · exact JR.getN K hin hcl hk hq hs d hR ha hv w
theorem jr_getI (K : JK p l R s m args meth c D S0 A0 nL cc own HG) {ci k0 a index : Nat} {f : Int32 → JP} (G : jGet own index ci k0) (d : decode cc pc = .ok (.getfield index, 3)) (k : ∀ v, JR p l e R s m args below meth c Q D S0 nL bc bs (f v) (pc + 3) L (.int v :: st)) : JR p l e R s m args below meth c Q D S0 nL bc bs (jgetI ci a k0 f) pc L (.ref a :: st) := by
  intro σ H locs cells slots ls h1 h2 h3 h4 h5 h6
  unfold jgetI at h1
  split at h1
  · rename_i c0 fs hσ
    obtain ⟨rfl, h1⟩ := h1
    split at h1
    · rename_i v hv
      exact G.go K d h2 hσ hv (k v σ H locs cells slots ls h1 h2 h3 h4 h5 h6)
    · exact h1.elim
  · exact h1.elim
theorem jr_getL (K : JK p l R s m args meth c D S0 A0 nL cc own HG) {ci k0 a index : Nat} {f : Int64 → JP} (G : jGet own index ci k0) (d : decode cc pc = .ok (.getfield index, 3)) (k : ∀ v, JR p l e R s m args below meth c Q D S0 nL bc bs (f v) (pc + 3) L (.long v :: st)) : JR p l e R s m args below meth c Q D S0 nL bc bs (jgetL ci a k0 f) pc L (.ref a :: st) := by
  intro σ H locs cells slots ls h1 h2 h3 h4 h5 h6
  unfold jgetL at h1
  split at h1
  · rename_i c0 fs hσ
    obtain ⟨rfl, h1⟩ := h1
    split at h1
    · rename_i v hv
      exact G.go K d h2 hσ hv (k v σ H locs cells slots ls h1 h2 h3 h4 h5 h6)
    · exact h1.elim
  · exact h1.elim
theorem jr_getA (K : JK p l R s m args meth c D S0 A0 nL cc own HG) {ci k0 a index : Nat} {f : Nat → JP} (G : jGet own index ci k0) (d : decode cc pc = .ok (.getfield index, 3)) (k : ∀ v, JR p l e R s m args below meth c Q D S0 nL bc bs (f v) (pc + 3) L (.ref v :: st)) : JR p l e R s m args below meth c Q D S0 nL bc bs (jgetA ci a k0 f) pc L (.ref a :: st) := by
  intro σ H locs cells slots ls h1 h2 h3 h4 h5 h6
  unfold jgetA at h1
  split at h1
  · rename_i c0 fs hσ
    obtain ⟨rfl, h1⟩ := h1
    split at h1
    · rename_i v hv
      exact G.go K d h2 hσ hv (k v σ H locs cells slots ls h1 h2 h3 h4 h5 h6)
    · exact h1.elim
  · exact h1.elim
theorem jr_getO (K : JK p l R s m args meth c D S0 A0 nL cc own HG) {ci k0 a index : Nat} {f : Option Nat → JP} (G : jGet own index ci k0) (d : decode cc pc = .ok (.getfield index, 3)) (k : ∀ v, JR p l e R s m args below meth c Q D S0 nL bc bs (f v) (pc + 3) L (va_rf v :: st)) : JR p l e R s m args below meth c Q D S0 nL bc bs (jgetO ci a k0 f) pc L (.ref a :: st) := by
  intro σ H locs cells slots ls h1 h2 h3 h4 h5 h6
  unfold jgetO at h1
  split at h1
  · rename_i c0 fs hσ
    obtain ⟨rfl, h1⟩ := h1
    split at h1
    · rename_i v hv
      exact G.go K d h2 hσ hv (k (some v) σ H locs cells slots ls h1 h2 h3 h4 h5 h6)
    · rename_i hv
      exact G.go K d h2 hσ hv (k none σ H locs cells slots ls h1 h2 h3 h4 h5 h6)
    · exact h1.elim
  · exact h1.elim
/-- what a put is: a field that isn't final, own or of a nest mate; or a final one in the constructor -/
def jPut (own mn : String) (index ci k0 : Nat) (ty : FieldType) : Prop := ∃ (C ref : String) (T : u_T) (N : Nat) (ty0 : Nat → FieldType), (∀ w ∈ u_ws C T N, w ∈ lw_all) ∧ jcl[ci]? = some (C, T, N) ∧ k0 < N ∧ (T k0).1 = ref ∧ (∀ k, k < N → parseFieldDescriptor (T k).2.2.1 = some (ty0 k)) ∧ ty0 k0 = ty ∧ (∀ a, a < N → ∀ b, b < N → a ≠ b → (T a).2.1 ≠ (T b).2.1) ∧
  ((Cond.fieldLink own index ref (T k0).2.1 (T k0).2.2.1 ∈ lw_all ∧ ((T k0).2.2.2 = false ∨ ((T k0).2.2.2 = true ∧ mn = "<init>" ∧ ref = own))) ∨ ((T k0).2.2.2 = false ∧ ∃ host, Cond.fieldLinkNest own index ref (T k0).2.1 (T k0).2.2.1 host ∈ lw_tbl))
theorem JR.put (K : JK p l R s m args meth c D S0 A0 nL cc own HG) {ci k0 a index : Nat} {ty : FieldType} (G : jPut own meth.name index ci k0 ty) (hdg : decode cc pc = .ok (.putfield index, 3))
    {σ : Hp} {H : Heap} {locs : List Loc} {cells slots : Nat} {ls : Array Slot} {fs : List Value} {v : Value} (hR : jRep D S0.heap.size σ H) (hS0 : va_S (jA S0) s.heap H locs) (ha : σ.1 a = some (.inl (ci, fs))) (hl : k0 < fs.length) (hn : narrow ty v = v) (hfit : fits ty v = true)
    (kk : ∀ (H1 : Heap) (locs1 : List Loc), jRep D S0.heap.size (jset σ a (.inl (ci, fs.set k0 v))) H1 → va_S (jA S0) s.heap H1 locs1 → W p l e R s m args below meth c H1 locs1 cells slots Q (F0 m (pc + 3) ls st)) : W p l e R s m args below meth c H locs cells slots Q (F0 m pc ls (v :: .ref a :: st)) := by
  obtain ⟨C, ref, T, N, ty0, hin, hc, hk, hs, hty, hty2, hnm, hq⟩ := G
  subst hs
  subst hty2
  have hK : va_K D.1 jcl (jtys D.2) s := K.hK
  have hap := va_apart (own := own) K.hts hin ty0 hty hnm hK hc
  obtain ⟨r, h1, cell, q1, q2, q3, q4⟩ := hR.one ha 0 _ rfl
  have hr : r = (C, T, N) := Option.some.inj (h1.symm.trans hc)
  subst hr
  obtain ⟨hSl, hfc, kC, hkC, hkind⟩ := hK.1 ci _ hc
  obtain ⟨cf, kf, fi, f, hi, hsl⟩ := hSl k0 hk
  have hst := (u_facts hfc hkC (u_lays K.hts hin hk) hi).1
  have hd : parseFieldDescriptor (T k0).2.2.1 = some (ty0 k0) := hty k0 hk
  have fin : ∀ (H1 : Heap), H1[a]? = some (cell.setSlot f.slot v) → H1.size = H.size → (∀ q : Nat, q ≠ a → H1[q]? = H[q]?) → W p l e R s m args below meth c H1 (locs ++ [⟨a, f.slot⟩]) cells slots Q (F0 m (pc + 3) ls st) := by
    intro H1 e1 e2 e3
    rw [hsl] at e1
    refine kk H1 _ (hR.set ha e2 e3 ?_) (hS0.put e2 e3 (hR.ge ha))
    exact ⟨_, hc, t_OB.to (V := updV (vp_V fs) k0 v) ⟨_, e1, q2, q3, t_set q4 hap hk v⟩ (fun j _ => vp_updV_set hl v j)⟩
  have hslot : f.slot < cell.slots.size := by rw [hsl]; exact k2_hasslot (q4 k0 hk)
  rcases hq with ⟨hq, hfin | ⟨hfin, hmn, hown⟩⟩ | ⟨hfin, host, hq⟩
  · have hlay := K.hts _ (hin _ (u_in_lay hk))
    unfold u_lay at hlay
    rw [if_neg (by rw [hfin]; decide)] at hlay
    have h6 := u_store hfc hkC hkind hlay hi hd hn hfit
    exact W.putK K.hx K.hb (f := f) ⟨K.hown, K.hts _ hq, ⟨_, _, _, hi⟩, hst⟩ (by rw [q2]; exact h6) q1 q3 hslot rfl rfl hdg fin
  · have hlay := K.hts _ (hin _ (u_in_lay hk))
    unfold u_lay at hlay
    rw [if_pos hfin] at hlay
    have hcf : m.cls = cf := by
      obtain ⟨_, _, c', _, _, _, -, -, hf', -, -, -, hown2, -⟩ := Cond.laysFinal_spec hlay
      have e1 : c' = cf := by have := hi.symm.trans hf'; simp at this; exact this.1.symm
      rw [hown] at hown2
      rw [← e1]; exact Option.some.inj (K.hown.symm.trans hown2)
    have h6 := u_fits hfc hkC hkind (Or.inr hlay) hi hd hn hfit
    exact W.putFinK K.hx K.hb K.hown (K.hts _ hq) hi hst hcf hmn (by rw [q2]; exact h6) q1 q3 hslot rfl rfl hdg fin
  · have hlay := K.hts _ (hin _ (u_in_lay hk))
    unfold u_lay at hlay
    rw [if_neg (by rw [hfin]; decide)] at hlay
    have h6 := u_store hfc hkC hkind hlay hi hd hn hfit
    have h7 : va_Nw (.fieldLinkNest own index (T k0).1 (T k0).2.1 (T k0).2.2.1 host) S0 := va_Nw.of rfl (K.hG.2.1 _ hq)
    exact va_WputK K.hx K.hb (f := f) K.hown (va_Nw.use rfl (va_Nw.warmF K.hW h7)) hi hst (by rw [q2]; exact h6) q1 q3 hslot rfl rfl hdg fin
theorem jp_own {C ref mn : String} {T : u_T} {N ci k0 index : Nat} {ty0 : Nat → FieldType} {ty : FieldType} (hin : ∀ w ∈ u_ws C T N, w ∈ lw_all) (hcl : jcl[ci]? = some (C, T, N)) (hk : k0 < N) (hty : ∀ k, k < N → parseFieldDescriptor (T k).2.2.1 = some (ty0 k)) (hnm : ∀ a, a < N → ∀ b, b < N → a ≠ b → (T a).2.1 ≠ (T b).2.1) (hq : Cond.fieldLink own index ref (T k0).2.1 (T k0).2.2.1 ∈ lw_all) (hs : (T k0).1 = ref) (ht : ty0 k0 = ty) (hf : (T k0).2.2.2 = false) : jPut own mn index ci k0 ty := ⟨C, ref, T, N, ty0, hin, hcl, hk, hs, hty, ht, hnm, Or.inl ⟨hq, Or.inl hf⟩⟩
theorem jp_fin {C ref mn : String} {T : u_T} {N ci k0 index : Nat} {ty0 : Nat → FieldType} {ty : FieldType} (hin : ∀ w ∈ u_ws C T N, w ∈ lw_all) (hcl : jcl[ci]? = some (C, T, N)) (hk : k0 < N) (hty : ∀ k, k < N → parseFieldDescriptor (T k).2.2.1 = some (ty0 k)) (hnm : ∀ a, a < N → ∀ b, b < N → a ≠ b → (T a).2.1 ≠ (T b).2.1) (hq : Cond.fieldLink own index ref (T k0).2.1 (T k0).2.2.1 ∈ lw_all) (hs : (T k0).1 = ref) (ht : ty0 k0 = ty) (hf : (T k0).2.2.2 = true) (hm : mn = "<init>") (ho : ref = own) : jPut own mn index ci k0 ty := ⟨C, ref, T, N, ty0, hin, hcl, hk, hs, hty, ht, hnm, Or.inl ⟨hq, Or.inr ⟨hf, hm, ho⟩⟩⟩
theorem jp_nest {C ref mn host : String} {T : u_T} {N ci k0 index : Nat} {ty0 : Nat → FieldType} {ty : FieldType} (hin : ∀ w ∈ u_ws C T N, w ∈ lw_all) (hcl : jcl[ci]? = some (C, T, N)) (hk : k0 < N) (hty : ∀ k, k < N → parseFieldDescriptor (T k).2.2.1 = some (ty0 k)) (hnm : ∀ a, a < N → ∀ b, b < N → a ≠ b → (T a).2.1 ≠ (T b).2.1) (hq : Cond.fieldLinkNest own index ref (T k0).2.1 (T k0).2.2.1 host ∈ lw_tbl) (hs : (T k0).1 = ref) (ht : ty0 k0 = ty) (hf : (T k0).2.2.2 = false) : jPut own mn index ci k0 ty := ⟨C, ref, T, N, ty0, hin, hcl, hk, hs, hty, ht, hnm, Or.inr ⟨hf, host, hq⟩⟩
theorem jr_put (K : JK p l R s m args meth c D S0 A0 nL cc own HG) {ci k0 a index : Nat} {ty : FieldType} {v : Value} (G : jPut own meth.name index ci k0 ty) (d : decode cc pc = .ok (.putfield index, 3)) (hn : narrow ty v = v) (hfit : fits ty v = true) (k : JR p l e R s m args below meth c Q D S0 nL bc bs P (pc + 3) L st) : JR p l e R s m args below meth c Q D S0 nL bc bs (jput ci a k0 v P) pc L (v :: .ref a :: st) := by
  intro σ H locs cells slots ls h1 h2 h3 h4 h5 h6
  unfold jput at h1
  split at h1
  · rename_i c0 fs hσ
    obtain ⟨rfl, hl, h1⟩ := h1
    exact JR.put K G d h2 h3 hσ hl hn hfit fun H1 locs1 h2 h3 => k _ H1 locs1 cells slots ls h1 h2 h3 h4 h5 h6
  · exact h1.elim
theorem jr_putZ (K : JK p l R s m args meth c D S0 A0 nL cc own HG) {ci k0 a index : Nat} {x : Int32} (G : jPut own meth.name index ci k0 .boolean) (d : decode cc pc = .ok (.putfield index, 3)) (k : JR p l e R s m args below meth c Q D S0 nL bc bs P (pc + 3) L st) : JR p l e R s m args below meth c Q D S0 nL bc bs (jputZ ci a k0 x P) pc L (.int x :: .ref a :: st) := by
  intro σ H locs cells slots ls h1 h2 h3 h4 h5 h6
  obtain ⟨hx, h1⟩ := h1
  refine jr_put K G d ?_ ?_ k σ H locs cells slots ls h1 h2 h3 h4 h5 h6
  · rcases hx with rfl | rfl <;> decide
  · rcases hx with rfl | rfl <;> decide
/-! arrays -/
theorem JR.ald (K : JK p l R s m args meth c D S0 A0 nL cc own HG) {a : Nat} {i : Int32} {n : Nat} {g : Nat → Int32} {t : Nat} (d : (t = 0 ∧ decode cc pc = .ok (.iaload, 1)) ∨ (t = 1 ∧ decode cc pc = .ok (.baload, 1)) ∨ (t = 2 ∧ decode cc pc = .ok (.baload, 1)))
    {σ : Hp} {H : Heap} {locs : List Loc} {cells slots : Nat} {ls : Array Slot} (hR : jRep D S0.heap.size σ H) (ha : σ.1 a = some (.inr (t, n, .inl g))) (hin : vp_in i n) (w : W p l e R s m args below meth c H locs cells slots Q (F0 m (pc + 1) ls (.int (g i.toNatClampNeg) :: st))) : W p l e R s m args below meth c H locs cells slots Q (F0 m pc ls (.int i :: .ref a :: st)) := by
  rcases d with ⟨rfl, d⟩ | ⟨rfl, d⟩ | ⟨rfl, d⟩
  · exact va_iald (ws := [(a, .inl (D.2 0, n, .inl g))]) K.hx K.hb K.hK (hR.one ha) 0 0 rfl rfl hin d w
  · exact va_zald (ws := [(a, .inl (D.2 1, n, .inl g))]) K.hx K.hb K.hK (hR.one ha) 0 1 rfl rfl hin d w
  · exact va_bald (ws := [(a, .inl (D.2 2, n, .inl g))]) K.hx K.hb K.hK (hR.one ha) 0 2 rfl rfl hin d w
theorem jr_aldI (K : JK p l R s m args meth c D S0 A0 nL cc own HG) {t a : Nat} {i : Int32} {f : Int32 → JP} (d : (t = 0 ∧ decode cc pc = .ok (.iaload, 1)) ∨ (t = 1 ∧ decode cc pc = .ok (.baload, 1)) ∨ (t = 2 ∧ decode cc pc = .ok (.baload, 1))) (k : ∀ v, JR p l e R s m args below meth c Q D S0 nL bc bs (f v) (pc + 1) L (.int v :: st)) : JR p l e R s m args below meth c Q D S0 nL bc bs (jaldI t a i f) pc L (.int i :: .ref a :: st) := by
  intro σ H locs cells slots ls h1 h2 h3 h4 h5 h6
  unfold jaldI at h1
  split at h1
  · rename_i t' n g hσ
    obtain ⟨rfl, hin, h1⟩ := h1
    exact JR.ald K d h2 hσ hin (k _ σ H locs cells slots ls h1 h2 h3 h4 h5 h6)
  · exact h1.elim
theorem jr_iald (K : JK p l R s m args meth c D S0 A0 nL cc own HG) {a : Nat} {i : Int32} {f : Int32 → JP} (d : decode cc pc = .ok (.iaload, 1)) (k : ∀ v, JR p l e R s m args below meth c Q D S0 nL bc bs (f v) (pc + 1) L (.int v :: st)) : JR p l e R s m args below meth c Q D S0 nL bc bs (jaldI 0 a i f) pc L (.int i :: .ref a :: st) := jr_aldI K (Or.inl ⟨rfl, d⟩) k
theorem jr_zald (K : JK p l R s m args meth c D S0 A0 nL cc own HG) {a : Nat} {i : Int32} {f : Int32 → JP} (d : decode cc pc = .ok (.baload, 1)) (k : ∀ v, JR p l e R s m args below meth c Q D S0 nL bc bs (f v) (pc + 1) L (.int v :: st)) : JR p l e R s m args below meth c Q D S0 nL bc bs (jaldI 1 a i f) pc L (.int i :: .ref a :: st) := jr_aldI K (Or.inr (Or.inl ⟨rfl, d⟩)) k
theorem jr_bald (K : JK p l R s m args meth c D S0 A0 nL cc own HG) {a : Nat} {i : Int32} {f : Int32 → JP} (d : decode cc pc = .ok (.baload, 1)) (k : ∀ v, JR p l e R s m args below meth c Q D S0 nL bc bs (f v) (pc + 1) L (.int v :: st)) : JR p l e R s m args below meth c Q D S0 nL bc bs (jaldI 2 a i f) pc L (.int i :: .ref a :: st) := jr_aldI K (Or.inr (Or.inr ⟨rfl, d⟩)) k
theorem jr_lald (K : JK p l R s m args meth c D S0 A0 nL cc own HG) {a : Nat} {i : Int32} {f : Int64 → JP} (d : decode cc pc = .ok (.laload, 1)) (k : ∀ v, JR p l e R s m args below meth c Q D S0 nL bc bs (f v) (pc + 1) L (.long v :: st)) : JR p l e R s m args below meth c Q D S0 nL bc bs (jaldL a i f) pc L (.int i :: .ref a :: st) := by
  intro σ H locs cells slots ls h1 h2 h3 h4 h5 h6
  unfold jaldL at h1
  split at h1
  · rename_i t' n g hσ
    obtain ⟨rfl, hin, h1⟩ := h1
    exact va_lald (ws := [(a, .inl (D.2 3, n, .inr (.inl g)))]) K.hx K.hb K.hK (h2.one hσ) 0 3 rfl rfl hin d (k _ σ H locs cells slots ls h1 h2 h3 h4 h5 h6)
  · exact h1.elim
theorem jty_ref {t : Nat} (h1 : 4 ≤ t) : (jty t).isReference = true := by
  match t, h1 with
  | 4, _ => rfl
  | 5, _ => rfl
  | 6, _ => rfl
  | 7, _ => rfl
  | 8, _ => rfl
  | 9, _ => rfl
  | 10, _ => rfl
  | 11, _ => rfl
  | k + 12, _ => rfl
theorem jtys_at {d : Nat → ClassId} {t : Nat} (h : t ≤ 12) : (jtys d)[t]? = some (d t, jty t) := by
  match t, h with
  | 0, _ => rfl
  | 1, _ => rfl
  | 2, _ => rfl
  | 3, _ => rfl
  | 4, _ => rfl
  | 5, _ => rfl
  | 6, _ => rfl
  | 7, _ => rfl
  | 8, _ => rfl
  | 9, _ => rfl
  | 10, _ => rfl
  | 11, _ => rfl
  | 12, _ => rfl
theorem jr_aald (K : JK p l R s m args meth c D S0 A0 nL cc own HG) {t a : Nat} {i : Int32} {f : Nat → JP} (ht : 4 ≤ t ∧ t ≤ 12) (d : decode cc pc = .ok (.aaload, 1)) (k : ∀ v, JR p l e R s m args below meth c Q D S0 nL bc bs (f v) (pc + 1) L (.ref v :: st)) : JR p l e R s m args below meth c Q D S0 nL bc bs (jaldA t a i f) pc L (.int i :: .ref a :: st) := by
  intro σ H locs cells slots ls h1 h2 h3 h4 h5 h6
  unfold jaldA at h1
  split at h1
  · rename_i t' n g hσ
    obtain ⟨rfl, hin, h1⟩ := h1
    split at h1
    · rename_i v hv
      have hlt : i.toNatClampNeg < n := Nat.not_le.mp fun q => hin (Or.inr q)
      have hcell : H[a]? = some (vp_cell (D.2 t') (n, .inr (.inr (.inr (.inr g))))) := h2.one hσ 0 _ rfl
      refine W.aald (v := .ref v) (ty := jty t') K.hx K.hb hcell ((K.hK.2 t' _ (jtys_at ht.2)).1 n (fun j => va_rf (g j))) (jty_ref ht.1) (fun q => by cases q) ?_ ?_ rfl rfl d (k v σ H locs cells slots ls h1 h2 h3 h4 h5 h6)
      · show ¬ (i < 0 ∨ (arrV _ _ _).slots.size ≤ _)
        rw [arrV_size]
        exact hin
      · show (arrV _ _ _).slots[_]? = _
        rw [arrV_read _ _ hlt, hv]
        rfl
    · exact h1.elim
  · exact h1.elim
theorem jr_iast (K : JK p l R s m args meth c D S0 A0 nL cc own HG) {a : Nat} {i x : Int32} (d : decode cc pc = .ok (.iastore, 1)) (k : JR p l e R s m args below meth c Q D S0 nL bc bs P (pc + 1) L st) : JR p l e R s m args below meth c Q D S0 nL bc bs (jastI a i x P) pc L (.int x :: .int i :: .ref a :: st) := by
  intro σ H locs cells slots ls h1 h2 h3 h4 h5 h6
  unfold jastI at h1
  split at h1
  · rename_i t' n g hσ
    obtain ⟨rfl, hin, h1⟩ := h1
    refine W.iast K.hx K.hb (h2.one hσ 0 _ rfl) ((K.hK.2 0 _ rfl).1 n (fun j => .int (g j))) (fun q => by cases q) (by show ¬ (i < 0 ∨ (arrV _ _ _).slots.size ≤ _); rw [arrV_size]; exact hin) rfl rfl d fun H1 e1 z oq => ?_
    refine k _ H1 _ cells slots ls h1 (h2.set hσ z oq ?_) (h3.put z oq (h2.ge hσ)) h4 h5 h6
    show H1[a]? = some (vp_cell _ _)
    rw [e1]
    rw [vp_cell_i, vp_cell_i, arrV_store]
    congr 2
    funext q
    by_cases hq : q = i.toNatClampNeg
    · subst hq
      simp [updV, upd]
    · simp [updV, upd, hq]
  · exact h1.elim
theorem jnar_z (x : Int32) : narrow .boolean (.int x) = .int (vp_nar .boolean x) := rfl
theorem jnar_b (x : Int32) : narrow .byte (.int x) = .int (vp_nar .byte x) := rfl
theorem jr_zast (K : JK p l R s m args meth c D S0 A0 nL cc own HG) {a : Nat} {i x : Int32} (d : decode cc pc = .ok (.bastore, 1)) (k : JR p l e R s m args below meth c Q D S0 nL bc bs P (pc + 1) L st) : JR p l e R s m args below meth c Q D S0 nL bc bs (jastZ a i x P) pc L (.int x :: .int i :: .ref a :: st) := by
  intro σ H locs cells slots ls h1 h2 h3 h4 h5 h6
  unfold jastZ at h1
  split at h1
  · rename_i t' n g hσ
    obtain ⟨rfl, hin, h1⟩ := h1
    refine W.zast K.hx K.hb (h2.one hσ 0 _ rfl) ((K.hK.2 1 _ rfl).1 n (fun j => .int (g j))) (fun q => by cases q) (by show ¬ (i < 0 ∨ (arrV _ _ _).slots.size ≤ _); rw [arrV_size]; exact hin) rfl rfl d fun H1 e1 z oq => ?_
    refine k _ H1 _ cells slots ls h1 (h2.set hσ z oq ?_) (h3.put z oq (h2.ge hσ)) h4 h5 h6
    show H1[a]? = some (vp_cell _ _)
    rw [e1]
    rw [jnar_z, vp_cell_i, vp_cell_i, arrV_store]
    congr 2
    funext q
    by_cases hq : q = i.toNatClampNeg
    · subst hq
      simp [updV, upd]
    · simp [updV, upd, hq]
  · exact h1.elim
theorem jr_bast (K : JK p l R s m args meth c D S0 A0 nL cc own HG) {a : Nat} {i x : Int32} (d : decode cc pc = .ok (.bastore, 1)) (k : JR p l e R s m args below meth c Q D S0 nL bc bs P (pc + 1) L st) : JR p l e R s m args below meth c Q D S0 nL bc bs (jastB a i x P) pc L (.int x :: .int i :: .ref a :: st) := by
  intro σ H locs cells slots ls h1 h2 h3 h4 h5 h6
  unfold jastB at h1
  split at h1
  · rename_i t' n g hσ
    obtain ⟨rfl, hin, h1⟩ := h1
    refine W.bast K.hx K.hb (h2.one hσ 0 _ rfl) ((K.hK.2 2 _ rfl).1 n (fun j => .int (g j))) (fun q => by cases q) (by show ¬ (i < 0 ∨ (arrV _ _ _).slots.size ≤ _); rw [arrV_size]; exact hin) rfl rfl d fun H1 e1 z oq => ?_
    refine k _ H1 _ cells slots ls h1 (h2.set hσ z oq ?_) (h3.put z oq (h2.ge hσ)) h4 h5 h6
    show H1[a]? = some (vp_cell _ _)
    rw [e1]
    rw [jnar_b, vp_cell_i, vp_cell_i, arrV_store]
    congr 2
    funext q
    by_cases hq : q = i.toNatClampNeg
    · subst hq
      simp [updV, upd]
    · simp [updV, upd, hq]
  · exact h1.elim
theorem jr_last (K : JK p l R s m args meth c D S0 A0 nL cc own HG) {a : Nat} {i : Int32} {x : Int64} (d : decode cc pc = .ok (.lastore, 1)) (k : JR p l e R s m args below meth c Q D S0 nL bc bs P (pc + 1) L st) : JR p l e R s m args below meth c Q D S0 nL bc bs (jastL a i x P) pc L (.long x :: .int i :: .ref a :: st) := by
  intro σ H locs cells slots ls h1 h2 h3 h4 h5 h6
  unfold jastL at h1
  split at h1
  · rename_i t' n g hσ
    obtain ⟨rfl, hin, h1⟩ := h1
    refine W.last K.hx K.hb (h2.one hσ 0 _ rfl) ((K.hK.2 3 _ rfl).1 n (fun j => .long (g j))) (fun q => by cases q) (by show ¬ (i < 0 ∨ (arrV _ _ _).slots.size ≤ _); rw [arrV_size]; exact hin) rfl rfl d fun H1 e1 z oq => ?_
    refine k _ H1 _ cells slots ls h1 (h2.set hσ z oq ?_) (h3.put z oq (h2.ge hσ)) h4 h5 h6
    show H1[a]? = some (vp_cell _ _)
    rw [e1]
    rw [vp_cell_l, vp_cell_l, arrV_store]
    congr 2
    funext q
    by_cases hq : q = i.toNatClampNeg
    · subst hq
      simp [updV, vp_updL]
    · simp [updV, vp_updL, hq]
  · exact h1.elim
theorem jr_alen (K : JK p l R s m args meth c D S0 A0 nL cc own HG) {a : Nat} {f : Int32 → JP} (d : decode cc pc = .ok (.arraylength, 1)) (k : ∀ v, JR p l e R s m args below meth c Q D S0 nL bc bs (f v) (pc + 1) L (.int v :: st)) : JR p l e R s m args below meth c Q D S0 nL bc bs (jalen a f) pc L (.ref a :: st) := by
  intro σ H locs cells slots ls h1 h2 h3 h4 h5 h6
  unfold jalen at h1
  split at h1
  · rename_i t' n g hσ
    obtain ⟨ht, h1⟩ := h1
    exact va_alen (ws := [(a, .inl (D.2 t', n, g))]) K.hx K.hb K.hK (h2.one hσ) 0 t' rfl (jtys_at ht) rfl d (k _ σ H locs cells slots ls h1 h2 h3 h4 h5 h6)
  · exact h1.elim
/-! a reference goes into an array: the object's class is the array's, or castable to it -/
theorem jr_aast (K : JK p l R s m args meth c D S0 A0 nL cc own HG) {t ci a v : Nat} {i : Int32} (ht : 4 ≤ t ∧ t ≤ 10) (hf : jfit t ci) (d : decode cc pc = .ok (.aastore, 1)) (k : JR p l e R s m args below meth c Q D S0 nL bc bs P (pc + 1) L st) : JR p l e R s m args below meth c Q D S0 nL bc bs (jastA t ci a i v P) pc L (.ref v :: .int i :: .ref a :: st) := by
  intro σ H locs cells slots ls h1 h2 h3 h4 h5 h6
  unfold jastA at h1
  split at h1
  · rename_i t' n g c0 fs hσ hv
    obtain ⟨rfl, rfl, hin, h1⟩ := h1
    obtain ⟨r, E, hr, hE, hcast⟩ := hf
    have hlt : i.toNatClampNeg < n := Nat.not_le.mp fun q => hin (Or.inr q)
    have h0 : ¬ i < 0 := fun q => hin (Or.inl q)
    have hcell : H[a]? = some (vp_cell (D.2 t') (n, .inr (.inr (.inr (.inr g))))) := h2.one hσ 0 _ rfl
    have hA := K.hK.2 t' _ (jtys_at (d := D.2) (t := t') (by omega))
    have hRA := hA.2
    rw [hE] at hRA
    obtain ⟨kA, comp, r1, r2, r3, r4⟩ := hRA
    obtain ⟨r', q1, cellv, q2, q3, q4, q5⟩ := h2.one hv 0 _ rfl
    cases q1.symm.trans hr
    obtain ⟨-, hfc, kC, hkC, hkind⟩ := K.hK.1 _ _ hr
    have hinst : s.vm.assignable cellv.cls comp = true := by
      rw [q3]
      rcases hcast with hc | hc
      · rw [hc] at hfc
        cases hfc.symm.trans r3
        exact va_assign ⟨hfc, kC, hkC, hkind⟩
      · have h9 : va_Nw (.castable r.1 E) s := va_Nw.warmC K.hW (va_Nw.of rfl (K.hG.2.1 _ hc))
        obtain ⟨c1, t1, e1, e2, e3⟩ := Cond.castable_spec (va_Nw.use (A := args) rfl h9)
        cases hfc.symm.trans e1
        cases r3.symm.trans e2
        exact e3
    obtain ⟨kcomp, hkcomp, -⟩ := Vm.findClass_spec r3
    refine W.aast (t := .object E) K.hx K.hb hcell (fun q => by intro z; cases z) (fun q => by cases q) r1 r2 rfl hkcomp ⟨h0, by show _ < (arrV _ _ _).slots.size; rw [arrV_size]; exact hlt⟩ q2 (fun q => by rw [q4]; intro z; cases z) (by rw [q3]; exact hkC) hinst rfl rfl d fun H1 e1 z oq => ?_
    refine k _ H1 _ cells slots ls h1 (h2.set hσ z oq ?_) (h3.put z oq (h2.ge hσ)) h4 h5 h6
    show H1[a]? = some (vp_cell _ _)
    rw [e1]
    rw [vp_cell_q, vp_cell_q, arrV_store]
    congr 2
    funext q
    by_cases hq : q = i.toNatClampNeg
    · subst hq
      simp [updV, va_up, va_rf]
    · simp [updV, va_up, hq]
  · exact h1.elim
/-! what is made -/
theorem jr_new (K : JK p l R s m args meth c D S0 A0 nL cc own HG) {C : String} {T : u_T} {N ci index : Nat} {fs : List Value} {ty0 : Nat → FieldType} {f : Nat → JP} (hin : ∀ w ∈ u_ws C T N, w ∈ lw_all) (hcl : jcl[ci]? = some (C, T, N)) (hty : ∀ k, k < N → parseFieldDescriptor (T k).2.2.1 = some (ty0 k)) (hfs : ∀ j, j < N → defaultValue (ty0 j) = vp_V fs j) (h1 : Cond.classLink own index C ∈ lw_all) (h2 : Cond.instantiable C N ∈ lw_all) (h3 : Cond.initialized C ∈ lw_all) (d : decode cc pc = .ok (.new index, 3))
    (k : ∀ v, JR p l e R s m args below meth c Q D S0 nL (bc - 1) (bs - N) (f v) (pc + 3) L (.ref v :: st)) : JR p l e R s m args below meth c Q D S0 nL bc bs (jnew ci N fs bc bs f) pc L st := by
  intro σ H locs cells slots ls h4 h5 h6 h7 h8 h9
  obtain ⟨b1, b2, h4⟩ := h4
  have hKn := K.hK.1 ci _ hcl
  refine W.newcK K.hx K.hb K.hown (K.hts _ h1) (K.hts _ h2) (K.hts _ h3) rfl d (by omega) (by omega) hKn.2.1 rfl fun H1 kC hkC e1 z1 o1 => ?_
  have ez : σ.2 = H.size := h5.1
  have hR := h5.push (o := .inl (ci, fs)) z1 o1 ⟨_, hcl, (u_born ty0 K.hts hin hKn hkC e1 hty).to hfs⟩
  rw [← ez]
  exact k σ.2 _ H1 locs (cells + 1) (slots + N) ls h4 hR ⟨by rw [z1]; exact Nat.le_trans h6.1 (by omega), fun x q1 q2 => (o1 x (Nat.lt_of_lt_of_le q1 h6.1)).trans (h6.2.1 x q1 q2), h6.2.2⟩ (by omega) (by omega) h9
theorem JR.newa (K : JK p l R s m args meth c D S0 A0 nL cc own HG) {t : Nat} {atype : ArrayType} {i : Int32} {x : vp_A} (ht : t ≤ 12) (hty : newarray.typeOf atype = jty t) (hn : x.1 = i.toNatClampNeg) (hx : vp_cell (D.2 t) x = arrV (D.2 t) i.toNatClampNeg (fun _ => defaultValue (newarray.typeOf atype))) (hq : Cond.arrayClass (newarray.typeOf atype) ∈ lw_all) (d : decode cc pc = .ok (.newarray atype, 2)) (hra : ∀ U cA, va_RA U cA (jty t) → U.vm.findClass ("[" ++ (jty t).toString) = some cA) (hbt : componentBytes (newarray.typeOf atype) ≤ 8)
    {σ : Hp} {H : Heap} {locs : List Loc} {cells slots : Nat} {ls : Array Slot} (h5 : jRep D S0.heap.size σ H) (h6 : va_S (jA S0) s.heap H locs) (h7 : cells + 1 ≤ R.cells) (h8 : slots + i.toNatClampNeg ≤ R.slots) (hi : ¬ i < 0) (hb : i.toNatClampNeg ≤ 60000000)
    (k : ∀ H1 : Heap, jRep D S0.heap.size (jall σ (.inr (t, x))) H1 → va_S (jA S0) s.heap H1 locs → W p l e R s m args below meth c H1 locs (cells + 1) (slots + i.toNatClampNeg) Q (F0 m (pc + 2) ls (.ref σ.2 :: st))) : W p l e R s m args below meth c H locs cells slots Q (F0 m pc ls (.int i :: st)) := by
  have hb2 : i.toNatClampNeg * componentBytes (newarray.typeOf atype) ≤ 536870912 := Nat.le_trans (Nat.mul_le_mul hb hbt) (by decide)
  refine va_newaK K.hx K.hb (K.hts _ hq) rfl d rfl hi rfl hb2 h7 h8 rfl fun H1 cA e1 z1 o1 hAr hNm => ?_
  have ez : σ.2 = H.size := h5.1
  have hc : D.2 t = cA := by
    have h1 := hra s _ (K.hK.2 t _ (jtys_at ht)).2
    rw [hty] at hNm
    exact Option.some.inj (h1.symm.trans hNm)
  subst hc
  have hR := h5.push (o := .inr (t, x)) z1 o1 (by show H1[H.size]? = some (vp_cell _ _); rw [hx]; exact e1)
  rw [← ez]
  exact k H1 hR ⟨by rw [z1]; exact Nat.le_trans h6.1 (by omega), fun x q1 q2 => (o1 x (Nat.lt_of_lt_of_le q1 h6.1)).trans (h6.2.1 x q1 q2), h6.2.2⟩
theorem jr_newI (K : JK p l R s m args meth c D S0 A0 nL cc own HG) {f : Nat → JP} {i : Int32} (d : decode cc pc = .ok (.newarray .int, 2)) (k : ∀ v, JR p l e R s m args below meth c Q D S0 nL (bc - 1) (bs - i.toNatClampNeg) (f v) (pc + 2) L (.ref v :: st)) : JR p l e R s m args below meth c Q D S0 nL bc bs (jnewI 0 i bc bs f) pc L (.int i :: st) := by
  intro σ H locs cells slots ls h1 h2 h3 h4 h5 h6
  obtain ⟨b1, b2, hi, hb, h1⟩ := h1
  exact JR.newa K (t := 0) (atype := .int) (x := (i.toNatClampNeg, .inl (fun _ => 0))) (by decide) rfl rfl rfl q321 d (fun _ _ h => h) (by decide) h2 h3 (by omega) (by omega) hi hb fun H1 h2 h3 => k _ _ H1 locs _ _ ls h1 h2 h3 (by omega) (by omega) h6
theorem jr_newZ (K : JK p l R s m args meth c D S0 A0 nL cc own HG) {f : Nat → JP} {i : Int32} (d : decode cc pc = .ok (.newarray .boolean, 2)) (k : ∀ v, JR p l e R s m args below meth c Q D S0 nL (bc - 1) (bs - i.toNatClampNeg) (f v) (pc + 2) L (.ref v :: st)) : JR p l e R s m args below meth c Q D S0 nL bc bs (jnewI 1 i bc bs f) pc L (.int i :: st) := by
  intro σ H locs cells slots ls h1 h2 h3 h4 h5 h6
  obtain ⟨b1, b2, hi, hb, h1⟩ := h1
  exact JR.newa K (t := 1) (atype := .boolean) (x := (i.toNatClampNeg, .inl (fun _ => 0))) (by decide) rfl rfl rfl q514 d (fun _ _ h => h) (by decide) h2 h3 (by omega) (by omega) hi hb fun H1 h2 h3 => k _ _ H1 locs _ _ ls h1 h2 h3 (by omega) (by omega) h6
theorem jr_newB (K : JK p l R s m args meth c D S0 A0 nL cc own HG) {f : Nat → JP} {i : Int32} (d : decode cc pc = .ok (.newarray .byte, 2)) (k : ∀ v, JR p l e R s m args below meth c Q D S0 nL (bc - 1) (bs - i.toNatClampNeg) (f v) (pc + 2) L (.ref v :: st)) : JR p l e R s m args below meth c Q D S0 nL bc bs (jnewI 2 i bc bs f) pc L (.int i :: st) := by
  intro σ H locs cells slots ls h1 h2 h3 h4 h5 h6
  obtain ⟨b1, b2, hi, hb, h1⟩ := h1
  exact JR.newa K (t := 2) (atype := .byte) (x := (i.toNatClampNeg, .inl (fun _ => 0))) (by decide) rfl rfl rfl q172 d (fun _ _ h => h) (by decide) h2 h3 (by omega) (by omega) hi hb fun H1 h2 h3 => k _ _ H1 locs _ _ ls h1 h2 h3 (by omega) (by omega) h6
theorem jr_newL (K : JK p l R s m args meth c D S0 A0 nL cc own HG) {f : Nat → JP} {i : Int32} (d : decode cc pc = .ok (.newarray .long, 2)) (k : ∀ v, JR p l e R s m args below meth c Q D S0 nL (bc - 1) (bs - i.toNatClampNeg) (f v) (pc + 2) L (.ref v :: st)) : JR p l e R s m args below meth c Q D S0 nL bc bs (jnewL i bc bs f) pc L (.int i :: st) := by
  intro σ H locs cells slots ls h1 h2 h3 h4 h5 h6
  obtain ⟨b1, b2, hi, hb, h1⟩ := h1
  exact JR.newa K (t := 3) (atype := .long) (x := (i.toNatClampNeg, .inr (.inl (fun _ => 0)))) (by decide) rfl rfl rfl q1630 d (fun _ _ h => h) (by decide) h2 h3 (by omega) (by omega) hi hb fun H1 h2 h3 => k _ _ H1 locs _ _ ls h1 h2 h3 (by omega) (by omega) h6
theorem jr_newA (K : JK p l R s m args meth c D S0 A0 nL cc own HG) {f : Nat → JP} {i : Int32} {t index : Nat} {C : String} (ht : t ≤ 12) (hC : jty t = .object C) (hq : Cond.classLink own index C ∈ lw_all) (ho : Cond.arrayOver (.object C) ∈ lw_tbl) (d : decode cc pc = .ok (.anewarray index, 3)) (k : ∀ v, JR p l e R s m args below meth c Q D S0 nL (bc - 1) (bs - i.toNatClampNeg) (f v) (pc + 3) L (.ref v :: st)) : JR p l e R s m args below meth c Q D S0 nL bc bs (jnewA t i bc bs f) pc L (.int i :: st) := by
  intro σ H locs cells slots ls h1 h2 h3 h4 h5 h6
  obtain ⟨b1, b2, hi, hb, h1⟩ := h1
  have hO : va_AO C s := va_AO.moved K.hW.alike (va_AO.of (K.hG.2.1 _ ho))
  refine W.anew K.hx K.hb K.hown (K.hts _ hq) (va_AO.use hO) rfl d rfl hi (by omega) (by omega) (by omega) fun cA kA comp f1 f2 f3 f4 => ?_
  have ez : σ.2 = H.size := h2.1
  have hc : D.2 t = cA := by
    have hA := (K.hK.2 t _ (jtys_at (d := D.2) ht)).2
    rw [hC] at hA
    obtain ⟨_, _, _, _, _, r4⟩ := hA
    exact Option.some.inj (r4.symm.trans f1)
  subst hc
  generalize hH1 : H.push ({ cls := D.2 t, slots := Array.replicate i.toNatClampNeg .null, vm := .none } : Cell) = H1
  have z1 : H1.size = H.size + 1 := by rw [← hH1, Array.size_push]
  have e1 : H1[H.size]? = some (arrV (D.2 t) i.toNatClampNeg (fun _ => .null)) := by rw [← hH1, Array.getElem?_push_size, ← arrV_new]
  have o1 : ∀ q : Nat, q < H.size → H1[q]? = H[q]? := fun q hq => by rw [← hH1, Array.getElem?_push, if_neg (Nat.ne_of_lt hq)]
  have hR := h2.push (o := .inr (t, i.toNatClampNeg, .inr (.inr (.inr (.inr (fun _ => none)))))) z1 o1 (by show H1[H.size]? = some (vp_cell _ _); exact e1)
  rw [← ez]
  exact k σ.2 _ H1 locs (cells + 1) (slots + i.toNatClampNeg) ls h1 hR ⟨by rw [z1]; exact Nat.le_trans h3.1 (by omega), fun x q1 q2 => (o1 x (Nat.lt_of_lt_of_le q1 h3.1)).trans (h3.2.1 x q1 q2), h3.2.2⟩ (by omega) (by omega) h6
theorem jr_objInit (K : JK p l R s m args meth c D S0 A0 nL cc own HG) {a idx : Nat} (hq : Cond.methodLink own idx objectInit ∈ lw_all) (d : decode cc pc = .ok (.invokespecial idx, 3)) (hHG : 1 ≤ HG) (hst : (st.map fun v => v.category).sum ≤ 8) (k : JR p l e R s m args below meth c Q D S0 nL bc bs P (pc + 3) L st) : JR p l e R s m args below meth c Q D S0 nL bc bs P pc L (.ref a :: st) := by
  intro σ H locs cells slots ls h1 h2 h3 h4 h5 h6
  have hf := K.hRf
  have hl := K.hRl
  refine W.objInit K.hx K.hb K.hown (K.hts _ hq) (K.hts _ q144) (K.hts _ (show Cond.code objectInit ⟨#[0xb1]⟩ 1 none ∈ lw_all from q145)) rfl (by rw [K.hml]; exact h6.1) rfl d (by omega) (by have := lv_room (m := m) (pc := pc) (ls := ls) (rest := .ref a :: st) hst; omega) ?_
  exact W.eq (g2 := F0 m (pc + 3) ls st) rfl (k σ H locs cells slots ls h1 h2 h3 h4 h5 h6)
/-! returns -/
theorem jr_iret (K : JK p l R s m args meth c D S0 A0 nL cc own HG) {ty : FieldType} {Qj : Int32 → JP} {r : Int32} (hr : meth.sig.returnType = some ty) (hn : narrow ty (.int r) = .int r) (d : decode cc pc = .ok (.ireturn, 1)) : JR p l e R s m args below meth c (MQ below (va_Qi Qj (fun σ t => jRep D S0.heap.size σ t.heap) (jA S0)) args s R.cells R.slots (jA S0)) D S0 nL bc bs (Qj r) pc L [.int r] := by
  intro σ H locs cells slots ls h1 h2 h3 h4 h5 h6
  have hlocks := K.hlocks
  refine W.widen (k := R.cells) (n := R.slots) (by omega) (by omega) ?_
  exact W.zret (v := r) K.hx K.hb hr hn (fun t ht hW => ⟨⟨r, σ, rfl, h1, by show jRep D S0.heap.size σ t.heap; rw [ht]; exact h2⟩, h3.F ht⟩) h3.2.2 d
theorem jr_lret (K : JK p l R s m args meth c D S0 A0 nL cc own HG) {Qj : Int64 → JP} {r : Int64} (hr : meth.sig.returnType = some .long) (d : decode cc pc = .ok (.lreturn, 1)) : JR p l e R s m args below meth c (MQ below (va_Ql Qj (fun σ t => jRep D S0.heap.size σ t.heap) (jA S0)) args s R.cells R.slots (jA S0)) D S0 nL bc bs (Qj r) pc L [.long r] := by
  intro σ H locs cells slots ls h1 h2 h3 h4 h5 h6
  have hlocks := K.hlocks
  refine W.widen (k := R.cells) (n := R.slots) (by omega) (by omega) ?_
  exact W.lret (v := r) K.hx K.hb hr (fun t ht hW => ⟨⟨r, σ, rfl, h1, by show jRep D S0.heap.size σ t.heap; rw [ht]; exact h2⟩, h3.F ht⟩) h3.2.2 d
theorem jr_vret (K : JK p l R s m args meth c D S0 A0 nL cc own HG) {Qj : JP} (hr : meth.sig.returnType = none) (d : decode cc pc = .ok (.return_, 1)) : JR p l e R s m args below meth c (MQ below (va_Qv Qj (fun σ t => jRep D S0.heap.size σ t.heap) (jA S0)) args s R.cells R.slots (jA S0)) D S0 nL bc bs Qj pc L [] := by
  intro σ H locs cells slots ls h1 h2 h3 h4 h5 h6
  have hlocks := K.hlocks
  refine W.widen (k := R.cells) (n := R.slots) (by omega) (by omega) ?_
  exact W.vret K.hx K.hb hr (fun t ht hW => ⟨⟨σ, rfl, h1, by show jRep D S0.heap.size σ t.heap; rw [ht]; exact h2⟩, h3.F ht⟩) h3.2.2 d
/-- a reference that isn't null comes back -/
def jQr (Qj : Nat → JP) (D : jE) (S0 : State) : Array Value → State → Outcome → State → Prop := va_Qr (fun _ : Unit => True) (fun _ a t => ∃ σ : Hp, Qj a σ ∧ jRep D S0.heap.size σ t.heap) (jA S0)
theorem jr_aret (K : JK p l R s m args meth c D S0 A0 nL cc own HG) {rt : FieldType} {Qj : Nat → JP} {r : Nat} (hr : meth.sig.returnType = some rt) (hrt : (∃ n, rt = .object n) ∨ ∃ t, rt = .array t) (d : decode cc pc = .ok (.areturn, 1)) : JR p l e R s m args below meth c (MQ below (jQr Qj D S0) args s R.cells R.slots (jA S0)) D S0 nL bc bs (Qj r) pc L [.ref r] := by
  intro σ H locs cells slots ls h1 h2 h3 h4 h5 h6
  have hlocks := K.hlocks
  refine W.widen (k := R.cells) (n := R.slots) (by omega) (by omega) ?_
  exact W.aret (v := .ref r) K.hx K.hb hr hrt (Or.inr ⟨r, rfl⟩) (fun t ht hW => ⟨⟨(), r, rfl, trivial, σ, h1, by show jRep D S0.heap.size σ t.heap; rw [ht]; exact h2⟩, h3.F ht⟩) h3.2.2 d
theorem jr_zret (K : JK p l R s m args meth c D S0 A0 nL cc own HG) {Qj : Int32 → JP} {r : Int32} (hr : meth.sig.returnType = some .boolean) (d : decode cc pc = .ok (.ireturn, 1)) : JR p l e R s m args below meth c (MQ below (va_Qi Qj (fun σ t => jRep D S0.heap.size σ t.heap) (jA S0)) args s R.cells R.slots (jA S0)) D S0 nL bc bs (jand (r = nI 0 ∨ r = nI 1) (Qj r)) pc L [.int r] :=
  jr_and fun h => jr_iret K hr (by rcases h with rfl | rfl <;> decide) d
/-! a method's start -/
theorem jr_start {y : MethodName} {maxL : Nat} {ret : Option FieldType} {av : List Value} {Qc : Array Value → State → Outcome → State → Prop} {L0 : List (Option Value)} (hG : jG l D S0 A0) (hy : plainName y.cls = true) (hl : (lg_sl av).length ≤ maxL) (hL0 : jargs av maxL = L0)
    (body : ∀ (p : Program) (e : Env) (s : State) (m : MethodId) (below : List Frame) (meth : Method) (c : Code), JK p l (jrm HG bc bs) s m av.toArray meth c D S0 A0 maxL cc y.cls HG → meth.sig.returnType = ret → meth.name = y.name → JR p l e (jrm HG bc bs) s m av.toArray below meth c (MQ below Qc av.toArray s (jrm HG bc bs).cells (jrm HG bc bs).slots (jA S0)) D S0 maxL bc bs P 0 L0 []) :
    Met l y (ws_ y cc maxL ret) (jrm HG bc bs) (va_Pc av (jB D S0 P)) Qc bc bs (jA S0) := by
  refine Met.ofW (cc := cc) (maxL := maxL) (ret := ret) hy rfl ?_
  intro p e s m args below meth c s₁ B hml hv
  obtain ⟨rfl, hW, hlo, hge, σ, hR, hP⟩ := hv
  have hown : s.vm.findClass y.cls = some m.cls := findClass_of_methodNamed B.named
  have hts := atoms_spec (ws := ws_ y cc maxL ret) B.pre
  have hent := lv_entry av hl
  rw [lg_entry_eq]
  refine body p e s m below meth c ⟨B.exec, B.bytes, hml, B.notSynchronized, hown, fun w h => hts w (List.mem_cons_of_mem _ h), hG, hW, hlo, hge, Nat.le_refl _, Nat.le_refl _⟩ B.returns (name_of_methodNamed B.named B.method).1 σ s.heap [] 0 0 _ hP hR va_S.rf (Nat.le_of_eq (Nat.zero_add _)) (Nat.le_of_eq (Nat.zero_add _)) ?_
  subst hL0
  exact ⟨hent.1, hent.2.1, fun i v h => hent.2.2 (i, v) (jargs_spec h)⟩
/-! calls -/
def jMt (y : MethodName) (bytes : ByteArray) (maxL : Nat) (ret : Option FieldType) (n : Nat) : Prop := (y.cls ≠ "java/lang/invoke/MethodHandle" ∧ y.cls ≠ "java/lang/invoke/VarHandle" ∧ (parseMethodDescriptor y.desc).map (fun d => d.parameters.length) = some n) ∧ Cond.initialized y.cls ∈ lw_all ∧ Cond.code y bytes maxL ret ∈ lw_all ∧ maxL ≤ 41
def jMv (y : MethodName) : Prop := Cond.instanceMethod y ∈ lw_all ∧ Cond.selects y.cls y y ∈ lw_all
def jRun (p : Program) (l : Launch) (e : Env) (R : Room) (s : State) (m : MethodId) (args : Array Value) (below : List Frame) (meth : Method) (c : Code) (D : jE) (S0 : State) (nL bc bs : Nat) (Pj : JP) (mc ms pc : Nat) (L : List (Option Value)) (stk st : List Value) (Qa : State → Outcome → State → Prop) : Prop :=
  ∀ (σ : Hp) (H : Heap) (locs : List Loc) (cells slots : Nat) (ls : Array Slot), Pj σ → jRep D S0.heap.size σ H → va_S (jA S0) s.heap H locs → cells + bc ≤ R.cells → slots + bs ≤ R.slots → jL ls nL L → va_Run p l e R s m args below meth c H locs cells slots mc ms (F0 m pc ls stk) st Qa (jA S0)
theorem jB.blind {av : List Value} : FrameBlind (va_Pc av (jB D S0 P)) := fun _ _ _ _ q => ⟨q.1, q.2⟩
theorem jB.pre (K : JK p l R s m args meth c D S0 A0 nL cc own HG) {σ : Hp} {H : Heap} {locs : List Loc} (h1 : P σ) (h2 : jRep D S0.heap.size σ H) (h3 : va_S (jA S0) s.heap H locs) {U : State} (hU : U.heap = H) (hW : s.WarmedH U.vm) : jB D S0 P U := by
  refine ⟨State.WarmedH.trans K.hW hW, fun q hq => ?_, by rw [hU]; exact h2.2.1, σ, by rw [hU]; exact h2, h1⟩
  rw [hU, h3.2.1 q (Nat.lt_of_lt_of_le hq K.hge) (fun z => absurd hq (Nat.not_lt.mpr z))]
  exact K.hlo q hq
theorem jroom (K : JK p l R s m args meth c D S0 A0 nL cc own HG) {hg mc ms maxL : Nat} (h : hg + 1 ≤ HG) (hm : maxL ≤ 41) : (jrm hg mc ms).frames + 1 ≤ R.frames ∧ 8 + (maxL + 11) + (jrm hg mc ms).locals ≤ R.locals := by
  have h1 := K.hRf
  have h2 := K.hRl
  exact ⟨Nat.le_trans h h1, by show 8 + (maxL + 11) + 60 * hg ≤ R.locals; omega⟩
theorem jrun_V (K : JK p l R s m args meth c D S0 A0 nL cc own HG) {y : MethodName} {bytes : ByteArray} {maxL n b ci idx mc ms hg : Nat} {ret : Option FieldType} {As stk : List Value} {Pj : JP} {Qc : Array Value → State → Outcome → State → Prop} (hM : Met l y (ws_ y bytes maxL ret) (jrm hg mc ms) (va_Pc (.ref b :: As) (jB D S0 Pj)) Qc mc ms (jA S0)) (mt : jMt y bytes maxL ret n) (mv : jMv y) (hl : Cond.methodLink own idx y ∈ lw_all) (hci : (jcl[ci]?).map (fun r => r.1) = some y.cls) (hn : As.length = n) (hs : stk = As.reverse ++ .ref b :: st) (hst : (st.map fun v => v.category).sum ≤ 8) (hHG : hg + 1 ≤ HG) (hbc : mc ≤ bc ∧ ms ≤ bs) (d : decode cc pc = .ok (.invokevirtual idx, 3)) :
    jRun p l e R s m args below meth c D S0 nL bc bs (jobj ci b Pj) mc ms pc L stk st (Qc (Value.ref b :: As).toArray) := by
  intro σ H locs cells slots ls h1 h2 h3 h4 h5 h6
  obtain ⟨h0, h1⟩ := h1
  obtain ⟨r, hr1, hr2⟩ : ∃ r, jcl[ci]? = some r ∧ r.1 = y.cls := by
    cases hc : jcl[ci]? with
    | none => rw [hc] at hci; cases hci
    | some r => rw [hc] at hci; exact ⟨r, rfl, Option.some.inj hci⟩
  have hrec : ∃ cell : Cell, H[b]? = some cell ∧ cell.vm.isStatics = false ∧ s.vm.findClass y.cls = some cell.cls := by
    split at h0
    · rename_i c0 fs hσ
      subst h0
      rw [← hr2]
      exact va_recv (tys := jtys D.2) K.hK (h2.one hσ) (q0 := 0) hr1 rfl
    · exact h0.elim
  exact va_runV (As := As) (rest := st) ⟨K.hx, K.hb, K.hml, K.hown, K.hts⟩ hM (cwV n K.hts (lw_V hl mv.1 mv.2 mt.2.1 mt.2.2.1) rfl rfl rfl ⟨rfl, mt.1⟩ (jroom K hHG mt.2.2.2)) ⟨jB.blind, hrec, fun U hU hW => ⟨rfl, jB.pre K h1 h2 h3 hU hW⟩⟩ rfl hn h6.1 hs (lv_room hst) d ⟨by omega, by omega⟩
theorem jrun_S (K : JK p l R s m args meth c D S0 A0 nL cc own HG) {y : MethodName} {bytes : ByteArray} {maxL n idx mc ms hg : Nat} {ret : Option FieldType} {As stk : List Value} {Pj : JP} {Qc : Array Value → State → Outcome → State → Prop} (hM : Met l y (ws_ y bytes maxL ret) (jrm hg mc ms) (va_Pc As (jB D S0 Pj)) Qc mc ms (jA S0)) (mt : jMt y bytes maxL ret n) (ms0 : Cond.static y ∈ lw_all) (hl : Cond.methodLink own idx y ∈ lw_all) (hn : As.length = n) (hs : stk = As.reverse ++ st) (hst : (st.map fun v => v.category).sum ≤ 8) (hHG : hg + 1 ≤ HG) (hbc : mc ≤ bc ∧ ms ≤ bs) (d : decode cc pc = .ok (.invokestatic idx, 3)) :
    jRun p l e R s m args below meth c D S0 nL bc bs Pj mc ms pc L stk st (Qc As.toArray) := by
  intro σ H locs cells slots ls h1 h2 h3 h4 h5 h6
  exact va_runS (As := As) (rest := st) ⟨K.hx, K.hb, K.hml, K.hown, K.hts⟩ hM (va_cwS n K.hts (lw_S hl ms0 mt.2.1 mt.2.2.1) rfl rfl rfl mt.1 (jroom K hHG mt.2.2.2)) ⟨jB.blind, fun U hU hW => ⟨rfl, jB.pre K h1 h2 h3 hU hW⟩⟩ rfl hn h6.1 hs (lv_room hst) d ⟨by omega, by omega⟩
theorem jrun_I (K : JK p l R s m args meth c D S0 A0 nL cc own HG) {y : MethodName} {bytes : ByteArray} {maxL n b idx mc ms hg : Nat} {As stk : List Value} {Pj : JP} {Qc : Array Value → State → Outcome → State → Prop} (hM : Met l y (ws_ y bytes maxL none) (jrm hg mc ms) (va_Pc (.ref b :: As) (jB D S0 Pj)) Qc mc ms (jA S0)) (mt : jMt y bytes maxL none n) (mi : Cond.instanceMethod y ∈ lw_all) (hy : y.name = "<init>") (hl : Cond.methodLink own idx y ∈ lw_all) (hn : As.length = n) (hs : stk = As.reverse ++ .ref b :: st) (hst : (st.map fun v => v.category).sum ≤ 8) (hHG : hg + 1 ≤ HG) (hbc : mc ≤ bc ∧ ms ≤ bs) (d : decode cc pc = .ok (.invokespecial idx, 3)) :
    jRun p l e R s m args below meth c D S0 nL bc bs Pj mc ms pc L stk st (Qc (Value.ref b :: As).toArray) := by
  intro σ H locs cells slots ls h1 h2 h3 h4 h5 h6
  exact va_runI (As := As) (rest := st) ⟨K.hx, K.hb, K.hml, K.hown, K.hts⟩ hM (cwI n K.hts (lw_meth mt.2.2.1) rfl rfl rfl (K.hts _ mt.2.1) (K.hts _ hl) (K.hts _ mi) hy mt.1 (jroom K hHG mt.2.2.2)) ⟨jB.blind, fun U hU hW => ⟨rfl, jB.pre K h1 h2 h3 hU hW⟩⟩ rfl hn h6.1 hs (lv_room hst) d ⟨by omega, by omega⟩
/-! .. and of a nest mate -/
theorem jnestM (K : JK p l R s m args meth c D S0 A0 nL cc own HG) {idx : Nat} {y : MethodName} {host : String} (h : Cond.methodLinkNest own idx y host ∈ lw_tbl) : va_Nw (.methodLinkNest own idx y host) s := va_Nw.warmM K.hW (va_Nw.of rfl (K.hG.2.1 _ h))
theorem jrun_VN (K : JK p l R s m args meth c D S0 A0 nL cc own HG) {y : MethodName} {host : String} {bytes : ByteArray} {maxL n b ci idx mc ms hg : Nat} {ret : Option FieldType} {As stk : List Value} {Pj : JP} {Qc : Array Value → State → Outcome → State → Prop} (hM : Met l y (ws_ y bytes maxL ret) (jrm hg mc ms) (va_Pc (.ref b :: As) (jB D S0 Pj)) Qc mc ms (jA S0)) (mt : jMt y bytes maxL ret n) (mv : jMv y) (hl : Cond.methodLinkNest own idx y host ∈ lw_tbl) (hci : (jcl[ci]?).map (fun r => r.1) = some y.cls) (hn : As.length = n) (hs : stk = As.reverse ++ .ref b :: st) (hst : (st.map fun v => v.category).sum ≤ 8) (hHG : hg + 1 ≤ HG) (hbc : mc ≤ bc ∧ ms ≤ bs) (d : decode cc pc = .ok (.invokevirtual idx, 3)) :
    jRun p l e R s m args below meth c D S0 nL bc bs (jobj ci b Pj) mc ms pc L stk st (Qc (Value.ref b :: As).toArray) := by
  intro σ H locs cells slots ls h1 h2 h3 h4 h5 h6
  obtain ⟨h0, h1⟩ := h1
  obtain ⟨r, hr1, hr2⟩ : ∃ r, jcl[ci]? = some r ∧ r.1 = y.cls := by
    cases hc : jcl[ci]? with
    | none => rw [hc] at hci; cases hci
    | some r => rw [hc] at hci; exact ⟨r, rfl, Option.some.inj hci⟩
  have hrec : ∃ cell : Cell, H[b]? = some cell ∧ cell.vm.isStatics = false ∧ s.vm.findClass y.cls = some cell.cls := by
    split at h0
    · rename_i c0 fs hσ
      subst h0
      rw [← hr2]
      exact va_recv (tys := jtys D.2) K.hK (h2.one hσ) (q0 := 0) hr1 rfl
    · exact h0.elim
  exact va_runVN (As := As) (rest := st) ⟨K.hx, K.hb, K.hml, K.hown, K.hts⟩ hM ⟨va_cnB n K.hts (lw_meth mt.2.2.1) rfl rfl rfl (jnestM K hl) (K.hts _ mt.2.1) mt.1 (jroom K hHG mt.2.2.2), K.hts _ mv.1, K.hts _ mv.2⟩ ⟨jB.blind, hrec, fun U hU hW => ⟨rfl, jB.pre K h1 h2 h3 hU hW⟩⟩ rfl hn h6.1 hs (lv_room hst) d ⟨by omega, by omega⟩
theorem jrun_IN (K : JK p l R s m args meth c D S0 A0 nL cc own HG) {y : MethodName} {host : String} {bytes : ByteArray} {maxL n b idx mc ms hg : Nat} {As stk : List Value} {Pj : JP} {Qc : Array Value → State → Outcome → State → Prop} (hM : Met l y (ws_ y bytes maxL none) (jrm hg mc ms) (va_Pc (.ref b :: As) (jB D S0 Pj)) Qc mc ms (jA S0)) (mt : jMt y bytes maxL none n) (mi : Cond.instanceMethod y ∈ lw_all) (hy : y.name = "<init>") (hl : Cond.methodLinkNest own idx y host ∈ lw_tbl) (hn : As.length = n) (hs : stk = As.reverse ++ .ref b :: st) (hst : (st.map fun v => v.category).sum ≤ 8) (hHG : hg + 1 ≤ HG) (hbc : mc ≤ bc ∧ ms ≤ bs) (d : decode cc pc = .ok (.invokespecial idx, 3)) :
    jRun p l e R s m args below meth c D S0 nL bc bs Pj mc ms pc L stk st (Qc (Value.ref b :: As).toArray) := by
  intro σ H locs cells slots ls h1 h2 h3 h4 h5 h6
  exact va_runIN (As := As) (rest := st) ⟨K.hx, K.hb, K.hml, K.hown, K.hts⟩ hM ⟨va_cnB n K.hts (lw_meth mt.2.2.1) rfl rfl rfl (jnestM K hl) (K.hts _ mt.2.1) mt.1 (jroom K hHG mt.2.2.2), hy, K.hts _ mi⟩ ⟨jB.blind, fun U hU hW => ⟨rfl, jB.pre K h1 h2 h3 hU hW⟩⟩ rfl hn h6.1 hs (lv_room hst) d ⟨by omega, by omega⟩
/-! behind a call -/
theorem jr_calli {mc ms : Nat} {stk : List Value} {Pj : JP} {Qj : Int32 → JP} {a : Array Value} (hbc : mc ≤ bc ∧ ms ≤ bs) (r : jRun p l e R s m args below meth c D S0 nL bc bs Pj mc ms pc L stk st (va_Qi Qj (fun σ t => jRep D S0.heap.size σ t.heap) (jA S0) a)) (k : ∀ v, JR p l e R s m args below meth c Q D S0 nL (bc - mc) (bs - ms) (Qj v) (pc + 3) L (.int v :: st)) : JR p l e R s m args below meth c Q D S0 nL bc bs Pj pc L stk := by
  intro σ H locs cells slots ls h1 h2 h3 h4 h5 h6
  refine va_calli (r σ H locs cells slots ls h1 h2 h3 h4 h5 h6) h3 (fun _ _ h => h) (fun _ h => h) fun v u t H1 locs1 ht hvm hp hB hz hk hS1 => ?_
  exact k v u H1 locs1 _ _ ls hp (by rw [← ht]; exact hB) hS1 (by omega) (by omega) h6
theorem jr_calll {mc ms : Nat} {stk : List Value} {Pj : JP} {Qj : Int64 → JP} {a : Array Value} (hbc : mc ≤ bc ∧ ms ≤ bs) (r : jRun p l e R s m args below meth c D S0 nL bc bs Pj mc ms pc L stk st (va_Ql Qj (fun σ t => jRep D S0.heap.size σ t.heap) (jA S0) a)) (k : ∀ v, JR p l e R s m args below meth c Q D S0 nL (bc - mc) (bs - ms) (Qj v) (pc + 3) L (.long v :: st)) : JR p l e R s m args below meth c Q D S0 nL bc bs Pj pc L stk := by
  intro σ H locs cells slots ls h1 h2 h3 h4 h5 h6
  refine va_calll (r σ H locs cells slots ls h1 h2 h3 h4 h5 h6) h3 (fun _ _ h => h) (fun _ h => h) fun v u t H1 locs1 ht hvm hp hB hz hk hS1 => ?_
  exact k v u H1 locs1 _ _ ls hp (by rw [← ht]; exact hB) hS1 (by omega) (by omega) h6
theorem jr_callv {mc ms : Nat} {stk : List Value} {Pj Qj : JP} {a : Array Value} (hbc : mc ≤ bc ∧ ms ≤ bs) (r : jRun p l e R s m args below meth c D S0 nL bc bs Pj mc ms pc L stk st (va_Qv Qj (fun σ t => jRep D S0.heap.size σ t.heap) (jA S0) a)) (k : JR p l e R s m args below meth c Q D S0 nL (bc - mc) (bs - ms) Qj (pc + 3) L st) : JR p l e R s m args below meth c Q D S0 nL bc bs Pj pc L stk := by
  intro σ H locs cells slots ls h1 h2 h3 h4 h5 h6
  refine va_callv (r σ H locs cells slots ls h1 h2 h3 h4 h5 h6) h3 (fun _ _ h => h) (fun _ h => h) fun u t H1 locs1 ht hvm hp hB hz hk hS1 => ?_
  exact k u H1 locs1 _ _ ls hp (by rw [← ht]; exact hB) hS1 (by omega) (by omega) h6
theorem jr_callr {mc ms : Nat} {stk : List Value} {Pj : JP} {Qj : Nat → JP} {a : Array Value} (hbc : mc ≤ bc ∧ ms ≤ bs) (r : jRun p l e R s m args below meth c D S0 nL bc bs Pj mc ms pc L stk st (jQr Qj D S0 a)) (k : ∀ v, JR p l e R s m args below meth c Q D S0 nL (bc - mc) (bs - ms) (Qj v) (pc + 3) L (.ref v :: st)) : JR p l e R s m args below meth c Q D S0 nL bc bs Pj pc L stk := by
  intro σ H locs cells slots ls h1 h2 h3 h4 h5 h6
  refine va_callr (r σ H locs cells slots ls h1 h2 h3 h4 h5 h6) h3 (fun _ _ h => h) (fun _ h => h) fun v u t H1 locs1 ht hvm hp hB hz hk hS1 => ?_
  obtain ⟨σ1, hq, hr⟩ := hB
  exact k _ σ1 H1 locs1 _ _ ls hq (by rw [← ht]; exact hr) hS1 (by omega) (by omega) h6
theorem jr_calli0 {stk : List Value} {Pj : JP} {Qj : Int32 → JP} {a : Array Value} (r : jRun p l e R s m args below meth c D S0 nL bc bs Pj 0 0 pc L stk st (va_Qi Qj (fun σ t => jRep D S0.heap.size σ t.heap) (jA S0) a)) (k : ∀ v, JR p l e R s m args below meth c Q D S0 nL bc bs (Qj v) (pc + 3) L (.int v :: st)) : JR p l e R s m args below meth c Q D S0 nL bc bs Pj pc L stk := jr_calli ⟨Nat.zero_le _, Nat.zero_le _⟩ r k
theorem jr_calll0 {stk : List Value} {Pj : JP} {Qj : Int64 → JP} {a : Array Value} (r : jRun p l e R s m args below meth c D S0 nL bc bs Pj 0 0 pc L stk st (va_Ql Qj (fun σ t => jRep D S0.heap.size σ t.heap) (jA S0) a)) (k : ∀ v, JR p l e R s m args below meth c Q D S0 nL bc bs (Qj v) (pc + 3) L (.long v :: st)) : JR p l e R s m args below meth c Q D S0 nL bc bs Pj pc L stk := jr_calll ⟨Nat.zero_le _, Nat.zero_le _⟩ r k
theorem jr_callv0 {stk : List Value} {Pj Qj : JP} {a : Array Value} (r : jRun p l e R s m args below meth c D S0 nL bc bs Pj 0 0 pc L stk st (va_Qv Qj (fun σ t => jRep D S0.heap.size σ t.heap) (jA S0) a)) (k : JR p l e R s m args below meth c Q D S0 nL bc bs Qj (pc + 3) L st) : JR p l e R s m args below meth c Q D S0 nL bc bs Pj pc L stk := jr_callv ⟨Nat.zero_le _, Nat.zero_le _⟩ r k
theorem jr_callr0 {stk : List Value} {Pj : JP} {Qj : Nat → JP} {a : Array Value} (r : jRun p l e R s m args below meth c D S0 nL bc bs Pj 0 0 pc L stk st (jQr Qj D S0 a)) (k : ∀ v, JR p l e R s m args below meth c Q D S0 nL bc bs (Qj v) (pc + 3) L (.ref v :: st)) : JR p l e R s m args below meth c Q D S0 nL bc bs Pj pc L stk := jr_callr ⟨Nat.zero_le _, Nat.zero_le _⟩ r k
/-! joins, weaker locals, the ways back -/
theorem jr_join {α : Type} {kk : α} {f : α → JP} (I : α → Prop) (h1 : I kk) (h2 : ∀ k, I k → JR p l e R s m args below meth c Q D S0 nL bc bs (f k) pc L st) : JR p l e R s m args below meth c Q D S0 nL bc bs (jjoin kk f) pc L st := h2 kk h1
def jle : List (Option Value) → List (Option Value) → Prop
  | [], _ => True
  | none :: L1, _ :: L2 => jle L1 L2
  | none :: L1, [] => jle L1 []
  | some v :: L1, o :: L2 => o = some v ∧ jle L1 L2
  | some _ :: _, [] => False
theorem jle_spec : ∀ (L1 L2 : List (Option Value)), jle L1 L2 → ∀ (i : Nat) (v : Value), L1[i]? = some (some v) → L2[i]? = some (some v)
  | [], _, _, i, v, h => by simp at h
  | none :: L1, o :: L2, hh, 0, v, h => by cases h
  | none :: L1, o :: L2, hh, i + 1, v, h => jle_spec L1 L2 hh i v h
  | none :: L1, [], hh, 0, v, h => by cases h
  | none :: L1, [], hh, i + 1, v, h => by have := jle_spec L1 [] hh i v h; simp at this
  | some w :: L1, o :: L2, hh, 0, v, h => by
    cases h
    have h1 := hh.1
    subst h1
    rfl
  | some w :: L1, o :: L2, hh, i + 1, v, h => jle_spec L1 L2 hh.2 i v h
  | some w :: L1, [], hh, i, v, h => hh.elim
theorem jr_weak {L1 : List (Option Value)} (k : JR p l e R s m args below meth c Q D S0 nL bc bs P pc L1 st) (h : jle L1 L) : JR p l e R s m args below meth c Q D S0 nL bc bs P pc L st :=
  fun σ H locs cells slots ls h1 h2 h3 h4 h5 h6 => k σ H locs cells slots ls h1 h2 h3 h4 h5 ⟨h6.1, h6.2.1, fun i v q => h6.2.2 i v (jle_spec L1 L h i v q)⟩
def jRetI (p : Program) (l : Launch) (e : Env) (R : Room) (s : State) (m : MethodId) (args : Array Value) (below : List Frame) (meth : Method) (c : Code) (Q : State → Prop) (D : jE) (S0 : State) (nL : Nat) (cc : ByteArray) (Qj : Int32 → JP) : Prop := ∀ (bc bs pc : Nat) (L : List (Option Value)) (r : Int32), decode cc pc = .ok (.ireturn, 1) → JR p l e R s m args below meth c Q D S0 nL bc bs (Qj r) pc L [.int r]
def jRetZ (p : Program) (l : Launch) (e : Env) (R : Room) (s : State) (m : MethodId) (args : Array Value) (below : List Frame) (meth : Method) (c : Code) (Q : State → Prop) (D : jE) (S0 : State) (nL : Nat) (cc : ByteArray) (Qj : Int32 → JP) : Prop := ∀ (bc bs pc : Nat) (L : List (Option Value)) (r : Int32), decode cc pc = .ok (.ireturn, 1) → JR p l e R s m args below meth c Q D S0 nL bc bs (jand (r = nI 0 ∨ r = nI 1) (Qj r)) pc L [.int r]
def jRetL (p : Program) (l : Launch) (e : Env) (R : Room) (s : State) (m : MethodId) (args : Array Value) (below : List Frame) (meth : Method) (c : Code) (Q : State → Prop) (D : jE) (S0 : State) (nL : Nat) (cc : ByteArray) (Qj : Int64 → JP) : Prop := ∀ (bc bs pc : Nat) (L : List (Option Value)) (r : Int64), decode cc pc = .ok (.lreturn, 1) → JR p l e R s m args below meth c Q D S0 nL bc bs (Qj r) pc L [.long r]
def jRetV (p : Program) (l : Launch) (e : Env) (R : Room) (s : State) (m : MethodId) (args : Array Value) (below : List Frame) (meth : Method) (c : Code) (Q : State → Prop) (D : jE) (S0 : State) (nL : Nat) (cc : ByteArray) (Qj : JP) : Prop := ∀ (bc bs pc : Nat) (L : List (Option Value)), decode cc pc = .ok (.return_, 1) → JR p l e R s m args below meth c Q D S0 nL bc bs Qj pc L []
def jRetA (p : Program) (l : Launch) (e : Env) (R : Room) (s : State) (m : MethodId) (args : Array Value) (below : List Frame) (meth : Method) (c : Code) (Q : State → Prop) (D : jE) (S0 : State) (nL : Nat) (cc : ByteArray) (Qj : Nat → JP) : Prop := ∀ (bc bs pc : Nat) (L : List (Option Value)) (r : Nat), decode cc pc = .ok (.areturn, 1) → JR p l e R s m args below meth c Q D S0 nL bc bs (Qj r) pc L [.ref r]
theorem jn2_rf {L : List (Option Value)} {i : Nat} {r : Option Nat} (h : L[i]? = some (some (va_rf r))) : jn2 L (i + 1) = true := by
  cases r <;> simp [jn2, h, va_rf]
theorem jnar_rf (C : String) (r : Option Nat) : narrow (.object C) (va_rf r) = va_rf r := by cases r <;> rfl
theorem jfits_rf (C : String) (r : Option Nat) : fits (.object C) (va_rf r) = true := by cases r <;> rfl
theorem jcat_rf (r : Option Nat) : (va_rf r).category = 1 := by cases r <;> rfl
/-! switches -/
theorem jr_sw {q : Prop} (k1 : q → JR p l e R s m args below meth c Q D S0 nL bc bs P1 pc L st) (k2 : ¬ q → JR p l e R s m args below meth c Q D S0 nL bc bs P2 pc L st) : JR p l e R s m args below meth c Q D S0 nL bc bs (jif q P1 P2) pc L st := by
  intro σ H locs cells slots ls h1 h2 h3 h4 h5 h6
  by_cases h : q
  · exact k1 h σ H locs cells slots ls (h1.1 h) h2 h3 h4 h5 h6
  · exact k2 h σ H locs cells slots ls (h1.2 h) h2 h3 h4 h5 h6
theorem jr_tsIn (K : JK p l R s m args meth c D S0 A0 nL cc own HG) {dflt lo hi : Int} {offs : Array Int} {len : Nat} {x v : Int32} {off : Int} {tgt : Nat} (d : decode cc pc = .ok (.tableswitch dflt lo hi offs, len)) (hx : x = v) (h1 : ¬ v.toInt < lo) (h2 : ¬ hi < v.toInt) (ho : offs[(v.toInt - lo).toNat]? = some off) (ht : (pc : Int) + off = (tgt : Int)) (k : JR p l e R s m args below meth c Q D S0 nL bc bs P tgt L st) : JR p l e R s m args below meth c Q D S0 nL bc bs P pc L (.int x :: st) := by
  subst hx
  exact jr_tableIn K d h1 h2 ho ht k
def jsw_no (x : Int32) : List Int32 → Prop
  | [] => True
  | v :: vs => ¬ x = v ∧ jsw_no x vs
theorem jsw_mem {x : Int32} : ∀ {vs : List Int32}, jsw_no x vs → ∀ v ∈ vs, x ≠ v
  | [], _, v, h => nomatch h
  | w :: vs, hh, v, h => by
    rcases List.mem_cons.mp h with rfl | h
    · exact hh.1
    · exact jsw_mem hh.2 v h
theorem jsw_out (vs : List Int32) {x : Int32} {n : Nat} {lo hi : Int} (h1 : vs = (List.range n).map (fun (k : Nat) => Int32.ofInt (lo + (k : Int)))) (h2 : hi = lo + n - 1) (h3 : -2147483648 ≤ lo ∧ lo + n ≤ 2147483648) (h : jsw_no x vs) : x.toInt < lo ∨ hi < x.toInt := by
  by_cases a : x.toInt < lo
  · exact Or.inl a
  · by_cases b : hi < x.toInt
    · exact Or.inr b
    · exfalso
      refine jsw_mem h x ?_ rfl
      rw [h1]
      refine List.mem_map.mpr ⟨(x.toInt - lo).toNat, List.mem_range.mpr (by omega), ?_⟩
      have e : lo + ((x.toInt - lo).toNat : Int) = x.toInt := by omega
      rw [e, Int32.ofInt_toInt]
theorem jr_tsOut (K : JK p l R s m args meth c D S0 A0 nL cc own HG) {dflt lo hi : Int} {offs : Array Int} {len : Nat} {x : Int32} {tgt : Nat} (d : decode cc pc = .ok (.tableswitch dflt lo hi offs, len)) (h : x.toInt < lo ∨ hi < x.toInt) (ht : (pc : Int) + dflt = (tgt : Int)) (k : JR p l e R s m args below meth c Q D S0 nL bc bs P tgt L st) : JR p l e R s m args below meth c Q D S0 nL bc bs P pc L (.int x :: st) := jr_tableOut K d h ht k
theorem jnfw : nativeFrameWords "java/lang/System" "arraycopy" 5 ≤ 100 := by decide +kernel
/-! System.arraycopy -/
theorem jnn (z : Int32) (hz : ¬ z < 0) : z.toInt = (z.toNatClampNeg : Int) := by
  have h1 : (0 : Int) ≤ z.toInt := by
    have := Int32.le_iff_toInt_le.mp (Int32.not_lt.mp hz)
    simpa using this
  show z.toInt = ((z.toInt.toNat : Nat) : Int)
  omega
theorem jfit.asg (K : JK p l R s m args meth c D S0 A0 nL cc own HG) {t ci : Nat} (hf : jfit t ci) {comp : ClassId} {E : String} (hE : jty t = .object E) (h3 : s.vm.findClass E = some comp) : s.vm.assignable (D.1.1 ci) comp = true := by
  obtain ⟨r, E', hr, hE', hcast⟩ := hf
  cases hE.symm.trans hE'
  obtain ⟨-, hfc, kC, hkC, hkind⟩ := K.hK.1 _ _ hr
  rcases hcast with hc | hc
  · rw [hc] at hfc
    cases hfc.symm.trans h3
    exact va_assign ⟨hfc, kC, hkC, hkind⟩
  · have h9 : va_Nw (.castable r.1 E) s := va_Nw.warmC K.hW (va_Nw.of rfl (K.hG.2.1 _ hc))
    obtain ⟨c1, t1, e1, e2, e3⟩ := Cond.castable_spec (va_Nw.use (A := args) rfl h9)
    cases hfc.symm.trans e1
    cases h3.symm.trans e2
    exact e3
theorem jr_cpyI (K : JK p l R s m args meth c D S0 A0 nL cc own HG) {a0 a index : Nat} {sp dp n : Int32} (hq : Cond.methodLink own index arraycopyName ∈ lw_all) (hHG : 10 ≤ HG) (hst : (st.map fun v => v.category).sum ≤ 8) (d : decode cc pc = .ok (.invokestatic index, 3)) (k : JR p l e R s m args below meth c Q D S0 nL bc bs P (pc + 3) L st) : JR p l e R s m args below meth c Q D S0 nL bc bs (jcpyI a0 sp a dp n P) pc L (.int n :: .int dp :: .ref a :: .int sp :: .ref a0 :: st) := by
  intro σ H locs cells slots ls h1 h2 h3 h4 h5 h6
  have hf := K.hRf
  have hRl := K.hRl
  unfold jcpyI at h1
  split at h1
  · rename_i t0 n0 g0 t1 n1 g1 e0 e1
    obtain ⟨rfl, rfl, z1, z2, z3, z4, z5, h1⟩ := h1
    intro T hT X
    have hc0 : H[a0]? = some (vp_cell (D.2 0) (n0, .inl g0)) := h2.one e0 0 _ rfl
    have hc1 : H[a]? = some (vp_cell (D.2 0) (n1, .inl g1)) := h2.one e1 0 _ rfl
    obtain ⟨-, k0, hk0, cm0, hkk0⟩ := (K.hK.2 0 _ rfl).1 n0 (fun j => .int (g0 j))
    obtain ⟨-, k1, hk1, cm1, hkk1⟩ := (K.hK.2 0 _ rfl).1 n1 (fun j => .int (g1 j))
    obtain ⟨vm', X', step⟩ := X.arraycopy K.hx K.hown (K.hts _ hq) (K.hts _ q622) (K.hts _ q621) (K.hts _ q127) (src := a0) (dst := a) (cs := vp_cell (D.2 0) (n0, .inl g0)) (cd := vp_cell (D.2 0) (n1, .inl g1)) (srcPos := sp) (destPos := dp) (n := n) (by rw [hT]; exact hc0) (by rw [hT]; exact hc1)
      (fun _ h => by cases h) (fun _ h => by cases h) (fun h => by cases h) (fun h => by cases h) hk0 hk1 hkk0 hkk1 (by simp [jty, refKind]) z1 z2 z3
      (by rw [jnn sp z1, jnn n z3]; show ¬ _ > ((arrV (D.2 0) n0 (fun j => .int (g0 j))).slots.size : Int); rw [arrV_size]; omega)
      (by rw [jnn dp z2, jnn n z3]; show ¬ _ > ((arrV (D.2 0) n1 (fun j => .int (g1 j))).slots.size : Int); rw [arrV_size]; omega)
      (fun vm₁ _ i hi => by
        have ei : (vp_cell (D.2 0) (n0, .inl g0)).slots.getD (sp.toNatClampNeg + i) .null = .int (g0 (sp.toNatClampNeg + i)) := by
          show (arrV (D.2 0) n0 (fun j => .int (g0 j))).slots.getD _ _ = _
          rw [Array.getD_eq_getD_getElem?, arrV_read _ _ (by omega)]
          rfl
        rw [ei]
        exact ⟨rfl, trivial⟩)
      (g := F0 m pc ls (.int n :: .int dp :: .ref a :: .int sp :: .ref a0 :: st)) rfl (by rw [K.hml]; exact h6.1) (rest := st) rfl (by rw [K.hb]; exact d) (by omega) (by show 2 * 0 + _ + (nativeFrameWords "java/lang/System" "arraycopy" 5 + 11) ≤ _; have := jnfw; omega)
    have ec : copied (vp_cell (D.2 0) (n0, .inl g0)) (vp_cell (D.2 0) (n1, .inl g1)) sp dp n = vp_cell (D.2 0) (n1, .inl (va_cpy g0 g1 sp.toNatClampNeg dp.toNatClampNeg n.toNatClampNeg)) := va_copied (fun z => .int z) (D.2 0) (D.2 0) g0 g1 z4
    rw [ec] at X' step
    have hl : a < H.size := (Array.getElem?_eq_some_iff.mp hc1).1
    generalize hH1 : H.setIfInBounds a (vp_cell (D.2 0) (n1, .inl (va_cpy g0 g1 sp.toNatClampNeg dp.toNatClampNeg n.toNatClampNeg))) = H1
    have oq : ∀ q : Nat, q ≠ a → H1[q]? = H[q]? := fun q hq => by rw [← hH1]; simp [Array.getElem?_setIfInBounds, Ne.symm hq]
    have eq1 : H1[a]? = some (vp_cell (D.2 0) (n1, .inl (va_cpy g0 g1 sp.toNatClampNeg dp.toNatClampNeg n.toNatClampNeg))) := by rw [← hH1]; simp [Array.getElem?_setIfInBounds, hl]
    have hz : H1.size = H.size := by rw [← hH1]; simp
    obtain ⟨t, b1, b2⟩ := k _ H1 _ cells slots ls h1 (h2.set e1 hz oq eq1) ⟨by rw [hz]; exact h3.1, fun q g1 g2 => by
        rw [oq q (fun e => g2 (by rw [e]; exact h2.ge e1))]
        exact h3.2.1 q g1 g2, fun q hq => by
        rcases List.mem_append.mp hq with h | h
        · exact h3.2.2 q h
        · obtain ⟨z, -, hz⟩ := List.mem_map.mp h
          rw [← hz]
          exact h2.ge e1⟩ h4 h5 h6 _ (by rw [← hH1, ← hT]; rfl) X'
    exact ⟨t, step t b1, b2⟩
  · exact h1.elim
theorem jr_cpyA (K : JK p l R s m args meth c D S0 A0 nL cc own HG) {t a0 a index : Nat} {sp dp n : Int32} (ht : t ≤ 12) {E : String} (hE : jty t = .object E) (hq : Cond.methodLink own index arraycopyName ∈ lw_all) (hHG : 10 ≤ HG) (hst : (st.map fun v => v.category).sum ≤ 8) (d : decode cc pc = .ok (.invokestatic index, 3)) (k : JR p l e R s m args below meth c Q D S0 nL bc bs P (pc + 3) L st) : JR p l e R s m args below meth c Q D S0 nL bc bs (jcpyA t a0 sp a dp n P) pc L (.int n :: .int dp :: .ref a :: .int sp :: .ref a0 :: st) := by
  intro σ H locs cells slots ls h1 h2 h3 h4 h5 h6
  have hf := K.hRf
  have hRl := K.hRl
  unfold jcpyA at h1
  split at h1
  · rename_i t0 n0 g0 t1 n1 g1 e0 e1
    obtain ⟨rfl, rfl, z1, z2, z3, z4, z5, hel, h1⟩ := h1
    intro T hT X
    have hc0 : H[a0]? = some (vp_cell (D.2 t1) (n0, .inr (.inr (.inr (.inr g0))))) := h2.one e0 0 _ rfl
    have hc1 : H[a]? = some (vp_cell (D.2 t1) (n1, .inr (.inr (.inr (.inr g1))))) := h2.one e1 0 _ rfl
    have hKt := K.hK.2 t1 _ (jtys_at (d := D.2) ht)
    rw [hE] at hKt
    obtain ⟨-, k0, hk0, cm0, hkk0⟩ := hKt.1 n0 (fun j => va_rf (g0 j))
    obtain ⟨-, k1, hk1, cm1, hkk1⟩ := hKt.1 n1 (fun j => va_rf (g1 j))
    obtain ⟨vm', X', step⟩ := X.arraycopy K.hx K.hown (K.hts _ hq) (K.hts _ q622) (K.hts _ q621) (K.hts _ q127) (src := a0) (dst := a) (cs := vp_cell (D.2 t1) (n0, .inr (.inr (.inr (.inr g0))))) (cd := vp_cell (D.2 t1) (n1, .inr (.inr (.inr (.inr g1))))) (srcPos := sp) (destPos := dp) (n := n) (by rw [hT]; exact hc0) (by rw [hT]; exact hc1)
      (fun _ h => by cases h) (fun _ h => by cases h) (fun h => by cases h) (fun h => by cases h) hk0 hk1 hkk0 hkk1 rfl z1 z2 z3
      (by rw [jnn sp z1, jnn n z3]; show ¬ _ > ((arrV (D.2 t1) n0 (fun j => va_rf (g0 j))).slots.size : Int); rw [arrV_size]; omega)
      (by rw [jnn dp z2, jnn n z3]; show ¬ _ > ((arrV (D.2 t1) n1 (fun j => va_rf (g1 j))).slots.size : Int); rw [arrV_size]; omega)
      (fun vm₁ hal i hi => by
        have ei : (vp_cell (D.2 t1) (n0, .inr (.inr (.inr (.inr g0))))).slots.getD (sp.toNatClampNeg + i) .null = va_rf (g0 (sp.toNatClampNeg + i)) := by
          show (arrV (D.2 t1) n0 (fun j => va_rf (g0 j))).slots.getD _ _ = _
          rw [Array.getD_eq_getD_getElem?, arrV_read _ _ (by omega)]
          rfl
        rw [ei]
        cases hy : g0 (sp.toNatClampNeg + i) with
        | none => exact ⟨rfl, trivial⟩
        | some y =>
          obtain ⟨ci, fs, hσ, hfit⟩ := hel i hi y hy
          obtain ⟨kA, comp, r1, r2, r3, -⟩ := hKt.2
          cases hk1.symm.trans r1
          cases hkk1.symm.trans r2
          obtain ⟨r', q1, cellV, q2, q3, q4, -⟩ := h2.one hσ 0 _ rfl
          obtain ⟨-, hfc, kC, hkC, -⟩ := K.hK.1 _ _ q1
          obtain ⟨kE, hkE, -⟩ := Vm.findClass_spec r3
          obtain ⟨kC', hkC', -⟩ := hal.2.2 _ _ hkC
          obtain ⟨kE', hkE', -⟩ := hal.2.2 _ _ hkE
          refine ⟨rfl, cellV, (show T.heap[y]? = some cellV by rw [hT]; exact q2), (fun q h => by rw [h] at q4; cases q4), ⟨kC', by rw [q3]; exact hkC'⟩, ?_, ?_⟩
          · exact ⟨kE', hkE'⟩
          · show vm₁.assignable _ _ = true
            rw [hal.assignable, q3]
            exact hfit.asg K hE r3)
      (g := F0 m pc ls (.int n :: .int dp :: .ref a :: .int sp :: .ref a0 :: st)) rfl (by rw [K.hml]; exact h6.1) (rest := st) rfl (by rw [K.hb]; exact d) (by omega) (by show 2 * 0 + _ + (nativeFrameWords "java/lang/System" "arraycopy" 5 + 11) ≤ _; have := jnfw; omega)
    have ec : copied (vp_cell (D.2 t1) (n0, .inr (.inr (.inr (.inr g0))))) (vp_cell (D.2 t1) (n1, .inr (.inr (.inr (.inr g1))))) sp dp n = vp_cell (D.2 t1) (n1, .inr (.inr (.inr (.inr (va_cpy g0 g1 sp.toNatClampNeg dp.toNatClampNeg n.toNatClampNeg))))) := by
      rw [vp_cell_q, vp_cell_q, vp_cell_q]
      exact va_copied (fun z => va_rf z) (D.2 t1) (D.2 t1) g0 g1 z4
    rw [ec] at X' step
    have hl : a < H.size := (Array.getElem?_eq_some_iff.mp hc1).1
    generalize hH1 : H.setIfInBounds a (vp_cell (D.2 t1) (n1, .inr (.inr (.inr (.inr (va_cpy g0 g1 sp.toNatClampNeg dp.toNatClampNeg n.toNatClampNeg)))))) = H1
    have oq : ∀ q : Nat, q ≠ a → H1[q]? = H[q]? := fun q hq => by rw [← hH1]; simp [Array.getElem?_setIfInBounds, Ne.symm hq]
    have eq1 : H1[a]? = some (vp_cell (D.2 t1) (n1, .inr (.inr (.inr (.inr (va_cpy g0 g1 sp.toNatClampNeg dp.toNatClampNeg n.toNatClampNeg)))))) := by rw [← hH1]; simp [Array.getElem?_setIfInBounds, hl]
    have hz : H1.size = H.size := by rw [← hH1]; simp
    obtain ⟨t, b1, b2⟩ := k _ H1 _ cells slots ls h1 (h2.set e1 hz oq eq1) ⟨by rw [hz]; exact h3.1, fun q g1 g2 => by
        rw [oq q (fun e => g2 (by rw [e]; exact h2.ge e1))]
        exact h3.2.1 q g1 g2, fun q hq => by
        rcases List.mem_append.mp hq with h | h
        · exact h3.2.2 q h
        · obtain ⟨z, -, hz⟩ := List.mem_map.mp h
          rw [← hz]
          exact h2.ge e1⟩ h4 h5 h6 _ (by rw [← hH1, ← hT]; rfl) X'
    exact ⟨t, step t b1, b2⟩
  · exact h1.elim
/-! exceptions -/
def JT (p : Program) (l : Launch) (e : Env) (R : Room) (s : State) (m : MethodId) (args : Array Value) (below : List Frame) (meth : Method) (c : Code) (Q : State → Prop) (D : jE) (S0 : State) (nL bc bs : Nat) (P : JP) (x q pc : Nat) (L : List (Option Value)) : Prop :=
  ∀ (σ : Hp) (H : Heap) (locs : List Loc) (cells slots : Nat) (ls : Array Slot) (ce : Cell) (st : List Value), P σ → jRep D S0.heap.size σ H → va_S (jA S0) s.heap H locs → cells + bc ≤ R.cells → slots + bs ≤ R.slots → jL ls nL L → H[q]? = some ce → ce.vm = .none → s.vm.findClass (jxn x) = some ce.cls → vx_W p l e R s m args below meth c H locs cells slots Q (F0 m pc ls st) q
theorem JT.bot {x q : Nat} : JT p l e R s m args below meth c Q D S0 nL bc bs jbot x q pc L := fun _ _ _ _ _ _ _ _ h => h.elim
def jgood (w : Cond) : Bool := goodWord w || (match w with
  | .castable _ _ => true
  | .declares _ => true
  | _ => false)
theorem jgood_at (K : JK p l R s m args meth c D S0 A0 nL cc own HG) {w : Cond} (h : w ∈ lw_tbl) (g : jgood w = true) : w.before args s = true := by
  unfold jgood at g
  cases hg : goodWord w with
  | true => exact K.hts _ (lw_g h hg)
  | false =>
    rw [hg, Bool.false_or] at g
    cases w with
    | castable C T => exact va_Nw.use rfl (va_Nw.warmC K.hW (va_Nw.of rfl (K.hG.2.1 _ h)))
    | declares C => exact va_Nw.use rfl (va_Nw.warmD K.hW (va_Nw.of rfl (K.hG.2.1 _ h)))
    | _ => cases g
def jxOK (own : String) (ik ic x : Nat) (names : List String) : Prop := Cond.classLink own ik (jxn x) ∈ lw_all ∧ Cond.initialized (jxn x) ∈ lw_all ∧ Bundle.fit (jxn x) = true ∧ (∀ n ∈ names, Bundle.fit n = true) ∧ names.length ≤ 4 ∧ (∀ w ∈ vx_at0 own ic (jxn x) names, w ∈ lw_tbl ∧ jgood w = true) ∧ (∀ w ∈ Cond.classLink own ik (jxn x) :: Cond.initialized (jxn x) :: vx_at0 own ic (jxn x) names, vx_ot w = true)
def jcov (tb : List (Nat × Nat × Nat × Nat)) (pc : Nat) : Prop := ∀ z ∈ tableOf tb, covers z pc = false
def jThr (p : Program) (l : Launch) (e : Env) (R : Room) (s : State) (m : MethodId) (args : Array Value) (below : List Frame) (meth : Method) (c : Code) (Q : State → Prop) (D : jE) (S0 : State) (nL : Nat) (cc : ByteArray) (own : String) (tb : List (Nat × Nat × Nat × Nat)) (Ex : Nat → Nat → JP) : Prop :=
  (∀ (bc bs pc : Nat) (L : List (Option Value)) (x q : Nat), jcov tb pc → JT p l e R s m args below meth c Q D S0 nL bc bs (Ex x q) x q pc L) ∧
  (∀ (bc bs pc : Nat) (L : List (Option Value)) (st : List Value) (x ik ic : Nat) (names : List String), jxOK own ik ic x names → decode cc pc = .ok (.new ik, 3) → decode cc (pc + 3) = .ok (.dup, 1) → decode cc (pc + 4) = .ok (.invokespecial ic, 3) → decode cc (pc + 7) = .ok (.athrow, 1) → jcov tb (pc + 7) → (st.map fun v => v.category).sum ≤ 8 → JR p l e R s m args below meth c Q D S0 nL bc bs (jthrow x bc bs Ex) pc L st)
/-- where it has thrown -/
def jXC (D : jE) (S0 : State) (Ex : Nat → Nat → JP) : Nat → String → State → State → Prop := vx_X (S := Nat × Hp) (fun _ => True) (fun q E u t => E = jxn u.1 ∧ Ex u.1 q u.2 ∧ jRep D S0.heap.size u.2 t.heap) (jA S0)
theorem jstat (K : JK p l R s m args meth c D S0 A0 nL cc own HG) {C n d : String} (h1 : Cond.laysStatic C n d ∈ lw_tbl) (h2 : Cond.initialized C ∈ lw_all) (h3 : (Cond.isRef (.static C n d)).before A0 S0 = true) : vx_Zq C n d (jA S0) s s.heap := by
  have h := vx_Zqof (A := jA S0) (K.hG.2.1 _ h1) (K.hG.2.1 _ (lw_all_tbl h2)) h3 (fun a ha z => absurd ha (Nat.not_lt.mpr z))
  exact (vx_Zq.moved K.hW.alike h).kept (fun a ha _ => K.hlo a ha)
theorem jnotrace {l : Launch} (h : l.flags = flags0) : l.stackTraces = false := by
  unfold Launch.stackTraces
  rw [h]
  decide +kernel
theorem jThr.of (K : JK p l R s m args meth c D S0 A0 nL cc own HG) {tb : List (Nat × Nat × Nat × Nat)} {Ex : Nat → Nat → JP} {Qc : Array Value → State → Outcome → State → Prop} (hHG : 12 ≤ HG) (htb : c.exceptionTable.toList = tableOf tb) : jThr p l e R s m args below meth c (vx_MQ below Qc (jXC D S0 Ex) args s R.cells R.slots (jA S0)) D S0 nL cc own tb Ex := by
  have hRf := K.hRf
  have hRl := K.hRl
  have hlocks := K.hlocks
  refine ⟨fun bc bs pc L x q hcov σ H locs cells slots ls ce st h1 h2 h3 h4 h5 h6 h7 h8 h9 => ?_, fun bc bs pc L st x ik ic names hok d0 d3 d4 d7 hcov hst σ H locs cells slots ls h1 h2 h3 h4 h5 h6 => ?_⟩
  · exact vx_out (E := jxn x) (by rw [htb]; exact hcov) hlocks h7 h8 h9 (fun t ht hW => ⟨(x, σ), trivial, ⟨rfl, h1, by show jRep _ _ σ t.heap; rw [ht]; exact h2⟩, h3.F ht⟩) h3.2.2 (by omega) (by omega)
  · obtain ⟨k1, k2, k3, k4, k5, k6, k7⟩ := hok
    obtain ⟨b1, b2, h1⟩ := h1
    have hs := flat_of_before _ K.hG.2.2.2
    have hU := jstat K q207 q104 (hs _ (by decide +kernel))
    have hN := jstat K q209 q104 (hs _ (by decide +kernel))
    refine vx_throw0 (names := names) K.hx K.hb (jnotrace K.hG.1) K.hown k3 k4 (K.hts _ k1) (K.hts _ k2) (fun w hw => jgood_at K (k6 w hw).1 (k6 w hw).2) k7 hU hN h3 (by rw [K.hml]; exact h6.1) d0 d3 d4 d7 (by rw [htb]; exact hcov) (by omega) (by omega) (by omega) (by omega) hlocks (fun t hW hz hq => ?_) h3.2.2 (by omega) (by omega)
    have ez : σ.2 = H.size := h2.1
    refine ⟨(x, jgap σ), trivial, ⟨rfl, by show Ex x H.size (jgap σ); rw [← ez]; exact h1, h2.gap hz hq⟩, by rw [hz]; exact Nat.le_trans h3.1 (by omega), fun q g1 g2 => ?_⟩
    rw [hq q (Nat.lt_of_lt_of_le g1 h3.1)]
    exact h3.2.1 q g1 g2
theorem jr_throw {Ex : Nat → Nat → JP} {x ik ic : Nat} {names : List String} {tb : List (Nat × Nat × Nat × Nat)} (_ : JK p l R s m args meth c D S0 A0 nL cc own HG) (h : jThr p l e R s m args below meth c Q D S0 nL cc own tb Ex) (hok : jxOK own ik ic x names) (hst : (st.map fun v => v.category).sum ≤ 8) (hcov : jcov tb (pc + 7)) (d0 : decode cc pc = .ok (.new ik, 3)) (d3 : decode cc (pc + 3) = .ok (.dup, 1)) (d4 : decode cc (pc + 4) = .ok (.invokespecial ic, 3)) (d7 : decode cc (pc + 7) = .ok (.athrow, 1)) : JR p l e R s m args below meth c Q D S0 nL bc bs (jthrow x bc bs Ex) pc L st := h.2 bc bs pc L st x ik ic names hok d0 d3 d4 d7 hcov hst
theorem jr_throwO (K : JK p l R s m args meth c D S0 A0 nL cc own HG) {Ex : Nat → Nat → JP} {x a : Nat} {tb : List (Nat × Nat × Nat × Nat)} (h : jThr p l e R s m args below meth c Q D S0 nL cc own tb Ex) (hcov : jcov tb pc) (d : decode cc pc = .ok (.athrow, 1)) : JR p l e R s m args below meth c Q D S0 nL bc bs (jthrowO x a Ex) pc L (.ref a :: st) := by
  intro σ H locs cells slots ls h1 h2 h3 h4 h5 h6
  obtain ⟨h0, hx, h1⟩ := h1
  split at h0
  · rename_i c0 fs hσ
    subst h0
    subst hx
    obtain ⟨r, q1, cell, q2, q3, q4, -⟩ := h2.one hσ 0 _ rfl
    have hr : r = (RX6, TX6, 7) := Option.some.inj (q1.symm.trans rfl)
    subst hr
    obtain ⟨-, hfc, -⟩ := K.hK.1 6 _ rfl
    exact vx_athrow K.hx K.hb d (h.1 bc bs pc L 4 a hcov σ H locs cells slots ls cell st h1 h2 h3 h4 h5 h6 q2 q4 (by rw [q3]; exact hfc))
  · exact h0.elim
/-! calls of what may throw -/
def jRunX (p : Program) (l : Launch) (e : Env) (R : Room) (s : State) (m : MethodId) (args : Array Value) (below : List Frame) (meth : Method) (c : Code) (D : jE) (S0 : State) (nL bc bs : Nat) (Pj : JP) (Ex : Nat → Nat → JP) (mc ms pc : Nat) (L : List (Option Value)) (stk st : List Value) (Qa : State → Outcome → State → Prop) : Prop :=
  ∀ (σ : Hp) (H : Heap) (locs : List Loc) (cells slots : Nat) (ls : Array Slot), Pj σ → jRep D S0.heap.size σ H → va_S (jA S0) s.heap H locs → cells + bc ≤ R.cells → slots + bs ≤ R.slots → jL ls nL L → vx_Run p l e R s m args below meth c H locs cells slots mc ms (F0 m pc ls stk) st Qa (jXC D S0 Ex) (jA S0)
theorem jrunx_V (K : JK p l R s m args meth c D S0 A0 nL cc own HG) {y : MethodName} {bytes : ByteArray} {maxL n b ci idx mc ms hg : Nat} {ret : Option FieldType} {As stk : List Value} {Pj : JP} {Ex : Nat → Nat → JP} {Qc : Array Value → State → Outcome → State → Prop} (hM : vx_Met l y (ws_ y bytes maxL ret) (jrm hg mc ms) (va_Pc (.ref b :: As) (jB D S0 Pj)) Qc (jXC D S0 Ex) mc ms (jA S0)) (mt : jMt y bytes maxL ret n) (mv : jMv y) (hl : Cond.methodLink own idx y ∈ lw_all) (hci : (jcl[ci]?).map (fun r => r.1) = some y.cls) (hn : As.length = n) (hs : stk = As.reverse ++ .ref b :: st) (hst : (st.map fun v => v.category).sum ≤ 8) (hHG : hg + 1 ≤ HG) (hbc : mc ≤ bc ∧ ms ≤ bs) (d : decode cc pc = .ok (.invokevirtual idx, 3)) :
    jRunX p l e R s m args below meth c D S0 nL bc bs (jobj ci b Pj) Ex mc ms pc L stk st (Qc (Value.ref b :: As).toArray) := by
  intro σ H locs cells slots ls h1 h2 h3 h4 h5 h6
  obtain ⟨h0, h1⟩ := h1
  obtain ⟨r, hr1, hr2⟩ : ∃ r, jcl[ci]? = some r ∧ r.1 = y.cls := by
    cases hc : jcl[ci]? with
    | none => rw [hc] at hci; cases hci
    | some r => rw [hc] at hci; exact ⟨r, rfl, Option.some.inj hci⟩
  have hrec : ∃ cell : Cell, H[b]? = some cell ∧ cell.vm.isStatics = false ∧ s.vm.findClass y.cls = some cell.cls := by
    split at h0
    · rename_i c0 fs hσ
      subst h0
      rw [← hr2]
      exact va_recv (tys := jtys D.2) K.hK (h2.one hσ) (q0 := 0) hr1 rfl
    · exact h0.elim
  exact vx_runV (As := As) (rest := st) ⟨K.hx, K.hb, K.hml, K.hown, K.hts⟩ hM (cwV n K.hts (lw_V hl mv.1 mv.2 mt.2.1 mt.2.2.1) rfl rfl rfl ⟨rfl, mt.1⟩ (jroom K hHG mt.2.2.2)) ⟨jB.blind, hrec, fun U hU hW => ⟨rfl, jB.pre K h1 h2 h3 hU hW⟩⟩ rfl hn h6.1 hs (lv_room hst) d ⟨by omega, by omega⟩
theorem jrunx_S (K : JK p l R s m args meth c D S0 A0 nL cc own HG) {y : MethodName} {bytes : ByteArray} {maxL n idx mc ms hg : Nat} {ret : Option FieldType} {As stk : List Value} {Pj : JP} {Ex : Nat → Nat → JP} {Qc : Array Value → State → Outcome → State → Prop} (hM : vx_Met l y (ws_ y bytes maxL ret) (jrm hg mc ms) (va_Pc As (jB D S0 Pj)) Qc (jXC D S0 Ex) mc ms (jA S0)) (mt : jMt y bytes maxL ret n) (ms0 : Cond.static y ∈ lw_all) (hl : Cond.methodLink own idx y ∈ lw_all) (hn : As.length = n) (hs : stk = As.reverse ++ st) (hst : (st.map fun v => v.category).sum ≤ 8) (hHG : hg + 1 ≤ HG) (hbc : mc ≤ bc ∧ ms ≤ bs) (d : decode cc pc = .ok (.invokestatic idx, 3)) :
    jRunX p l e R s m args below meth c D S0 nL bc bs Pj Ex mc ms pc L stk st (Qc As.toArray) := by
  intro σ H locs cells slots ls h1 h2 h3 h4 h5 h6
  exact vx_runS (As := As) (rest := st) ⟨K.hx, K.hb, K.hml, K.hown, K.hts⟩ hM (va_cwS n K.hts (lw_S hl ms0 mt.2.1 mt.2.2.1) rfl rfl rfl mt.1 (jroom K hHG mt.2.2.2)) ⟨jB.blind, fun U hU hW => ⟨rfl, jB.pre K h1 h2 h3 hU hW⟩⟩ rfl hn h6.1 hs (lv_room hst) d ⟨by omega, by omega⟩
theorem jxc_go {Ex : Nat → Nat → JP} {σ : Hp} {H H1 : Heap} {q : Nat} {E : String} {ce : Cell} {u : Nat × Hp} {t : State} {locs1 : List Loc} {cells slots : Nat} {ls : Array Slot} {st0 : List Value} (kx : ∀ x q, JT p l e R s m args below meth c Q D S0 nL bc bs (Ex x q) x q pc L) (ht : t.heap = H1) (hB : E = jxn u.1 ∧ Ex u.1 q u.2 ∧ jRep D S0.heap.size u.2 t.heap) (hS1 : va_S (jA S0) s.heap H1 locs1) (h4 : cells + bc ≤ R.cells) (h5 : slots + bs ≤ R.slots) (h6 : jL ls nL L) (g1 : H1[q]? = some ce) (g2 : ce.vm = .none) (g3 : s.vm.findClass E = some ce.cls) : vx_W p l e R s m args below meth c H1 locs1 cells slots Q (F0 m pc ls st0) q := by
  obtain ⟨rfl, hE, hR⟩ := hB
  exact kx u.1 q u.2 H1 locs1 cells slots ls ce st0 hE (by rw [← ht]; exact hR) hS1 h4 h5 h6 g1 g2 g3
theorem jrx_calli {mc ms : Nat} {stk : List Value} {Pj : JP} {Ex : Nat → Nat → JP} {Qj : Int32 → JP} {a : Array Value} (hbc : mc ≤ bc ∧ ms ≤ bs) (r : jRunX p l e R s m args below meth c D S0 nL bc bs Pj Ex mc ms pc L stk st (va_Qi Qj (fun σ t => jRep D S0.heap.size σ t.heap) (jA S0) a)) (kx : ∀ x q, JT p l e R s m args below meth c Q D S0 nL (bc - mc) (bs - ms) (Ex x q) x q pc L) (k : ∀ v, JR p l e R s m args below meth c Q D S0 nL (bc - mc) (bs - ms) (Qj v) (pc + 3) L (.int v :: st)) : JR p l e R s m args below meth c Q D S0 nL bc bs Pj pc L stk := by
  intro σ H locs cells slots ls h1 h2 h3 h4 h5 h6
  refine vx_calli (r σ H locs cells slots ls h1 h2 h3 h4 h5 h6) h3 (fun _ _ h => h) (fun _ h => h) (fun _ _ h => h) (fun E ce q9 u t H1 locs1 ht hvm hp hB hz hk hS1 g1 g2 g3 => ?_) fun v u t H1 locs1 ht hvm hp hB hz hk hS1 => ?_
  · exact jxc_go (σ := σ) (H := H) kx ht hB hS1 (by omega) (by omega) h6 g1 g2 g3
  · exact k v u H1 locs1 _ _ ls hp (by rw [← ht]; exact hB) hS1 (by omega) (by omega) h6
theorem jrx_calll {mc ms : Nat} {stk : List Value} {Pj : JP} {Ex : Nat → Nat → JP} {Qj : Int64 → JP} {a : Array Value} (hbc : mc ≤ bc ∧ ms ≤ bs) (r : jRunX p l e R s m args below meth c D S0 nL bc bs Pj Ex mc ms pc L stk st (va_Ql Qj (fun σ t => jRep D S0.heap.size σ t.heap) (jA S0) a)) (kx : ∀ x q, JT p l e R s m args below meth c Q D S0 nL (bc - mc) (bs - ms) (Ex x q) x q pc L) (k : ∀ v, JR p l e R s m args below meth c Q D S0 nL (bc - mc) (bs - ms) (Qj v) (pc + 3) L (.long v :: st)) : JR p l e R s m args below meth c Q D S0 nL bc bs Pj pc L stk := by
  intro σ H locs cells slots ls h1 h2 h3 h4 h5 h6
  refine vx_calll (r σ H locs cells slots ls h1 h2 h3 h4 h5 h6) h3 (fun _ _ h => h) (fun _ h => h) (fun _ _ h => h) (fun E ce q9 u t H1 locs1 ht hvm hp hB hz hk hS1 g1 g2 g3 => ?_) fun v u t H1 locs1 ht hvm hp hB hz hk hS1 => ?_
  · exact jxc_go (σ := σ) (H := H) kx ht hB hS1 (by omega) (by omega) h6 g1 g2 g3
  · exact k v u H1 locs1 _ _ ls hp (by rw [← ht]; exact hB) hS1 (by omega) (by omega) h6
theorem jrx_callv {mc ms : Nat} {stk : List Value} {Pj Qj : JP} {Ex : Nat → Nat → JP} {a : Array Value} (hbc : mc ≤ bc ∧ ms ≤ bs) (r : jRunX p l e R s m args below meth c D S0 nL bc bs Pj Ex mc ms pc L stk st (va_Qv Qj (fun σ t => jRep D S0.heap.size σ t.heap) (jA S0) a)) (kx : ∀ x q, JT p l e R s m args below meth c Q D S0 nL (bc - mc) (bs - ms) (Ex x q) x q pc L) (k : JR p l e R s m args below meth c Q D S0 nL (bc - mc) (bs - ms) Qj (pc + 3) L st) : JR p l e R s m args below meth c Q D S0 nL bc bs Pj pc L stk := by
  intro σ H locs cells slots ls h1 h2 h3 h4 h5 h6
  refine vx_callv (r σ H locs cells slots ls h1 h2 h3 h4 h5 h6) h3 (fun _ _ h => h) (fun _ h => h) (fun _ _ h => h) (fun E ce q9 u t H1 locs1 ht hvm hp hB hz hk hS1 g1 g2 g3 => ?_) fun u t H1 locs1 ht hvm hp hB hz hk hS1 => ?_
  · exact jxc_go (σ := σ) (H := H) kx ht hB hS1 (by omega) (by omega) h6 g1 g2 g3
  · exact k u H1 locs1 _ _ ls hp (by rw [← ht]; exact hB) hS1 (by omega) (by omega) h6
theorem jrx_callr {mc ms : Nat} {stk : List Value} {Pj : JP} {Ex : Nat → Nat → JP} {Qj : Nat → JP} {a : Array Value} (hbc : mc ≤ bc ∧ ms ≤ bs) (r : jRunX p l e R s m args below meth c D S0 nL bc bs Pj Ex mc ms pc L stk st (jQr Qj D S0 a)) (kx : ∀ x q, JT p l e R s m args below meth c Q D S0 nL (bc - mc) (bs - ms) (Ex x q) x q pc L) (k : ∀ v, JR p l e R s m args below meth c Q D S0 nL (bc - mc) (bs - ms) (Qj v) (pc + 3) L (.ref v :: st)) : JR p l e R s m args below meth c Q D S0 nL bc bs Pj pc L stk := by
  intro σ H locs cells slots ls h1 h2 h3 h4 h5 h6
  intro T hT X
  rcases r σ H locs cells slots ls h1 h2 h3 h4 h5 h6 T hT X with ⟨v, st₀, t, T', L9, h0, X', hL, e1, e2, ⟨⟨u, w, hv, hp, σ1, hq, hrep⟩, hF⟩, stp⟩ | ⟨q, st₀, t, T', L9, E, ce, h0, X', hL, e1, e2, ⟨u, hp, hb, hF⟩, hce, hcv, hcl, stp⟩
  · cases hv
    obtain ⟨k1, k2, k3⟩ := vx_keep h0 e1 h3 (fun _ _ h => h) (fun _ h => h) hL hF
    obtain ⟨t2, a1, b1⟩ := k w σ1 T'.heap (locs ++ L9) _ _ ls hq (by rw [e1]; exact hrep) k3 (by omega) (by omega) h6 T' rfl X'
    exact ⟨t2, stp t2 a1, b1⟩
  · obtain ⟨k1, k2, k3⟩ := vx_keep h0 e1 h3 (fun _ _ h => h) (fun _ h => h) hL hF
    obtain ⟨t2, a1, b1⟩ := jxc_go (σ := σ) (H := H) kx e1.symm hb k3 (by omega) (by omega) h6 (by rw [e1]; exact hce) hcv hcl T' rfl X'
    exact ⟨t2, stp.trans a1, b1⟩
/-! the start of a method that may throw -/
theorem jx_start {y : MethodName} {maxL : Nat} {ret : Option FieldType} {av : List Value} {Qc : Array Value → State → Outcome → State → Prop} {Ex : Nat → Nat → JP} {L0 : List (Option Value)} (hG : jG l D S0 A0) (hy : plainName y.cls = true) (hHG : 12 ≤ HG) (hl : (lg_sl av).length ≤ maxL) (hL0 : jargs av maxL = L0)
    (body : ∀ (p : Program) (e : Env) (s : State) (m : MethodId) (below : List Frame) (meth : Method) (c : Code), JK p l (jrm HG bc bs) s m av.toArray meth c D S0 A0 maxL cc y.cls HG → meth.sig.returnType = ret → jThr p l e (jrm HG bc bs) s m av.toArray below meth c (vx_MQ below Qc (jXC D S0 Ex) av.toArray s (jrm HG bc bs).cells (jrm HG bc bs).slots (jA S0)) D S0 maxL cc y.cls [] Ex → JR p l e (jrm HG bc bs) s m av.toArray below meth c (vx_MQ below Qc (jXC D S0 Ex) av.toArray s (jrm HG bc bs).cells (jrm HG bc bs).slots (jA S0)) D S0 maxL bc bs P 0 L0 []) :
    vx_Met l y (ws_ y cc maxL ret) (jrm HG bc bs) (va_Pc av (jB D S0 P)) Qc (jXC D S0 Ex) bc bs (jA S0) := by
  refine vx_ofW (cc := cc) (maxL := maxL) (ret := ret) hy rfl ?_
  intro p e s m args below meth c s₁ B hml htb hv
  obtain ⟨rfl, hW, hlo, hge, σ, hR, hP⟩ := hv
  have hown : s.vm.findClass y.cls = some m.cls := findClass_of_methodNamed B.named
  have hts := atoms_spec (ws := ws_ y cc maxL ret) B.pre
  have hent := lv_entry av hl
  rw [lg_entry_eq]
  have K : JK p l (jrm HG bc bs) s m av.toArray meth c D S0 A0 maxL cc y.cls HG := ⟨B.exec, B.bytes, hml, B.notSynchronized, hown, fun w h => hts w (List.mem_cons_of_mem _ h), hG, hW, hlo, hge, Nat.le_refl _, Nat.le_refl _⟩
  have htb' : c.exceptionTable.toList = tableOf [] := List.eq_nil_iff_forall_not_mem.mpr (fun z hz => (htb z hz).elim)
  refine body p e s m below meth c K B.returns (jThr.of K hHG htb') σ s.heap [] 0 0 _ hP hR va_S.rf (Nat.le_of_eq (Nat.zero_add _)) (Nat.le_of_eq (Nat.zero_add _)) ?_
  subst hL0
  exact ⟨hent.1, hent.2.1, fun i v h => hent.2.2 (i, v) (jargs_spec h)⟩
/-- a method that returns, in a body that may also throw -/
theorem jr_xret {Q1 : State → Prop} (h : ∀ t, Q1 t → Q t) (k : JR p l e R s m args below meth c Q1 D S0 nL bc bs P pc L st) : JR p l e R s m args below meth c Q D S0 nL bc bs P pc L st := by
  intro σ H locs cells slots ls h1 h2 h3 h4 h5 h6 T hT X
  obtain ⟨t, a1, b1⟩ := k σ H locs cells slots ls h1 h2 h3 h4 h5 h6 T hT X
  exact ⟨t, a1, h t b1⟩
theorem jx_mq {Qc : Array Value → State → Outcome → State → Prop} {XC : Nat → String → State → State → Prop} {a : Array Value} {mc ms : Nat} {free : Addr → Prop} (t : State) (h : MQ below Qc a s mc ms free t) : vx_MQ below Qc XC a s mc ms free t := by
  obtain ⟨o, b1, b2, b3, b4⟩ := h
  exact ⟨o, b1, b2, Or.inl ⟨b3, b4⟩⟩
/-! Math -/
def jmax (x y : Int32) : Int32 := if x < y then y else x
def jmin (x y : Int32) : Int32 := if y < x then y else x
theorem jr_max (K : JK p l R s m args meth c D S0 A0 nL cc own HG) {x y : Int32} {index : Nat} (hl : Cond.methodLink own index Lib.Math.max.name ∈ lw_all) (hHG : 10 ≤ HG) (hst : (st.map fun v => v.category).sum ≤ 8) (d : decode cc pc = .ok (.invokestatic index, 3)) (k : JR p l e R s m args below meth c Q D S0 nL bc bs P (pc + 3) L (.int (jmax x y) :: st)) : JR p l e R s m args below meth c Q D S0 nL bc bs P pc L (.int y :: .int x :: st) := by
  intro σ H locs cells slots ls h1 h2 h3 h4 h5 h6
  have hf := K.hRf
  have hR := K.hRl
  exact va_mmax K.hx K.hb (by rw [K.hml]; exact h6.1.symm) K.hown (K.hts _ hl) (K.hts _ (show Cond.static Lib.Math.max.name ∈ lw_all from q637)) (K.hts _ q133) (K.hts _ (show Cond.code Lib.Math.max.name Lib.Math.max.code 2 (some .int) ∈ lw_all from q638)) (by omega) (by omega) (by omega) (by omega) d (k σ H locs cells slots ls h1 h2 h3 h4 h5 h6)
theorem jr_min (K : JK p l R s m args meth c D S0 A0 nL cc own HG) {x y : Int32} {index : Nat} (hl : Cond.methodLink own index Lib.Math.min.name ∈ lw_all) (hHG : 10 ≤ HG) (hst : (st.map fun v => v.category).sum ≤ 8) (d : decode cc pc = .ok (.invokestatic index, 3)) (k : JR p l e R s m args below meth c Q D S0 nL bc bs P (pc + 3) L (.int (jmin x y) :: st)) : JR p l e R s m args below meth c Q D S0 nL bc bs P pc L (.int y :: .int x :: st) := by
  intro σ H locs cells slots ls h1 h2 h3 h4 h5 h6
  have hf := K.hRf
  have hR := K.hRl
  exact va_mmin K.hx K.hb (by rw [K.hml]; exact h6.1.symm) K.hown (K.hts _ hl) (K.hts _ (show Cond.static Lib.Math.min.name ∈ lw_all from q648)) (K.hts _ q133) (K.hts _ (show Cond.code Lib.Math.min.name Lib.Math.min.code 2 (some .int) ∈ lw_all from q649)) (by omega) (by omega) (by omega) (by omega) d (k σ H locs cells slots ls h1 h2 h3 h4 h5 h6)
theorem jr_abs (K : JK p l R s m args meth c D S0 A0 nL cc own HG) {x : Int32} {index : Nat} (hl : Cond.methodLink own index Lib.Math.abs.name ∈ lw_all) (hHG : 10 ≤ HG) (hst : (st.map fun v => v.category).sum ≤ 8) (d : decode cc pc = .ok (.invokestatic index, 3)) (k : JR p l e R s m args below meth c Q D S0 nL bc bs P (pc + 3) L (.int (jabs x) :: st)) : JR p l e R s m args below meth c Q D S0 nL bc bs P pc L (.int x :: st) := by
  intro σ H locs cells slots ls h1 h2 h3 h4 h5 h6
  have hf := K.hRf
  have hR := K.hRl
  exact va_mabs K.hx K.hb (by rw [K.hml]; exact h6.1.symm) K.hown (K.hts _ hl) (K.hts _ (show Cond.static Lib.Math.abs.name ∈ lw_all from q692)) (K.hts _ q133) (K.hts _ (show Cond.code Lib.Math.abs.name Lib.Math.abs.code 1 (some .int) ∈ lw_all from q693)) (by omega) (by omega) (by omega) (by omega) d (k σ H locs cells slots ls h1 h2 h3 h4 h5 h6)
/-! which objects fit which arrays -/
theorem jfit_8_9 : jfit 8 9 := ⟨_, _, rfl, rfl, Or.inl rfl⟩
theorem jfit_7_12 : jfit 7 12 := ⟨_, _, rfl, rfl, Or.inl rfl⟩
theorem jfit_9_24 : jfit 9 24 := ⟨_, _, rfl, rfl, Or.inl rfl⟩
theorem jfit_10_23 : jfit 10 23 := ⟨_, _, rfl, rfl, Or.inl rfl⟩
theorem jfit_6_16 : jfit 6 16 := ⟨_, _, rfl, rfl, Or.inl rfl⟩
theorem jfit_5_4 : jfit 5 4 := ⟨_, _, rfl, rfl, Or.inr q2104⟩
theorem jfit_5_5 : jfit 5 5 := ⟨_, _, rfl, rfl, Or.inr q2105⟩
theorem jfit_5_13 : jfit 5 13 := ⟨_, _, rfl, rfl, Or.inr q2106⟩
theorem jfit_5_14 : jfit 5 14 := ⟨_, _, rfl, rfl, Or.inr q2107⟩
theorem jfit_5_15 : jfit 5 15 := ⟨_, _, rfl, rfl, Or.inr q2108⟩
/-- a reference to an object of some class that fits -/
theorem jr_aastX (K : JK p l R s m args meth c D S0 A0 nL cc own HG) {t a v : Nat} {i : Int32} (ht : 4 ≤ t ∧ t ≤ 10) (d : decode cc pc = .ok (.aastore, 1)) (k : JR p l e R s m args below meth c Q D S0 nL bc bs P (pc + 1) L st) : JR p l e R s m args below meth c Q D S0 nL bc bs (jastX t a i v P) pc L (.ref v :: .int i :: .ref a :: st) := by
  intro σ H locs cells slots ls h1 h2 h3 h4 h5 h6
  obtain ⟨ci, hf, h1⟩ := h1
  exact jr_aast K ht hf d k σ H locs cells slots ls h1 h2 h3 h4 h5 h6
/-! methods with handlers -/
theorem jt_if {q0 : Prop} {x q : Nat} (k1 : q0 → JT p l e R s m args below meth c Q D S0 nL bc bs P1 x q pc L) (k2 : ¬ q0 → JT p l e R s m args below meth c Q D S0 nL bc bs P2 x q pc L) : JT p l e R s m args below meth c Q D S0 nL bc bs (jif q0 P1 P2) x q pc L := by
  intro σ H locs cells slots ls ce st h1 h2 h3 h4 h5 h6 h7 h8 h9
  by_cases h : q0
  · exact k1 h σ H locs cells slots ls ce st (h1.1 h) h2 h3 h4 h5 h6 h7 h8 h9
  · exact k2 h σ H locs cells slots ls ce st (h1.2 h) h2 h3 h4 h5 h6 h7 h8 h9
theorem jncast (K : JK p l R s m args meth c D S0 A0 nL cc own HG) {E nm : String} (h : Cond.not (.castable E nm) ∈ flatC (Jvm.Cond.and given_1 narrow_1)) : va_Nc E nm s := va_Nc.moved K.hW.alike (va_Nc.of (flat_of_before _ K.hG.2.2.2 _ h))
theorem jcast (K : JK p l R s m args meth c D S0 A0 nL cc own HG) {E nm : String} (h : Cond.castable E nm ∈ lw_tbl) : (Cond.castable E nm).before args s = true := va_Nw.use rfl (va_Nw.warmC K.hW (va_Nw.of rfl (K.hG.2.1 _ h)))
theorem jt_catch (K : JK p l R s m args meth c D S0 A0 nL cc own HG) {tb : List (Nat × Nat × Nat × Nat)} (htb : c.exceptionTable.toList = tableOf tb) {x q : Nat} (pre : List ExceptionTableEntry) {e1 : ExceptionTableEntry} {suf : List ExceptionTableEntry} (hs : tableOf tb = pre ++ e1 :: suf) (hpass : ∀ z ∈ pre, covers z pc = false ∨ (z.catchType ≠ 0 ∧ ∃ nm : String, (Cond.classLink own z.catchType nm).before args s = true ∧ va_Nc (jxn x) nm s)) (hx : covers e1 pc = true) (h0 : e1.catchType ≠ 0) {nm : String} (hl : Cond.classLink own e1.catchType nm ∈ lw_all) (hc : Cond.castable (jxn x) nm ∈ lw_tbl) (k : JR p l e R s m args below meth c Q D S0 nL bc bs P e1.handlerPc L [.ref q]) : JT p l e R s m args below meth c Q D S0 nL bc bs P x q pc L := by
  intro σ H locs cells slots ls ce st h1 h2 h3 h4 h5 h6 h7 h8 h9
  exact vx_catch K.hown pre e1 suf (by rw [htb]; exact hs) hpass hx h0 (K.hts _ hl) (jcast K hc) h7 h8 h9 (k σ H locs cells slots ls h1 h2 h3 h4 h5 h6)
theorem jt_catch0 (K : JK p l R s m args meth c D S0 A0 nL cc own HG) {tb : List (Nat × Nat × Nat × Nat)} (htb : c.exceptionTable.toList = tableOf tb) {x q : Nat} {e1 : ExceptionTableEntry} {suf : List ExceptionTableEntry} (hs : tableOf tb = e1 :: suf) (hx : covers e1 pc = true) (h0 : e1.catchType ≠ 0) {nm : String} (hl : Cond.classLink own e1.catchType nm ∈ lw_all) (hc : Cond.castable (jxn x) nm ∈ lw_tbl) (k : JR p l e R s m args below meth c Q D S0 nL bc bs P e1.handlerPc L [.ref q]) : JT p l e R s m args below meth c Q D S0 nL bc bs P x q pc L :=
  jt_catch K htb [] hs (fun _ h => nomatch h) hx h0 hl hc k
theorem jt_catch1 (K : JK p l R s m args meth c D S0 A0 nL cc own HG) {tb : List (Nat × Nat × Nat × Nat)} (htb : c.exceptionTable.toList = tableOf tb) {x q : Nat} {e0 e1 : ExceptionTableEntry} {suf : List ExceptionTableEntry} (hs : tableOf tb = e0 :: e1 :: suf) (hx : covers e1 pc = true) (h0 : e1.catchType ≠ 0) {nm nm0 : String} (hl0 : Cond.classLink own e0.catchType nm0 ∈ lw_all) (hz0 : e0.catchType ≠ 0) (hn0 : va_Nc (jxn x) nm0 s) (hl : Cond.classLink own e1.catchType nm ∈ lw_all) (hc : Cond.castable (jxn x) nm ∈ lw_tbl) (k : JR p l e R s m args below meth c Q D S0 nL bc bs P e1.handlerPc L [.ref q]) : JT p l e R s m args below meth c Q D S0 nL bc bs P x q pc L :=
  jt_catch K htb [e0] hs (fun z h => by rw [List.mem_singleton.mp h]; exact Or.inr ⟨hz0, nm0, K.hts _ hl0, hn0⟩) hx h0 hl hc k
theorem jt_catch2 (K : JK p l R s m args meth c D S0 A0 nL cc own HG) {tb : List (Nat × Nat × Nat × Nat)} (htb : c.exceptionTable.toList = tableOf tb) {x q : Nat} {e0 e2 e1 : ExceptionTableEntry} {suf : List ExceptionTableEntry} (hs : tableOf tb = e0 :: e2 :: e1 :: suf) (hx : covers e1 pc = true) (h0 : e1.catchType ≠ 0) {nm nm0 nm2 : String} (hl0 : Cond.classLink own e0.catchType nm0 ∈ lw_all) (hz0 : e0.catchType ≠ 0) (hn0 : va_Nc (jxn x) nm0 s) (hl2 : Cond.classLink own e2.catchType nm2 ∈ lw_all) (hz2 : e2.catchType ≠ 0) (hn2 : va_Nc (jxn x) nm2 s) (hl : Cond.classLink own e1.catchType nm ∈ lw_all) (hc : Cond.castable (jxn x) nm ∈ lw_tbl) (k : JR p l e R s m args below meth c Q D S0 nL bc bs P e1.handlerPc L [.ref q]) : JT p l e R s m args below meth c Q D S0 nL bc bs P x q pc L :=
  jt_catch K htb [e0, e2] hs (fun z h => by
    rcases List.mem_cons.mp h with rfl | h
    · exact Or.inr ⟨hz0, nm0, K.hts _ hl0, hn0⟩
    · rw [List.mem_singleton.mp h]; exact Or.inr ⟨hz2, nm2, K.hts _ hl2, hn2⟩) hx h0 hl hc k
def jMtW (y : MethodName) (bytes : ByteArray) (maxL : Nat) (ret : Option FieldType) (hh : List (Nat × Nat × Nat × Nat)) (n : Nat) : Prop := (y.cls ≠ "java/lang/invoke/MethodHandle" ∧ y.cls ≠ "java/lang/invoke/VarHandle" ∧ (parseMethodDescriptor y.desc).map (fun d => d.parameters.length) = some n) ∧ Cond.initialized y.cls ∈ lw_all ∧ Cond.codeWith y bytes maxL ret hh ∈ lw_all ∧ maxL ≤ 41
theorem jrun_SW (K : JK p l R s m args meth c D S0 A0 nL cc own HG) {y : MethodName} {bytes : ByteArray} {maxL n idx mc ms hg : Nat} {ret : Option FieldType} {hh : List (Nat × Nat × Nat × Nat)} {As stk : List Value} {Pj : JP} {Qc : Array Value → State → Outcome → State → Prop} (hM : Met l y (wsW_ y bytes maxL ret hh) (jrm hg mc ms) (va_Pc As (jB D S0 Pj)) Qc mc ms (jA S0)) (mt : jMtW y bytes maxL ret hh n) (ms0 : Cond.static y ∈ lw_all) (hl : Cond.methodLink own idx y ∈ lw_all) (hn : As.length = n) (hs : stk = As.reverse ++ st) (hst : (st.map fun v => v.category).sum ≤ 8) (hHG : hg + 1 ≤ HG) (hbc : mc ≤ bc ∧ ms ≤ bs) (d : decode cc pc = .ok (.invokestatic idx, 3)) :
    jRun p l e R s m args below meth c D S0 nL bc bs Pj mc ms pc L stk st (Qc As.toArray) := by
  intro σ H locs cells slots ls h1 h2 h3 h4 h5 h6
  exact vx_runSW (As := As) (rest := st) ⟨K.hx, K.hb, K.hml, K.hown, K.hts⟩ hM (vx_cwSW n K.hts (lw_SW hl ms0 mt.2.1 mt.2.2.1) rfl rfl rfl mt.1 (jroom K hHG mt.2.2.2)) ⟨jB.blind, fun U hU hW => ⟨rfl, jB.pre K h1 h2 h3 hU hW⟩⟩ rfl hn h6.1 hs (lv_room hst) d ⟨by omega, by omega⟩
theorem jrunx_VW (K : JK p l R s m args meth c D S0 A0 nL cc own HG) {y : MethodName} {bytes : ByteArray} {maxL n b ci idx mc ms hg : Nat} {ret : Option FieldType} {hh : List (Nat × Nat × Nat × Nat)} {As stk : List Value} {Pj : JP} {Ex : Nat → Nat → JP} {Qc : Array Value → State → Outcome → State → Prop} (hM : vx_Met l y (wsW_ y bytes maxL ret hh) (jrm hg mc ms) (va_Pc (.ref b :: As) (jB D S0 Pj)) Qc (jXC D S0 Ex) mc ms (jA S0)) (mt : jMtW y bytes maxL ret hh n) (mv : jMv y) (hl : Cond.methodLink own idx y ∈ lw_all) (hci : (jcl[ci]?).map (fun r => r.1) = some y.cls) (hn : As.length = n) (hs : stk = As.reverse ++ .ref b :: st) (hst : (st.map fun v => v.category).sum ≤ 8) (hHG : hg + 1 ≤ HG) (hbc : mc ≤ bc ∧ ms ≤ bs) (d : decode cc pc = .ok (.invokevirtual idx, 3)) :
    jRunX p l e R s m args below meth c D S0 nL bc bs (jobj ci b Pj) Ex mc ms pc L stk st (Qc (Value.ref b :: As).toArray) := by
  intro σ H locs cells slots ls h1 h2 h3 h4 h5 h6
  obtain ⟨h0, h1⟩ := h1
  obtain ⟨r, hr1, hr2⟩ : ∃ r, jcl[ci]? = some r ∧ r.1 = y.cls := by
    cases hc : jcl[ci]? with
    | none => rw [hc] at hci; cases hci
    | some r => rw [hc] at hci; exact ⟨r, rfl, Option.some.inj hci⟩
  have hrec : ∃ cell : Cell, H[b]? = some cell ∧ cell.vm.isStatics = false ∧ s.vm.findClass y.cls = some cell.cls := by
    split at h0
    · rename_i c0 fs hσ
      subst h0
      rw [← hr2]
      exact va_recv (tys := jtys D.2) K.hK (h2.one hσ) (q0 := 0) hr1 rfl
    · exact h0.elim
  exact vx_runVX (As := As) (rest := st) ⟨K.hx, K.hb, K.hml, K.hown, K.hts⟩ hM (vx_cwVW n K.hts (lw_VW hl mv.1 mv.2 mt.2.1 mt.2.2.1) rfl rfl rfl ⟨rfl, mt.1⟩ (jroom K hHG mt.2.2.2)) ⟨jB.blind, hrec, fun U hU hW => ⟨rfl, jB.pre K h1 h2 h3 hU hW⟩⟩ rfl hn h6.1 hs (lv_room hst) d ⟨by omega, by omega⟩
theorem jx_startW {y : MethodName} {maxL : Nat} {ret : Option FieldType} {hh : List (Nat × Nat × Nat × Nat)} {av : List Value} {Qc : Array Value → State → Outcome → State → Prop} {Ex : Nat → Nat → JP} {L0 : List (Option Value)} (hG : jG l D S0 A0) (hy : plainName y.cls = true) (hHG : 12 ≤ HG) (hl : (lg_sl av).length ≤ maxL) (hL0 : jargs av maxL = L0)
    (body : ∀ (p : Program) (e : Env) (s : State) (m : MethodId) (below : List Frame) (meth : Method) (c : Code), JK p l (jrm HG bc bs) s m av.toArray meth c D S0 A0 maxL cc y.cls HG → meth.sig.returnType = ret → c.exceptionTable.toList = tableOf hh → jThr p l e (jrm HG bc bs) s m av.toArray below meth c (vx_MQ below Qc (jXC D S0 Ex) av.toArray s (jrm HG bc bs).cells (jrm HG bc bs).slots (jA S0)) D S0 maxL cc y.cls hh Ex → JR p l e (jrm HG bc bs) s m av.toArray below meth c (vx_MQ below Qc (jXC D S0 Ex) av.toArray s (jrm HG bc bs).cells (jrm HG bc bs).slots (jA S0)) D S0 maxL bc bs P 0 L0 []) :
    vx_Met l y (wsW_ y cc maxL ret hh) (jrm HG bc bs) (va_Pc av (jB D S0 P)) Qc (jXC D S0 Ex) bc bs (jA S0) := by
  refine vx_ofWH (cc := cc) (maxL := maxL) (ret := ret) (hh := hh) hy rfl ?_
  intro p e s m args below meth c s₁ B hml hv
  obtain ⟨rfl, hW, hlo, hge, σ, hR, hP⟩ := hv
  have hown : s.vm.findClass y.cls = some m.cls := findClass_of_methodNamed B.named
  have hts := atoms_spec (ws := wsW_ y cc maxL ret hh) B.pre
  have hent := lv_entry av hl
  rw [lg_entry_eq]
  have K : JK p l (jrm HG bc bs) s m av.toArray meth c D S0 A0 maxL cc y.cls HG := ⟨B.exec, B.bytes, hml, B.notSynchronized, hown, fun w h => hts w (List.mem_cons_of_mem _ h), hG, hW, hlo, hge, Nat.le_refl _, Nat.le_refl _⟩
  have htb : c.exceptionTable.toList = tableOf hh := vx_table (x := y) B (hts _ List.mem_cons_self)
  refine body p e s m below meth c K B.returns htb (jThr.of K hHG htb) σ s.heap [] 0 0 _ hP hR va_S.rf (Nat.le_of_eq (Nat.zero_add _)) (Nat.le_of_eq (Nat.zero_add _)) ?_
  subst hL0
  exact ⟨hent.1, hent.2.1, fun i v h => hent.2.2 (i, v) (jargs_spec h)⟩
theorem jr_startW {y : MethodName} {maxL : Nat} {ret : Option FieldType} {hh : List (Nat × Nat × Nat × Nat)} {av : List Value} {Qc : Array Value → State → Outcome → State → Prop} {L0 : List (Option Value)} (hG : jG l D S0 A0) (hy : plainName y.cls = true) (hl : (lg_sl av).length ≤ maxL) (hL0 : jargs av maxL = L0)
    (body : ∀ (p : Program) (e : Env) (s : State) (m : MethodId) (below : List Frame) (meth : Method) (c : Code), JK p l (jrm HG bc bs) s m av.toArray meth c D S0 A0 maxL cc y.cls HG → meth.sig.returnType = ret → meth.name = y.name → c.exceptionTable.toList = tableOf hh → JR p l e (jrm HG bc bs) s m av.toArray below meth c (MQ below Qc av.toArray s (jrm HG bc bs).cells (jrm HG bc bs).slots (jA S0)) D S0 maxL bc bs P 0 L0 []) :
    Met l y (wsW_ y cc maxL ret hh) (jrm HG bc bs) (va_Pc av (jB D S0 P)) Qc bc bs (jA S0) := by
  refine va_MetW (cc := cc) (maxL := maxL) (ret := ret) (hh := hh) hy rfl ?_
  intro p e s m args below meth c s₁ B hml hv
  obtain ⟨rfl, hW, hlo, hge, σ, hR, hP⟩ := hv
  have hown : s.vm.findClass y.cls = some m.cls := findClass_of_methodNamed B.named
  have hts := atoms_spec (ws := wsW_ y cc maxL ret hh) B.pre
  have hent := lv_entry av hl
  rw [lg_entry_eq]
  have htb : c.exceptionTable.toList = tableOf hh := vx_table (x := y) B (hts _ List.mem_cons_self)
  refine body p e s m below meth c ⟨B.exec, B.bytes, hml, B.notSynchronized, hown, fun w h => hts w (List.mem_cons_of_mem _ h), hG, hW, hlo, hge, Nat.le_refl _, Nat.le_refl _⟩ B.returns (name_of_methodNamed B.named B.method).1 htb σ s.heap [] 0 0 _ hP hR va_S.rf (Nat.le_of_eq (Nat.zero_add _)) (Nat.le_of_eq (Nat.zero_add _)) ?_
  subst hL0
  exact ⟨hent.1, hent.2.1, fun i v h => hent.2.2 (i, v) (jargs_spec h)⟩
theorem jxw {ws : List Cond} (h : (ws.all fun w => decide (w ∈ lw_tbl) && jgood w) = true) : ∀ w ∈ ws, w ∈ lw_tbl ∧ jgood w = true := by
  intro w hw
  have h1 := List.all_eq_true.mp h w hw
  rw [Bool.and_eq_true] at h1
  exact ⟨of_decide_eq_true h1.1, h1.2⟩
theorem jxo {ws : List Cond} (h : ws.all vx_ot = true) : ∀ w ∈ ws, vx_ot w = true := fun w hw => List.all_eq_true.mp h w hw
/-! strings -/
def jsl : List Nat := [4, 5, 6, 3, 8, 5, 5, 4, 4, 3, 2, 3, 2, 3, 5, 4]
def jsb : List (List Int32) := [[116, 111, 111, 107], [118, 97, 108, 117, 101], [110, 117, 109, 98, 101, 114], [109, 101, 110], [115, 116, 114, 97, 105, 103, 104, 116], [115, 108, 97, 110, 116], [97, 104, 101, 97, 100], [108, 101, 97, 112], [98, 105, 116, 101], [97, 100, 100], [105, 102], [97, 110, 100], [111, 114], [110, 111, 116], [116, 97, 107, 101, 115], [115, 97, 102, 101]]
def jsr1 : List (Nat × Nat × String) := [(0, 17, "took"), (1, 19, "value"), (2, 21, "number"), (3, 23, "men"), (4, 112, "straight"), (5, 125, "slant"), (6, 130, "ahead"), (7, 135, "leap"), (8, 136, "bite"), (9, 137, "add"), (10, 142, "if"), (11, 159, "and"), (12, 161, "or"), (13, 167, "not"), (14, 177, "takes"), (15, 181, "safe")]
def jsr2 : List (Nat × Nat × String) := [(0, 156, "took"), (1, 158, "value"), (2, 159, "number"), (3, 161, "men"), (4, 215, "straight"), (5, 217, "slant"), (6, 219, "ahead"), (7, 221, "leap"), (8, 223, "bite"), (9, 208, "add"), (10, 213, "if"), (11, 201, "and"), (12, 206, "or"), (13, 186, "not"), (14, 194, "takes"), (15, 196, "safe")]
def jsk : List Nat := [17, 19, 21, 23, 112, 125, 130, 135, 136, 137, 142, 159, 161, 167, 177, 181]
def jsk2 : List Nat := [156, 158, 159, 161, 215, 217, 219, 221, 223, 208, 213, 201, 206, 186, 194, 196]
def jst (i : Nat) : Term := .string "MoveNotes$Reader" (jsk.getD i 0)
def jSt (S0 : State) (sK : Nat → Nat) : Prop := (∀ i : Nat, i < 16 → va_O "java/lang/String" (sK i) (jA S0) S0 S0.heap ∧ va_OF "java/lang/String" "coder" "B" (.int 0) (sK i) (jA S0) S0 S0.heap ∧ va_OF "java/lang/String" "value" "[B" (.ref (sK (16 + i))) (sK i) (jA S0) S0 S0.heap ∧ va_T .byte (sK (16 + i)) (jsl.getD i 0) (fun j => .int ((jsb.getD i []).getD j 0)) (jA S0) S0 S0.heap) ∧ (∀ z ∈ jsr1, vk_R "MoveNotes$Reader" z.2.1 z.2.2 (sK z.1) S0) ∧ (∀ z ∈ jsr2, vk_R "MoveNotesModel" z.2.1 z.2.2 (sK z.1) S0)
theorem jst_ok1 : ∀ i, i < 16 → Cond.exactly (jst i) "java/lang/String" ∈ flatC (Jvm.Cond.and given_1 narrow_1) := by decide +kernel
theorem jst_ok2 : ∀ i, i < 16 → Cond.eq (.field (jst i) "java/lang/String" "coder" "B") (.int 0) ∈ flatC (Jvm.Cond.and given_1 narrow_1) := by decide +kernel
theorem jst_ok3 : ∀ i, i < 16 → Cond.arrayOf (.field (jst i) "java/lang/String" "value" "[B") .byte ∈ flatC (Jvm.Cond.and given_1 narrow_1) := by decide +kernel
theorem jst_ok4 : ∀ i, i < 16 → Cond.eq (.length (.field (jst i) "java/lang/String" "value" "[B")) (.int (Int32.ofNat (jsl.getD i 0))) ∈ flatC (Jvm.Cond.and given_1 narrow_1) := by decide +kernel
theorem jst_ok5 : ∀ i, i < 16 → ∀ j, j < jsl.getD i 0 → Cond.eq (.elem (.field (jst i) "java/lang/String" "value" "[B") (.int (Int32.ofNat j))) (.int ((jsb.getD i []).getD j 0)) ∈ flatC (Jvm.Cond.and given_1 narrow_1) := by decide +kernel
theorem jst_ok6 : ∀ i, i < 16 → Cond.eq (jst i) (.string "MoveNotesModel" (jsk2.getD i 0)) ∈ flatC (Jvm.Cond.and given_1 narrow_1) := by decide +kernel
theorem jst_ok7 : ∀ z ∈ jsr1, Cond.stringRef "MoveNotes$Reader" z.2.1 z.2.2 ∈ lw_tbl ∧ z.1 < 16 ∧ z.2.1 = jsk.getD z.1 0 := by decide +kernel
theorem jst_ok8 : ∀ z ∈ jsr2, Cond.stringRef "MoveNotesModel" z.2.1 z.2.2 ∈ lw_tbl ∧ z.1 < 16 ∧ z.2.1 = jsk2.getD z.1 0 := by decide +kernel
theorem jsl_lt : ∀ i, i < 16 → jsl.getD i 0 < 2 ^ 31 := by decide
theorem jeqR {args : Array Value} {s : State} {t u : Term} {a : Nat} (h : (Cond.eq t u).before args s = true) (ht : t.eval args s none [] s = some (.ref a)) : u.eval args s none [] s = some (.ref a) := by
  cases hv : u.eval args s none [] s with
  | none => simp [Cond.before, Cond.holds, Cond.value, ht, hv] at h
  | some w =>
    simp only [Cond.before, Cond.holds, Cond.value, ht, hv] at h
    cases w <;> simp_all
theorem jSt.make (hT : ∀ w ∈ lw_tbl, w.before A0 S0 = true) (h : (Jvm.Cond.and given_1 narrow_1).before A0 S0 = true) : ∃ sK : Nat → Nat, jSt S0 sK := by
  have hs := flat_of_before _ h
  have hA : ∀ a : Nat, a < S0.heap.size → ¬ jA S0 a := fun a h q => absurd q (Nat.not_le.mpr h)
  have h0 : ∀ i : Nat, ∃ q : Nat × Nat, i < 16 → (jst i).eval A0 S0 none [] S0 = some (.ref q.1) ∧ va_O "java/lang/String" q.1 (jA S0) S0 S0.heap ∧ va_OF "java/lang/String" "coder" "B" (.int 0) q.1 (jA S0) S0 S0.heap ∧ va_OF "java/lang/String" "value" "[B" (.ref q.2) q.1 (jA S0) S0 S0.heap ∧ va_T .byte q.2 (jsl.getD i 0) (fun j => .int ((jsb.getD i []).getD j 0)) (jA S0) S0 S0.heap := by
    intro i
    by_cases hi : i < 16
    · obtain ⟨a, c, cA, kA, q1, q2, q3, q4, q5, q6, -⟩ := Cond.exactly_spec (args := A0) (first := S0) (o := none) (s := S0) (idx := []) (t := jst i) (cls := "java/lang/String") (hs _ (jst_ok1 i hi))
      obtain ⟨t, ht, hT⟩ := va_Tof (f := fun j => .int ((jsb.getD i []).getD j 0)) (A := jA S0) (jsl_lt i hi) (hs _ (jst_ok3 i hi)) (va_eqt (hs _ (jst_ok4 i hi))) (fun j hj => va_eqt (hs _ (jst_ok5 i hi j hj))) hA
      exact ⟨(a, t), fun _ => ⟨q1, ⟨cA, q3, q5, by rw [q6]; exact q2, hA a (Array.getElem?_eq_some_iff.mp q3).1⟩, vk_OFof q1 (va_eqt (hs _ (jst_ok2 i hi))) hA, vk_OFof q1 ht hA, hT⟩⟩
    · exact ⟨(0, 0), fun h => absurd h hi⟩
  obtain ⟨ad, had⟩ := Classical.axiomOfChoice h0
  refine ⟨fun i => if i < 16 then (ad i).1 else (ad (i - 16)).2, fun i hi => ?_, fun z hz => ?_, fun z hz => ?_⟩
  · have e1 : ¬ (16 + i < 16) := by omega
    have e2 : 16 + i - 16 = i := by omega
    simp only [if_pos hi, if_neg e1, e2]
    exact (had i hi).2
  · obtain ⟨z1, z2, z3⟩ := jst_ok7 z hz
    simp only [if_pos z2]
    have := (had z.1 z2).1
    unfold jst at this
    rw [← z3] at this
    exact vk_R.of (hT _ z1) this
  · obtain ⟨z1, z2, z3⟩ := jst_ok8 z hz
    simp only [if_pos z2]
    have := jeqR (hs _ (jst_ok6 z.1 z2)) (had z.1 z2).1
    rw [← z3] at this
    exact vk_R.of (hT _ z1) this
def jsval (sK : Nat → Nat) (a : Nat) (f : Nat → JP) : JP := jex fun i => jand (i < 16 ∧ a = sK i) (f (sK (16 + i)))
def jscod (sK : Nat → Nat) (a : Nat) (P1 : JP) : JP := jex fun i => jand (i < 16 ∧ a = sK i) P1
def jslen (sK : Nat → Nat) (v : Nat) (f : Int32 → JP) : JP := jex fun i => jand (i < 16 ∧ v = sK (16 + i)) (f (nI (jsl.getD i 0)))
def jschr (sK : Nat → Nat) (v : Nat) (k : Int32) (f : Int32 → JP) : JP := jex fun i => jand (i < 16 ∧ v = sK (16 + i) ∧ vp_in k (jsl.getD i 0)) (f ((jsb.getD i []).getD k.toNatClampNeg 0))
def jsobj (sK : Nat → Nat) (b : Nat) (P1 : JP) : JP := jand (∃ i : Nat, i < 16 ∧ b = sK i) P1
def jastS (sK : Nat → Nat) (a : Nat) (i : Int32) (v : Nat) (f : JP) : JP := fun σ => match σ.1 a with
  | some (.inr (t', n, .inr (.inr (.inr (.inr g))))) => t' = 4 ∧ (∃ k : Nat, k < 16 ∧ v = sK k) ∧ vp_in i n ∧ f (jset σ a (.inr (t', n, .inr (.inr (.inr (.inr (va_up g i.toNatClampNeg (some v))))))))
  | _ => False
def jany (f : Option Nat → JP) : JP := fun σ => ∀ r : Option Nat, f r σ
theorem jS_O (K : JK p l R s m args meth c D S0 A0 nL cc own HG) {sK : Nat → Nat} (hS : jSt S0 sK) {i : Nat} (hi : i < 16) : va_O "java/lang/String" (sK i) (jA S0) s s.heap := (va_O.moved K.hW.alike (hS.1 i hi).1).kept fun a h _ => K.hlo a h
theorem jr_ldcS (K : JK p l R s m args meth c D S0 A0 nL cc "MoveNotes$Reader" HG) {sK : Nat → Nat} (hS : jSt S0 sK) (z : Nat × Nat × String) (hz : z ∈ jsr1) (d : decode cc pc = .ok (.ldc z.2.1, 2)) (k : JR p l e R s m args below meth c Q D S0 nL bc bs P (pc + 2) L (.ref (sK z.1) :: st)) : JR p l e R s m args below meth c Q D S0 nL bc bs P pc L st :=
  JR.same (fun _ w => va_ldcS K.hx K.hb K.hown (vk_R.warm K.hW (hS.2.1 z hz)) d w) k
theorem jr_ldcS2 (K : JK p l R s m args meth c D S0 A0 nL cc "MoveNotesModel" HG) {sK : Nat → Nat} (hS : jSt S0 sK) (z : Nat × Nat × String) (hz : z ∈ jsr2) (d : decode cc pc = .ok (.ldc z.2.1, 2)) (k : JR p l e R s m args below meth c Q D S0 nL bc bs P (pc + 2) L (.ref (sK z.1) :: st)) : JR p l e R s m args below meth c Q D S0 nL bc bs P pc L st :=
  JR.same (fun _ w => va_ldcS K.hx K.hb K.hown (vk_R.warm K.hW (hS.2.2 z hz)) d w) k
theorem jr_sval (K : JK p l R s m args meth c D S0 A0 nL cc own HG) {sK : Nat → Nat} (hS : jSt S0 sK) {a idx : Nat} {f : Nat → JP} (hl : Cond.fieldLink own idx "java/lang/String" "value" "[B" ∈ lw_all) (d : decode cc pc = .ok (.getfield idx, 3)) (k : ∀ v, JR p l e R s m args below meth c Q D S0 nL bc bs (f v) (pc + 3) L (.ref v :: st)) : JR p l e R s m args below meth c Q D S0 nL bc bs (jsval sK a f) pc L (.ref a :: st) := by
  refine jr_ex fun i => jr_and fun h => ?_
  obtain ⟨hi, rfl⟩ := h
  intro σ H locs cells slots ls h1 h2 h3 h4 h5 h6
  exact vk_getf K.hx K.hb ((va_OF.moved K.hW.alike (hS.1 i hi).2.2.1).kept fun a h _ => K.hlo a h) h3 K.hown (K.hts _ hl) (fun _ h => h) d (k _ σ H locs cells slots ls h1 h2 h3 h4 h5 h6)
theorem jr_scod (K : JK p l R s m args meth c D S0 A0 nL cc own HG) {sK : Nat → Nat} (hS : jSt S0 sK) {a idx : Nat} (hl : Cond.fieldLink own idx "java/lang/String" "coder" "B" ∈ lw_all) (d : decode cc pc = .ok (.getfield idx, 3)) (k : JR p l e R s m args below meth c Q D S0 nL bc bs P (pc + 3) L (.int (nI 0) :: st)) : JR p l e R s m args below meth c Q D S0 nL bc bs (jscod sK a P) pc L (.ref a :: st) := by
  refine jr_ex fun i => jr_and fun h => ?_
  obtain ⟨hi, rfl⟩ := h
  intro σ H locs cells slots ls h1 h2 h3 h4 h5 h6
  exact vk_getf K.hx K.hb ((va_OF.moved K.hW.alike (hS.1 i hi).2.1).kept fun a h _ => K.hlo a h) h3 K.hown (K.hts _ hl) (fun _ h => h) d (k σ H locs cells slots ls h1 h2 h3 h4 h5 h6)
theorem jr_slen (K : JK p l R s m args meth c D S0 A0 nL cc own HG) {sK : Nat → Nat} (hS : jSt S0 sK) {v : Nat} {f : Int32 → JP} (d : decode cc pc = .ok (.arraylength, 1)) (k : ∀ r, JR p l e R s m args below meth c Q D S0 nL bc bs (f r) (pc + 1) L (.int r :: st)) : JR p l e R s m args below meth c Q D S0 nL bc bs (jslen sK v f) pc L (.ref v :: st) := by
  refine jr_ex fun i => jr_and fun h => ?_
  obtain ⟨hi, rfl⟩ := h
  intro σ H locs cells slots ls h1 h2 h3 h4 h5 h6
  exact va_tlen K.hx K.hb ((va_T.moved K.hW.alike (hS.1 i hi).2.2.2).kept fun a h _ => K.hlo a h) h3 rfl d (k _ σ H locs cells slots ls h1 h2 h3 h4 h5 h6)
theorem jr_schr (K : JK p l R s m args meth c D S0 A0 nL cc own HG) {sK : Nat → Nat} (hS : jSt S0 sK) {v : Nat} {i0 : Int32} {f : Int32 → JP} (d : decode cc pc = .ok (.baload, 1)) (k : ∀ r, JR p l e R s m args below meth c Q D S0 nL bc bs (f r) (pc + 1) L (.int r :: st)) : JR p l e R s m args below meth c Q D S0 nL bc bs (jschr sK v i0 f) pc L (.int i0 :: .ref v :: st) := by
  refine jr_ex fun i => jr_and fun h => ?_
  obtain ⟨hi, rfl, hin⟩ := h
  intro σ H locs cells slots ls h1 h2 h3 h4 h5 h6
  exact va_tb K.hx K.hb ((va_T.moved K.hW.alike (hS.1 i hi).2.2.2).kept fun a h _ => K.hlo a h) h3 hin rfl d (k _ σ H locs cells slots ls h1 h2 h3 h4 h5 h6)
theorem jr_aastS (K : JK p l R s m args meth c D S0 A0 nL cc own HG) {sK : Nat → Nat} (hS : jSt S0 sK) {a v : Nat} {i : Int32} (d : decode cc pc = .ok (.aastore, 1)) (k : JR p l e R s m args below meth c Q D S0 nL bc bs P (pc + 1) L st) : JR p l e R s m args below meth c Q D S0 nL bc bs (jastS sK a i v P) pc L (.ref v :: .int i :: .ref a :: st) := by
  intro σ H locs cells slots ls h1 h2 h3 h4 h5 h6
  unfold jastS at h1
  split at h1
  · rename_i t' n g hσ
    obtain ⟨rfl, ⟨kk, hkk, rfl⟩, hin, h1⟩ := h1
    have hlt : i.toNatClampNeg < n := Nat.not_le.mp fun q => hin (Or.inr q)
    have h0 : ¬ i < 0 := fun q => hin (Or.inl q)
    have hcell : H[a]? = some (vp_cell (D.2 4) (n, .inr (.inr (.inr (.inr g))))) := h2.one hσ 0 _ rfl
    have hA := K.hK.2 4 _ (jtys_at (d := D.2) (t := 4) (by omega))
    obtain ⟨kA, comp, r1, r2, r3, r4⟩ := hA.2
    obtain ⟨cellv, q2, q3, q4, -⟩ := (jS_O K hS hkk).kept h3.2.1
    cases q4.symm.trans r3
    obtain ⟨kC, hkC, -⟩ := Vm.findClass_spec q4
    refine W.aast (t := .object "java/lang/String") K.hx K.hb hcell (fun q => by intro z; cases z) (fun q => by cases q) r1 r2 rfl hkC ⟨h0, by show _ < (arrV _ _ _).slots.size; rw [arrV_size]; exact hlt⟩ q2 (fun q z => by rw [z] at q3; cases q3) hkC (va_asg _ _) rfl rfl d fun H1 e1 z oq => ?_
    refine k _ H1 _ cells slots ls h1 (h2.set hσ z oq ?_) (h3.put z oq (h2.ge hσ)) h4 h5 h6
    show H1[a]? = some (vp_cell _ _)
    rw [e1]
    rw [vp_cell_q, vp_cell_q, arrV_store]
    congr 2
    funext q
    by_cases hq : q = i.toNatClampNeg
    · subst hq
      simp [updV, va_up, va_rf]
    · simp [updV, va_up, hq]
  · exact h1.elim
/-! statics that nobody writes -/
theorem jr_gets (K : JK p l R s m args meth c D S0 A0 nL cc own HG) {C n d0 : String} {v : Int32} {idx : Nat} (h1 : Cond.laysStatic C n d0 ∈ lw_tbl) (h2 : Cond.initialized C ∈ lw_tbl) (h3 : Cond.eq (.static C n d0) (.int v) ∈ flatC (Jvm.Cond.and given_1 narrow_1)) (hl : Cond.fieldLink own idx C n d0 ∈ lw_all) (d : decode cc pc = .ok (.getstatic idx, 3)) (k : JR p l e R s m args below meth c Q D S0 nL bc bs P (pc + 3) L (.int v :: st)) : JR p l e R s m args below meth c Q D S0 nL bc bs P pc L st := by
  have hZ : va_Z C n d0 (.int v) (jA S0) S0 S0.heap := va_Zof (K.hG.2.1 _ h1) (K.hG.2.1 _ h2) (va_eqi (flat_of_before _ K.hG.2.2.2 _ h3)) (fun a h q => absurd q (Nat.not_le.mpr h))
  intro σ H locs cells slots ls g1 g2 g3 g4 g5 g6
  exact va_gets K.hx K.hb ((va_Z.moved K.hW.alike hZ).kept fun a h _ => K.hlo a h) g3 K.hown (K.hts _ hl) (fun _ h => h) d (k σ H locs cells slots ls g1 g2 g3 g4 g5 g6)
theorem jr_getsR (K : JK p l R s m args meth c D S0 A0 nL cc own HG) {C n d0 : String} {f : Option Nat → JP} {idx : Nat} (h1 : Cond.laysStatic C n d0 ∈ lw_tbl) (h2 : Cond.initialized C ∈ lw_tbl) (h3 : Cond.isRef (.static C n d0) ∈ flatC (Jvm.Cond.and given_1 narrow_1)) (hl : Cond.fieldLink own idx C n d0 ∈ lw_all) (d : decode cc pc = .ok (.getstatic idx, 3)) (k : ∀ r, JR p l e R s m args below meth c Q D S0 nL bc bs (f r) (pc + 3) L (va_rf r :: st)) : JR p l e R s m args below meth c Q D S0 nL bc bs (jany f) pc L st := by
  have hZ : va_Zq C n d0 (jA S0) s s.heap := (va_Zq.moved K.hW.alike (va_Zqof (K.hG.2.1 _ h1) (K.hG.2.1 _ h2) (flat_of_before _ K.hG.2.2.2 _ h3) (fun a h q => absurd q (Nat.not_le.mpr h)))).kept fun a h _ => K.hlo a h
  intro σ H locs cells slots ls g1 g2 g3 g4 g5 g6
  rcases hZ with hZ | ⟨t, hZ⟩
  · exact va_gets K.hx K.hb hZ g3 K.hown (K.hts _ hl) (fun _ h => h) d (k none σ H locs cells slots ls (g1 none) g2 g3 g4 g5 g6)
  · exact va_gets K.hx K.hb hZ g3 K.hown (K.hts _ hl) (fun _ h => h) d (k (some t) σ H locs cells slots ls (g1 (some t)) g2 g3 g4 g5 g6)
theorem jrun_VS (K : JK p l R s m args meth c D S0 A0 nL cc own HG) {sK : Nat → Nat} (hS : jSt S0 sK) {y : MethodName} (hyc : y.cls = "java/lang/String") {bytes : ByteArray} {maxL n b idx mc ms hg : Nat} {ret : Option FieldType} {As stk : List Value} {Pj : JP} {Qc : Array Value → State → Outcome → State → Prop} (hM : Met l y (ws_ y bytes maxL ret) (jrm hg mc ms) (va_Pc (.ref b :: As) (jB D S0 Pj)) Qc mc ms (jA S0)) (mt : jMt y bytes maxL ret n) (mv : jMv y) (hl : Cond.methodLink own idx y ∈ lw_all) (hn : As.length = n) (hs : stk = As.reverse ++ .ref b :: st) (hst : (st.map fun v => v.category).sum ≤ 8) (hHG : hg + 1 ≤ HG) (hbc : mc ≤ bc ∧ ms ≤ bs) (d : decode cc pc = .ok (.invokevirtual idx, 3)) :
    jRun p l e R s m args below meth c D S0 nL bc bs (jsobj sK b Pj) mc ms pc L stk st (Qc (Value.ref b :: As).toArray) := by
  intro σ H locs cells slots ls h1 h2 h3 h4 h5 h6
  obtain ⟨⟨i, hi, rfl⟩, h1⟩ := h1
  have hrec : ∃ cell : Cell, H[sK i]? = some cell ∧ cell.vm.isStatics = false ∧ s.vm.findClass y.cls = some cell.cls := by
    obtain ⟨cell, q1, q2, q3, -⟩ := (jS_O K hS hi).kept h3.2.1
    exact ⟨cell, q1, q2, by rw [hyc]; exact q3⟩
  exact va_runV (As := As) (rest := st) ⟨K.hx, K.hb, K.hml, K.hown, K.hts⟩ hM (cwV n K.hts (lw_V hl mv.1 mv.2 mt.2.1 mt.2.2.1) rfl rfl rfl ⟨rfl, mt.1⟩ (jroom K hHG mt.2.2.2)) ⟨jB.blind, hrec, fun U hU hW => ⟨rfl, jB.pre K h1 h2 h3 hU hW⟩⟩ rfl hn h6.1 hs (lv_room hst) d ⟨by omega, by omega⟩
theorem jr_nret (K : JK p l R s m args meth c D S0 A0 nL cc own HG) {ty : FieldType} {Qj : Int32 → JP} {r : Int32} (hr : meth.sig.returnType = some ty) (d : decode cc pc = .ok (.ireturn, 1)) : JR p l e R s m args below meth c (MQ below (va_Qi Qj (fun σ t => jRep D S0.heap.size σ t.heap) (jA S0)) args s R.cells R.slots (jA S0)) D S0 nL bc bs (jand (narrow ty (.int r) = .int r) (Qj r)) pc L [.int r] :=
  jr_and fun h => jr_iret K hr h d
def jRetN (p : Program) (l : Launch) (e : Env) (R : Room) (s : State) (m : MethodId) (args : Array Value) (below : List Frame) (meth : Method) (c : Code) (Q : State → Prop) (D : jE) (S0 : State) (nL : Nat) (cc : ByteArray) (ty : FieldType) (Qj : Int32 → JP) : Prop := ∀ (bc bs pc : Nat) (L : List (Option Value)) (r : Int32), decode cc pc = .ok (.ireturn, 1) → JR p l e R s m args below meth c Q D S0 nL bc bs (jand (narrow ty (.int r) = .int r) (Qj r)) pc L [.int r]
/-! a static method called by the name of a class that inherits it -/
theorem jst_coldUp {QQ : Unit → Pre} {E : CtlPost} {e : Env} {dd : Bool} {acts : List Action} {s s₀ : State} {f : JFrame} {index ci n cn : Nat} {m : MethodId} {dk ck : Class} {cf : ClassFile} {name desc : String} (hs : s.topJava?.isSome) (hp : e.platform.polymorphicOnlyByInvokevirtual = true)
    (hW : s₀.WarmedH s.vm) (hE : s₀.MethodEntryUp e s.vm f.method.cls index cn m ci) (h1 : s₀.vm.classes[f.method.cls]? = some dk) (h2 : dk.cf = some cf)
    (h3 : cf.constantPool[index]? = some (.methodref ci n)) (h4 : cf.constantPool.nameAndType? n = some (name, desc))
    (hck : s₀.vm.classes[cn]? = some ck) (hnone : (ck.methods.any fun x => x.name == name && !x.isStatic && signaturePolymorphic ck x) = false) :
    wp (invokestatic.sem index) QQ E e dd acts (s.setTop f) ↔ wp (invokestatic.sem index) QQ E e dd acts ((s.setVm (s.vm.calledUp f.method.cls ci index cn m)).setTop f) := by
  obtain ⟨hgc, hrc, hW₁, hgm⟩ := hE.classFirst
  obtain ⟨k₀, hk₀, he₀⟩ := hW.alike.2.2 _ _ h1
  obtain ⟨k₂, hk₂, he₂⟩ := hE.warmed.alike.2.2 _ _ h1
  obtain ⟨c₁, hc₁, hec₁⟩ := hW₁.alike.2.2 _ _ hck
  obtain ⟨c₂, hc₂, hec₂⟩ := hE.warmed.alike.2.2 _ _ hck
  have hb₀ := memberRef_ask_via (e := e) (via := false) hk₀ (by rw [he₀]; exact h2) h3 h4
  have hb₂ := memberRef_ask_via (e := e) (via := false) hk₂ (by rw [he₂]; exact h2) h3 h4
  have hn₁ : (c₁.methods.any fun x => x.name == name && !x.isStatic && signaturePolymorphic c₁ x) = false := by rw [hec₁]; exact hnone
  have hn₂ : (c₂.methods.any fun x => x.name == name && !x.isStatic && signaturePolymorphic c₂ x) = false := by rw [hec₂]; exact hnone
  have hs₁ : (s.setVm (s.vm.noted f.method.cls ci (.cls cn))).topJava?.isSome := hs
  have hs₂ : (s.setVm (s.vm.calledUp f.method.cls ci index cn m)).topJava?.isSome := hs
  have hL : ∀ {Q' : ClassId → Pre} {d' : Bool} {acts' : List Action}, wp (Jvm.resolveClassAt ci) Q' E e d' acts' (s.setTop f) ↔ Q' cn d' acts' ((s.setVm (s.vm.noted f.method.cls ci (.cls cn))).setTop f) :=
    W.resolveClassAt_links (t := s.setTop f) (State.method?_setTop f hs) hgc
  have hM : ∀ {Q' : MethodId → Pre} {d' : Bool} {acts' : List Action}, wp (Jvm.resolveMethodAt index) Q' E e d' acts' ((s.setVm (s.vm.noted f.method.cls ci (.cls cn))).setTop f) ↔ Q' m d' acts' ((s.setVm (s.vm.calledUp f.method.cls ci index cn m)).setTop f) :=
    W.resolveMethodAt_links (t := (s.setVm (s.vm.noted f.method.cls ci (.cls cn))).setTop f) (State.method?_setTop f hs₁) hgm
  simp [invokestatic.sem, hp, Seam.memberRefOf, State.method?_setTop f hs, State.method?_setTop f hs₂, hb₀, hb₂, hL, W.resolveClassAt_ready (s := (s.setVm (s.vm.calledUp f.method.cls ci index cn m)).setTop f) (State.method?_setTop f hs₂) hE.classReady,
    hc₁, hc₂, hn₁, hn₂, hM, W.resolveMethodAt_ready (s := (s.setVm (s.vm.calledUp f.method.cls ci index cn m)).setTop f) (State.method?_setTop f hs₂) hE.ready, -Array.any_eq_true]
theorem jst_up {p : Program} {l : Launch} {e : Env} {R : Room} {s T : State} {m : MethodId} {args : Array Value} {below : List Frame} {meth : Method} {c : Code} {locs : List Loc} {cells slots : Nat} (X : Stand p l e R s m args below meth c T locs cells slots) (hexec : p.tables.exec = Jvm.exec)
    {own owner : String} {index : Nat} {x : MethodName} (hown : s.vm.findClass own = some m.cls) (hlink : (Cond.methodLink own index x).before args s = true)
    (hsame : (Cond.sameMethod x.cls owner x.name x.desc).before args s = true) (howner : owner ≠ "java/lang/invoke/MethodHandle" ∧ owner ≠ "java/lang/invoke/VarHandle")
    {m' : MethodId} {meth' : Method} {k' : Class} (hn : s.methodNamed? ⟨owner, x.name, x.desc⟩ = some m') (hm' : s.vm.method? m' = some meth') (hstatic : meth'.isStatic = true)
    (hk' : s.vm.classes[m'.cls]? = some k') (hinit : k'.init = .initialized)
    {g : JFrame} (hg : g.method = m) {argsL rest : List Value} (hlen : argsL.length = meth'.sig.parameters.length) (hstack : g.stack = argsL.reverse ++ rest)
    (hdg : decode c.code g.pc = .ok (.invokestatic index, 3)) :
    ∃ vm', Stand p l e R s m args below meth c (T.setVm vm') locs cells slots ∧
      ∀ target, (∀ acts, Steps p.tables e below (doInvoke e ((T.setVm vm').setTop { g with stack := rest }) acts m' argsL.toArray).1 target) → Steps p.tables e below (T.setTop g) target := by
  have hpl : e.platform.magicAccessors = ({} : Platform).magicAccessors := by rw [X.admits.platform]
  have hpv : e.platform.polymorphicOnlyByInvokevirtual = true := by rw [X.admits.platform]
  obtain ⟨cn, ck, r1, hcn, hck, hni, hf, hn1⟩ := Cond.sameMethod_found hsame
  cases hn.symm.trans hn1
  obtain ⟨ci, hl, hright⟩ := Cond.methodLink_specUp hown hcn hck hni hf hlink e.platform hpl (by rw [X.admits.platform])
  have hE : s.MethodEntryUp e T.vm m.cls index cn m' ci := State.methodEntryUp X.warmed hl hright
  obtain ⟨dk, cfile, nt, name, desc, ck1, _, _, hd, hcf, hcp, hnt, -, -, hck1, -, hnopoly, -⟩ := hl.here
  cases hck.symm.trans hck1
  obtain ⟨kr, hkr, hnr⟩ := className_of_methodNamed hn
  cases hk'.symm.trans hkr
  have alike := hE.warmed.alike
  obtain ⟨dk₂, hdk₂, hed⟩ := alike.2.2 _ _ hd
  obtain ⟨k₂, hk₂, he₂⟩ := alike.2.2 _ _ hk'
  obtain ⟨ck₂, hck₂, hec⟩ := alike.2.2 _ _ hck
  have hnone : (ck.methods.any fun y => y.name == name && !y.isStatic && signaturePolymorphic ck y) = false := by simp [hnopoly]
  have hnone₂ : (ck₂.methods.any fun y => y.name == name && !y.isStatic && signaturePolymorphic ck₂ y) = false := by rw [hec]; exact hnone
  refine ⟨T.vm.calledUp m.cls ci index cn m', X.noted hE.warmed, fun target hrest => ?_⟩
  subst hg
  jvm_step X.here [hexec, hdg, jst_coldUp (e := e) (s := T) (s₀ := s) (f := g) X.here.top hpv X.warmed hE hd hcf hcp hnt hck hnone,
    invokestatic.wp_ready (e := e) (s := T.setVm (T.vm.calledUp g.method.cls ci index cn m')) (k := k₂) (meth := meth') (m := m') (args := argsL) (rest := rest) (f := g)
      X.here.top ⟨ci, name, desc, false, cn, ck₂, memberRef_ask_via (e := e) (via := false) hdk₂ (by rw [hed]; exact hcf) hcp hnt, hE.classReady, hck₂, hnone₂⟩ hE.ready hk₂
      (by show (T.vm.calledUp g.method.cls ci index cn m').method? m' = some meth'; rw [alike.method?]; exact hm') (by rw [he₂]; show signaturePolymorphic k' meth' = false; simp [signaturePolymorphic, hnr, howner.1, howner.2]) hstatic (by rw [he₂]; exact hinit) hlen hstack]
  exact fun acts => hrest _
theorem jrun_SU (K : JK p l R s m args meth c D S0 A0 nL cc own HG) {x y : MethodName} {bytes : ByteArray} {maxL n idx mc ms hg : Nat} {ret : Option FieldType} {As stk : List Value} {Pj : JP} {Qc : Array Value → State → Outcome → State → Prop} (hM : Met l y (ws_ y bytes maxL ret) (jrm hg mc ms) (va_Pc As (jB D S0 Pj)) Qc mc ms (jA S0)) (mt : jMt y bytes maxL ret n) (ms0 : Cond.static y ∈ lw_all) (hl : Cond.methodLink own idx x ∈ lw_all) (hsame : Cond.sameMethod x.cls y.cls x.name x.desc ∈ lw_all) (hyx : y = ⟨y.cls, x.name, x.desc⟩) (hn : As.length = n) (hs : stk = As.reverse ++ st) (hst : (st.map fun v => v.category).sum ≤ 8) (hHG : hg + 1 ≤ HG) (hbc : mc ≤ bc ∧ ms ≤ bs) (d : decode cc pc = .ok (.invokestatic idx, 3)) :
    jRun p l e R s m args below meth c D S0 nL bc bs Pj mc ms pc L stk st (Qc As.toArray) := by
  intro σ H locs cells slots ls h1 h2 h3 h4 h5 h6
  intro T hT X
  have hR := jroom K (mc := mc) (ms := ms) hHG mt.2.2.2
  have hws := pay_in K.hts (lw_meth mt.2.2.1)
  have hcode : (Cond.code y bytes maxL ret).before args s = true := K.hts _ mt.2.2.1
  have hini : (Cond.initialized y.cls).before args s = true := K.hts _ mt.2.1
  have hK : Back l R p e below s args y 3 8 (PreOf R mc ms (va_Pc As (jB D S0 Pj))) (PostOf Qc mc ms (jA S0)) := back_of (bytes := bytes) (maxL := maxL) (ret := ret) hM jB.blind rfl rfl hR.1 hR.2 hws List.mem_cons_self (fun a' U hW => word_at hW (Or.inl (by first | rfl | simp [Cond.onTables, Cond.keeps, Cond.steady])) hini)
  obtain ⟨mk, hnamed⟩ := Cond.code_named hcode
  obtain ⟨methM, cM, hmethM, -, -, -, -, -, -, hsigM⟩ := Cond.code_spec hnamed hcode
  have hstatic : methM.isStatic = true := Cond.static_spec hnamed hmethM (K.hts _ ms0)
  obtain ⟨kP, hkP, -⟩ := className_of_methodNamed hnamed
  have hinitP : kP.init = .initialized := Cond.initialized_spec (findClass_of_methodNamed hnamed) hkP hini
  have hy2 := mt.1.2.2
  rw [hsigM] at hy2
  obtain ⟨vm₁, X₁, hstep₁⟩ := jst_up X K.hx K.hown (K.hts _ hl) (owner := y.cls) (K.hts _ hsame) ⟨mt.1.1, mt.1.2.1⟩ (by rw [← hyx]; exact hnamed) hmethM hstatic hkP hinitP (g := F0 m pc ls stk) rfl (argsL := As) (rest := st) (by rw [hn]; exact (Option.some.inj hy2).symm) hs (by rw [K.hb]; exact d)
  obtain ⟨v, B, X', hpost, hsteps⟩ := hK m meth c ⟨T.setVm vm₁, locs, cells, slots⟩ { F0 m pc ls stk with stack := st } (.invokestatic idx) mk As.toArray X₁ rfl (by rw [K.hml]; exact h6.1) (by rw [K.hb]; exact d) (lv_room hst) (X₁.named hnamed) ⟨by show cells + mc ≤ R.cells; omega, by show slots + ms ≤ R.slots; omega, rfl, jB.pre K h1 h2 h3 hT X₁.warmed⟩
  obtain ⟨U', l2, c2, s2⟩ := B
  obtain ⟨g', mk', t, L', e1, e2, hq, g1, hL, g2, g3⟩ := hpost
  dsimp only [Pt.U, Pt.locs, Pt.cells, Pt.slots] at X' e1 e2 g1 g2 g3 hsteps
  subst g1; subst g2; subst g3
  exact ⟨v, (T.setVm vm₁).calling g' mk' As.toArray, t, U', L', hT, X', hL, e1, e2, hq, fun target h => hstep₁ _ fun acts => by rw [doInvoke_state]; exact hsteps.trans h⟩
/-! references or null into fields of array types -/
theorem jnar_rfA (t : FieldType) (r : Option Nat) : narrow (.array t) (va_rf r) = va_rf r := by cases r <;> rfl
theorem jfits_rfA (t : FieldType) (r : Option Nat) : fits (.array t) (va_rf r) = true := by cases r <;> rfl
/-! calls by the receiver's class -/
theorem jrun_disp0 {b : Nat} {mc ms : Nat} {stk : List Value} {Qa : State → Outcome → State → Prop} : jRun p l e R s m args below meth c D S0 nL bc bs (jdisp b []) mc ms pc L stk st Qa := by
  intro σ H locs cells slots ls h1
  unfold jdisp at h1
  split at h1
  · simp only [List.lookup] at h1
  · exact h1.elim
theorem jdisp_cons {b ci : Nat} {Pj : JP} {alts : List (Nat × JP)} {σ : Hp} (h : jdisp b ((ci, Pj) :: alts) σ) : jobj ci b Pj σ ∨ jdisp b alts σ := by
  unfold jdisp at h ⊢
  unfold jobj
  split at h
  · rename_i c0 fs hσ
    simp only [List.lookup] at h
    by_cases e : c0 = ci
    · subst e
      simp only [beq_self_eq_true] at h
      exact Or.inl ⟨rfl, h⟩
    · rw [show (c0 == ci) = false by simpa using e] at h
      exact Or.inr h
  · exact h.elim
theorem jrun_dispC {b ci : Nat} {Pj : JP} {alts : List (Nat × JP)} {mc ms : Nat} {stk : List Value} {Qa : State → Outcome → State → Prop} (h1 : jRun p l e R s m args below meth c D S0 nL bc bs (jobj ci b Pj) mc ms pc L stk st Qa) (h2 : jRun p l e R s m args below meth c D S0 nL bc bs (jdisp b alts) mc ms pc L stk st Qa) : jRun p l e R s m args below meth c D S0 nL bc bs (jdisp b ((ci, Pj) :: alts)) mc ms pc L stk st Qa := by
  intro σ H locs cells slots ls h
  rcases jdisp_cons h with h | h
  · exact h1 σ H locs cells slots ls h
  · exact h2 σ H locs cells slots ls h
theorem jrun_U (K : JK p l R s m args meth c D S0 A0 nL cc own HG) {x y : MethodName} {bytes : ByteArray} {maxL n b ci idx mc ms hg : Nat} {ret : Option FieldType} {As stk : List Value} {Pj : JP} {Qc : Array Value → State → Outcome → State → Prop} (hM : Met l y (ws_ y bytes maxL ret) (jrm hg mc ms) (va_Pc (.ref b :: As) (jB D S0 Pj)) Qc mc ms (jA S0)) (mt : jMt y bytes maxL ret n) (hin : Cond.instanceMethod y ∈ lw_all) (hl : Cond.methodLink own idx x ∈ lw_all) (hsm : Cond.sameMethod x.cls x.cls x.name x.desc ∈ lw_all) (hdec : Cond.declares x ∈ lw_tbl) (hsel : Cond.selects y.cls x y ∈ lw_all) (hxc : x.cls ≠ "java/lang/invoke/MethodHandle" ∧ x.cls ≠ "java/lang/invoke/VarHandle") (hxd : x.desc = y.desc) (hci : (jcl[ci]?).map (fun r => r.1) = some y.cls) (hn : As.length = n) (hs : stk = As.reverse ++ .ref b :: st) (hst : (st.map fun v => v.category).sum ≤ 8) (hHG : hg + 1 ≤ HG) (hbc : mc ≤ bc ∧ ms ≤ bs) (d : decode cc pc = .ok (.invokevirtual idx, 3)) :
    jRun p l e R s m args below meth c D S0 nL bc bs (jobj ci b Pj) mc ms pc L stk st (Qc (Value.ref b :: As).toArray) := by
  intro σ H locs cells slots ls h1 h2 h3 h4 h5 h6
  obtain ⟨h0, h1⟩ := h1
  obtain ⟨r, hr1, hr2⟩ : ∃ r, jcl[ci]? = some r ∧ r.1 = y.cls := by
    cases hc : jcl[ci]? with
    | none => rw [hc] at hci; cases hci
    | some r => rw [hc] at hci; exact ⟨r, rfl, Option.some.inj hci⟩
  have hrec : ∃ cell : Cell, H[b]? = some cell ∧ cell.vm.isStatics = false ∧ s.vm.findClass y.cls = some cell.cls := by
    split at h0
    · rename_i c0 fs hσ
      subst h0
      rw [← hr2]
      exact va_recv (tys := jtys D.2) K.hK (h2.one hσ) (q0 := 0) hr1 rfl
    · exact h0.elim
  have hgi : GoodIn lw_all (va_wsU own idx y.cls x.cls x y (ws_ y bytes maxL ret)) := by
    intro w hw
    unfold va_wsU at hw
    rcases List.mem_append.mp hw with h | h
    · simp only [List.mem_cons, List.not_mem_nil, or_false] at h
      rcases h with rfl | rfl | rfl | rfl | rfl
      · exact lw_self _ hl
      · exact lw_self _ hsm
      · exact lw_self _ hsel
      · exact lw_self _ hin
      · exact lw_self _ mt.2.1
    · exact lw_meth mt.2.2.1 w h
  have hz : va_Nw (.declares ⟨x.cls, x.name, x.desc⟩) s := va_Nw.warmD K.hW (va_Nw.of rfl (K.hG.2.1 _ hdec))
  exact va_runU (As := As) (rest := st) ⟨K.hx, K.hb, K.hml, K.hown, K.hts⟩ hM (va_cwA n K.hts hgi rfl rfl rfl hz ⟨hxc.1, hxc.2, by rw [hxd]; exact mt.1.2.2⟩ (jroom K hHG mt.2.2.2)) ⟨jB.blind, hrec, fun U hU hW => ⟨rfl, jB.pre K h1 h2 h3 hU hW⟩⟩ rfl hn h6.1 hs (lv_room hst) d ⟨by omega, by omega⟩
/-! .. through an interface -/
def jRun5 (p : Program) (l : Launch) (e : Env) (R : Room) (s : State) (m : MethodId) (args : Array Value) (below : List Frame) (meth : Method) (c : Code) (D : jE) (S0 : State) (nL bc bs : Nat) (Pj : JP) (mc ms pc : Nat) (L : List (Option Value)) (stk st : List Value) (Qa : State → Outcome → State → Prop) : Prop :=
  ∀ (σ : Hp) (H : Heap) (locs : List Loc) (cells slots : Nat) (ls : Array Slot), Pj σ → jRep D S0.heap.size σ H → va_S (jA S0) s.heap H locs → cells + bc ≤ R.cells → slots + bs ≤ R.slots → jL ls nL L → va_Run5 p l e R s m args below meth c H locs cells slots mc ms (F0 m pc ls stk) st Qa (jA S0)
theorem jrun5_disp0 {b : Nat} {mc ms : Nat} {stk : List Value} {Qa : State → Outcome → State → Prop} : jRun5 p l e R s m args below meth c D S0 nL bc bs (jdisp b []) mc ms pc L stk st Qa := by
  intro σ H locs cells slots ls h1
  unfold jdisp at h1
  split at h1
  · simp only [List.lookup] at h1
  · exact h1.elim
theorem jrun5_dispC {b ci : Nat} {Pj : JP} {alts : List (Nat × JP)} {mc ms : Nat} {stk : List Value} {Qa : State → Outcome → State → Prop} (h1 : jRun5 p l e R s m args below meth c D S0 nL bc bs (jobj ci b Pj) mc ms pc L stk st Qa) (h2 : jRun5 p l e R s m args below meth c D S0 nL bc bs (jdisp b alts) mc ms pc L stk st Qa) : jRun5 p l e R s m args below meth c D S0 nL bc bs (jdisp b ((ci, Pj) :: alts)) mc ms pc L stk st Qa := by
  intro σ H locs cells slots ls h
  rcases jdisp_cons h with h | h
  · exact h1 σ H locs cells slots ls h
  · exact h2 σ H locs cells slots ls h
theorem jrun_F (K : JK p l R s m args meth c D S0 A0 nL cc own HG) {x y : MethodName} {bytes : ByteArray} {maxL n b ci idx count mc ms hg : Nat} {ret : Option FieldType} {As stk : List Value} {Pj : JP} {Qc : Array Value → State → Outcome → State → Prop} (hM : Met l y (ws_ y bytes maxL ret) (jrm hg mc ms) (va_Pc (.ref b :: As) (jB D S0 Pj)) Qc mc ms (jA S0)) (mt : jMt y bytes maxL ret n) (hin : Cond.instanceMethod y ∈ lw_all) (hl : Cond.methodLink own idx x ∈ lw_all) (hdec : Cond.declares x ∈ lw_tbl) (hface : Cond.interfaceMethod x.cls x.cls x.name x.desc ∈ lw_tbl) (hpub : Cond.publicMethod y ∈ lw_tbl) (hunh : Cond.unhidden y.cls x.name x.desc ∈ lw_tbl) (hcast : Cond.castable y.cls x.cls ∈ lw_tbl) (hsel : Cond.selects y.cls x y ∈ lw_all) (hxc : x.cls ≠ "java/lang/invoke/MethodHandle" ∧ x.cls ≠ "java/lang/invoke/VarHandle") (hxd : x.desc = y.desc) (hci : (jcl[ci]?).map (fun r => r.1) = some y.cls) (hn : As.length = n) (hs : stk = As.reverse ++ .ref b :: st) (hst : (st.map fun v => v.category).sum ≤ 8) (hHG : hg + 1 ≤ HG) (hbc : mc ≤ bc ∧ ms ≤ bs) (d : decode cc pc = .ok (.invokeinterface idx count, 5)) :
    jRun5 p l e R s m args below meth c D S0 nL bc bs (jobj ci b Pj) mc ms pc L stk st (Qc (Value.ref b :: As).toArray) := by
  intro σ H locs cells slots ls h1 h2 h3 h4 h5 h6
  obtain ⟨h0, h1⟩ := h1
  obtain ⟨r, hr1, hr2⟩ : ∃ r, jcl[ci]? = some r ∧ r.1 = y.cls := by
    cases hc : jcl[ci]? with
    | none => rw [hc] at hci; cases hci
    | some r => rw [hc] at hci; exact ⟨r, rfl, Option.some.inj hci⟩
  have hrec : ∃ cell : Cell, H[b]? = some cell ∧ cell.vm.isStatics = false ∧ s.vm.findClass y.cls = some cell.cls := by
    split at h0
    · rename_i c0 fs hσ
      subst h0
      rw [← hr2]
      exact va_recv (tys := jtys D.2) K.hK (h2.one hσ) (q0 := 0) hr1 rfl
    · exact h0.elim
  have hat : ClassAt s y.cls (D.1.1 ci) := by
    have := (K.hK.1 _ _ hr1).2
    rw [← hr2]
    exact this
  have hgi : GoodIn lw_all (va_wsF own idx y.cls x y (ws_ y bytes maxL ret)) := by
    intro w hw
    unfold va_wsF at hw
    rcases List.mem_append.mp hw with h | h
    · simp only [List.mem_cons, List.not_mem_nil, or_false] at h
      rcases h with rfl | rfl | rfl | rfl
      · exact lw_self _ hl
      · exact lw_self _ hsel
      · exact lw_self _ hin
      · exact lw_self _ mt.2.1
    · exact lw_meth mt.2.2.1 w h
  have hF : va_Fw y.cls x y s := va_Fw.moved hxc K.hW.alike (va_Fw.of (K.hG.2.1 _ hdec) (K.hG.2.1 _ hface) (K.hG.2.1 _ hpub) (K.hG.2.1 _ hunh) (K.hG.2.1 _ hcast))
  exact va_runF (As := As) (rest := st) hat ⟨K.hx, K.hb, K.hml, K.hown, K.hts⟩ hM (va_cwF n K.hts hgi rfl rfl rfl hF ⟨hxc.1, hxc.2, by rw [hxd]; exact mt.1.2.2⟩ (jroom K hHG mt.2.2.2)) ⟨jB.blind, hrec, fun U hU hW => ⟨rfl, jB.pre K h1 h2 h3 hU hW⟩⟩ rfl hn h6.1 hs (lv_room hst) d ⟨by omega, by omega⟩
theorem jr_callFi0 {stk : List Value} {Pj : JP} {Qj : Int32 → JP} {a : Array Value} (r : jRun5 p l e R s m args below meth c D S0 nL bc bs Pj 0 0 pc L stk st (va_Qi Qj (fun σ t => jRep D S0.heap.size σ t.heap) (jA S0) a)) (k : ∀ v, JR p l e R s m args below meth c Q D S0 nL bc bs (Qj v) (pc + 5) L (.int v :: st)) : JR p l e R s m args below meth c Q D S0 nL bc bs Pj pc L stk := by
  intro σ H locs cells slots ls h1 h2 h3 h4 h5 h6
  refine va_callFi (r σ H locs cells slots ls h1 h2 h3 h4 h5 h6) h3 (fun _ _ h => h) (fun _ h => h) fun v u t H1 locs1 ht hvm hp hB hz hk hS1 => ?_
  exact k v u H1 locs1 _ _ ls hp (by rw [← ht]; exact hB) hS1 (by omega) (by omega) h6
theorem lw_tblOf {w : Cond} (h : w ∈ lw_all) : w ∈ lw_tbl := (List.mem_filter.mp h).1
/-! arrays of arrays -/
theorem jm_new {E : CtlPost} {e : Env} {dd : Bool} {acts : List Action} {s : State} {c : ClassId} {k : Class} {comp : ClassId} {t : FieldType} {n : Nat} {v : Value} (hk : s.vm.classes[c]? = some k) (hkind : k.kind = .array comp t) (hfit : fits t v = true) (hlimit : ¬ n > e.platform.arrayLengthLimit) (hheap : ¬ n * componentBytes t > e.platform.maxHeapBytes) (h1 : s.heap.size < e.platform.maxCells) (h2 : s.slotsUsed + n ≤ e.platform.maxSlots) {QQ : Addr → Pre} (hq : ∀ acts', QQ s.heap.size dd acts' (s.pushCell { cls := c, slots := Array.replicate n v, vm := .none })) : wp (Jvm.newArray c n v) QQ E e dd acts s := by
  have hn : ¬ n > e.platform.maxSlots := by omega
  simp only [Jvm.newArray, Jvm.arrayFits, wp_bind', W.ask, W.ite, hlimit, if_false, W.theClass, hk, hkind, hheap, W.alloc, W.stop, wp_pure', Option.some.injEq, exists_eq_left', hn]
  refine ⟨h1, by simpa using h2, ?_, hq _⟩
  intro i w hw
  simp only [Array.getElem?_replicate] at hw
  split at hw
  · cases hw
    simp [State.fitsSlot, State.slotType?, hk, hkind, hfit]
  · cases hw
def jmI (p : Program) (l : Launch) (e : Env) (R : Room) (s : State) (m : MethodId) (args : Array Value) (below : List Frame) (meth : Method) (c : Code) (D : jE) (S0 : State) (vm₁ : Vm) (f : JFrame) (σ : Hp) (cells slots : Nat) (u : State) : Prop :=
  ∃ (T : State) (locs : List Loc), u = T.setTop f ∧ T.vm = vm₁ ∧ Stand p l e R s m args below meth c T locs cells slots ∧ jRep D S0.heap.size σ T.heap ∧ va_S (jA S0) s.heap T.heap locs
theorem jm_alloc {vm₁ : Vm} {f : JFrame} {σ : Hp} {cells slots : Nat} {u : State} (h : jmI p l e R s m args below meth c D S0 vm₁ f σ cells slots u) {t n : Nat} {x : vp_A} {v : Value} {k : Class} {comp : ClassId} {ty : FieldType} (hk : vm₁.classes[D.2 t]? = some k) (hkind : k.kind = .array comp ty) (hfit : fits ty v = true) (hcb : componentBytes ty ≤ 8) (hx : vp_cell (D.2 t) x = arrV (D.2 t) n (fun _ => v)) (hb : n ≤ 60000000) (h1 : cells + 1 ≤ R.cells) (h2 : slots + n ≤ R.slots) {QQ : Addr → Pre} {E : CtlPost} {dd : Bool} {acts : List Action} (hq : ∀ u' acts', jmI p l e R s m args below meth c D S0 vm₁ f (jall σ (.inr (t, x))) (cells + 1) (slots + n) u' → QQ σ.2 dd acts' u') : wp (Jvm.newArray (D.2 t) n v) QQ E e dd acts u := by
  obtain ⟨T, locs, rfl, rfl, X, hR, hS⟩ := h
  obtain ⟨r1, r2⟩ := X.roomAbove h1 h2
  have hlimit : ¬ n > e.platform.arrayLengthLimit := by rw [Launch.admits_arrayLengthLimit X.admits]; omega
  have hheap : ¬ n * componentBytes ty > e.platform.maxHeapBytes := by
    rw [Launch.admits_maxHeapBytes X.admits]
    show ¬ n * componentBytes ty > 536870912
    have := Nat.mul_le_mul hb hcb
    omega
  have ez : σ.2 = T.heap.size := hR.1
  refine jm_new (s := T.setTop f) hk hkind hfit hlimit hheap (by show T.heap.size < _; omega) (by show T.slotsUsed + _ ≤ _; exact r2) fun acts' => ?_
  show QQ T.heap.size _ _ _
  rw [← ez]
  refine hq _ _ ⟨T.pushCell { cls := D.2 t, slots := Array.replicate n v, vm := .none }, locs, rfl, rfl, by simpa using X.pushed { cls := D.2 t, slots := Array.replicate n v, vm := .none }, ?_, ?_⟩
  · refine hR.push (o := .inr (t, x)) (by show (T.heap.push _).size = _; rw [Array.size_push]) (fun q hq => by show (T.heap.push _)[q]? = _; rw [Array.getElem?_push, if_neg (Nat.ne_of_lt hq)]) ?_
    show (T.heap.push _)[T.heap.size]? = some (vp_cell _ _)
    rw [Array.getElem?_push_size, arrV_new]
    show some _ = some (vp_cell (D.2 t) x)
    rw [hx]
  · refine ⟨?_, fun q q1 q2 => ?_, hS.2.2⟩
    · show _ ≤ (T.heap.push _).size
      rw [Array.size_push]
      exact Nat.le_trans hS.1 (by omega)
    · show (T.heap.push _)[q]? = _
      rw [Array.getElem?_push, if_neg (Nat.ne_of_lt (Nat.lt_of_lt_of_le q1 hS.1))]
      exact hS.2.1 q q1 q2
theorem jm_write {vm₁ : Vm} {f : JFrame} {σ : Hp} {cells slots : Nat} {u : State} (h : jmI p l e R s m args below meth c D S0 vm₁ f σ cells slots u) {a t n i v : Nat} {g : Nat → Option Nat} {k : Class} {comp : ClassId} {ty : FieldType} (ha : σ.1 a = some (.inr (t, n, .inr (.inr (.inr (.inr g)))))) (hk : vm₁.classes[D.2 t]? = some k) (hkind : k.kind = .array comp ty) (hfit : fits ty (.ref v) = true) (hi : i < n) {QQ : Unit → Pre} {E : CtlPost} {dd : Bool} {acts : List Action} (hq : ∀ u' d' acts', jmI p l e R s m args below meth c D S0 vm₁ f (jset σ a (.inr (t, n, .inr (.inr (.inr (.inr (va_up g i (some v)))))))) cells slots u' → QQ () d' acts' u') : wp (Jvm.writeLoc a i (.ref v)) QQ E e dd acts u := by
  obtain ⟨T, locs, rfl, rfl, X, hR, hS⟩ := h
  have hcell : T.heap[a]? = some (vp_cell (D.2 t) (n, .inr (.inr (.inr (.inr g))))) := hR.one ha 0 _ rfl
  have hlt : a < T.heap.size := (Array.getElem?_eq_some_iff.mp hcell).1
  rw [W.writeLoc]
  refine ⟨_, hcell, (fun z => by cases z), by show i < (arrV _ _ _).slots.size; rw [arrV_size]; exact hi, ?_, ?_⟩
  · show State.fitsSlot _ (D.2 t) _ i (.ref v) = true
    have hk' : (T.setTop f).vm.classes[D.2 t]? = some k := hk
    simp [State.fitsSlot, State.slotType?, hk, hkind, hfit, vp_cell_q, arrV]
  · refine hq _ _ _ ⟨T.setCell a ((vp_cell (D.2 t) (n, .inr (.inr (.inr (.inr g))))).setSlot i (.ref v)), locs ++ [⟨a, i⟩], rfl, rfl, X.stored hcell i (.ref v), ?_, ?_⟩
    · refine hR.set ha (size_setCell ..) (fun q hq => heapAt_setCell_ne _ (Ne.symm hq)) ?_
      show (State.setCell _ _ _).heap[a]? = some (vp_cell _ _)
      rw [heapAt_setCell_self _ hlt, vp_cell_q, vp_cell_q, arrV_store]
      congr 2
      funext q
      by_cases hq : q = i
      · subst hq
        simp [updV, va_up, va_rf]
      · simp [updV, va_up, hq]
    · exact hS.put (size_setCell ..) (fun q hq => heapAt_setCell_ne _ (Ne.symm hq)) (hR.ge ha)
theorem jgrdA_0 (σ : Hp) (n k : Nat) : jall σ (.inr (11, n, .inr (.inr (.inr (.inr (fun _ => none)))))) = jgrdA σ n k 0 := by
  unfold jall jgrdA
  refine Prod.ext (funext fun b => ?_) (by show _ = σ.2 + 1 + 0; rfl)
  by_cases h : b = σ.2
  · simp [h]
  · simp only [if_neg h]
    rw [if_neg (by omega)]
theorem va_up_grd (z : Nat → Nat) (i : Nat) : va_up (fun j => if j < i then some (z j) else none) i (some (z i)) = fun j => if j < i + 1 then some (z j) else none := by
  funext j
  unfold va_up
  by_cases hj : j = i
  · subst hj
    simp
  · by_cases hj2 : j < i
    · simp [hj, hj2, Nat.lt_succ_of_lt hj2]
    · show (if j = i then _ else (if j < i then some (z j) else none)) = _
      rw [if_neg hj, if_neg hj2, if_neg (by omega)]
theorem jgrdA_s (σ : Hp) (n k i : Nat) : jset (jall (jgrdA σ n k i) (.inr (0, k, .inl (fun _ => 0)))) σ.2 (.inr (11, n, .inr (.inr (.inr (.inr (va_up (fun j => if j < i then some (σ.2 + 1 + j) else none) i (some (jgrdA σ n k i).2))))))) = jgrdA σ n k (i + 1) := by
  unfold jset jall jgrdA
  refine Prod.ext (funext fun b => ?_) (by show σ.2 + 1 + i + 1 = _; rfl)
  by_cases h : b = σ.2
  · simp only [if_pos h]
    exact congrArg (fun q => some (Sum.inr (11, n, Sum.inr (Sum.inr (Sum.inr (Sum.inr q)))))) (va_up_grd (fun j => σ.2 + 1 + j) i)
  · simp only [if_neg h]
    by_cases h2 : b = σ.2 + 1 + i
    · rw [if_pos h2, if_pos (by omega)]
    · rw [if_neg h2]
      by_cases h3 : σ.2 < b ∧ b ≤ σ.2 + i
      · rw [if_pos h3, if_pos (by omega)]
      · rw [if_neg h3, if_neg (by omega)]
theorem jm_range {n i : Nat} {x : Nat} {rest : List Nat} (h : x :: rest = List.range' i (n - i)) : x = i ∧ i < n ∧ rest = List.range' (i + 1) (n - (i + 1)) := by
  cases hz : n - i with
  | zero => rw [hz] at h; cases h
  | succ z =>
    rw [hz, List.range'_succ] at h
    cases h
    exact ⟨rfl, by omega, by rw [show n - (i + 1) = z by omega]⟩
theorem jm_make1 {vm₁ : Vm} {f : JFrame} {σ : Hp} {cells slots : Nat} {u : State} (h : jmI p l e R s m args below meth c D S0 vm₁ f σ cells slots u) {k : Nat} {k0 : Class} {c0 : ClassId} (h0 : vm₁.classes[D.2 0]? = some k0) (hk0 : k0.kind = .array c0 .int) (hb : k ≤ 60000000) (h1 : cells + 1 ≤ R.cells) (h2 : slots + k ≤ R.slots) {QQ : Addr → Pre} {E : CtlPost} {dd : Bool} {acts : List Action} (hq : ∀ u' d' acts', jmI p l e R s m args below meth c D S0 vm₁ f (jall σ (.inr (0, k, .inl (fun _ => 0)))) (cells + 1) (slots + k) u' → QQ σ.2 d' acts' u') : wp (Op.multianewarray.make (D.2 0) [nI k]) QQ E e dd acts u := by
  have hn : ¬ nI k < 0 := nI_pos (by omega)
  have hk : (nI k).toNatClampNeg = k := nI_clamp (by omega)
  obtain ⟨T, locs, e1, e2, X⟩ := h
  have hu : u.vm.classes[D.2 0]? = some k0 := by rw [e1]; show T.vm.classes[_]? = _; rw [e2]; exact h0
  rw [Op.multianewarray.make]
  simp only [wp_bind', W.ite, hn, if_false, wp_pure', W.theClass, hu, Option.some.injEq, exists_eq_left', hk0, hk]
  exact jm_alloc ⟨T, locs, e1, e2, X⟩ (t := 0) (x := (k, .inl (fun _ => 0))) h0 hk0 rfl (by decide) rfl hb h1 h2 (fun u' acts' h => hq u' _ acts' h)
theorem jm_make2 {vm₁ : Vm} {f : JFrame} {σ : Hp} {cells slots : Nat} {u : State} (h : jmI p l e R s m args below meth c D S0 vm₁ f σ cells slots u) {n k : Nat} {k0 k1 : Class} {c0 : ClassId} (h0 : vm₁.classes[D.2 0]? = some k0) (hk0 : k0.kind = .array c0 .int) (h11 : vm₁.classes[D.2 11]? = some k1) (hk1 : k1.kind = .array (D.2 0) (.array .int)) (hn1 : 1 ≤ n) (hb1 : n ≤ 60000000) (hb : k ≤ 60000000) (h1 : cells + (1 + n) ≤ R.cells) (h2 : slots + (n + n * k) ≤ R.slots) {QQ : Addr → Pre} {E : CtlPost} {dd : Bool} {acts : List Action} (hq : ∀ u' d' acts', jmI p l e R s m args below meth c D S0 vm₁ f (jgrid2 σ n k) (cells + (1 + n)) (slots + (n + n * k)) u' → QQ σ.2 d' acts' u') : wp (Op.multianewarray.make (D.2 11) [nI n, nI k]) QQ E e dd acts u := by
  have hn : ¬ nI n < 0 := nI_pos (by omega)
  have hkn : (nI n).toNatClampNeg = n := nI_clamp (by omega)
  have hz : (nI n == 0) = false := by
    rw [beq_eq_false_iff_ne]
    intro q
    have := congrArg Int32.toNatClampNeg q
    rw [hkn] at this
    have h3 : (0 : Int32).toNatClampNeg = 0 := rfl
    omega
  have hu : u.vm.classes[D.2 11]? = some k1 := by
    obtain ⟨T, locs, e1, e2, X⟩ := h
    rw [e1]; show T.vm.classes[_]? = _; rw [e2]; exact h11
  rw [Op.multianewarray.make]
  simp only [wp_bind', W.ite, hn, if_false, wp_pure', W.theClass, hu, Option.some.injEq, exists_eq_left', hk1, hkn]
  refine jm_alloc h (t := 11) (x := (n, .inr (.inr (.inr (.inr (fun _ => none)))))) h11 hk1 rfl (by decide) rfl hb1 (by omega) (by omega) (fun u' acts' h => ?_)
  simp only [hz, Bool.false_eq_true, if_false, wp_bind', W.ite, wp_pure']
  simp only [Std.Legacy.Range.forIn_eq_forIn_range']
  have hsz : Std.Legacy.Range.size [0:n] = n := by simp [Std.Legacy.Range.size]
  rw [hsz]
  refine wp_forIn_inv (fun rest u' => ∃ i, i ≤ n ∧ rest = List.range' i (n - i) ∧ jmI p l e R s m args below meth c D S0 vm₁ f (jgrdA σ n k i) (cells + (1 + i)) (slots + (n + i * k)) u') _ _ ⟨0, Nat.zero_le _, rfl, ?_⟩ ?_ ?_
  · rw [jgrdA_0 σ n k] at h
    simpa using h
  · rintro x rest u1 d1 acts1 Q1 ⟨i, hi, hr, hI⟩ hnext
    obtain ⟨ex, hlt, rfl⟩ := jm_range hr
    subst x
    simp only [wp_bind']
    have hm : (i + 1) * k ≤ n * k := Nat.mul_le_mul_right k hlt
    rw [Nat.add_mul, Nat.one_mul] at hm
    refine jm_make1 hI h0 hk0 hb (by omega) (by omega) fun u2 d2 acts2 h2 => ?_
    rw [wp_bind']
    refine jm_write h2 (a := σ.2) (t := 11) (n := n) (g := fun j => if j < i then some (σ.2 + 1 + j) else none) ?_ h11 hk1 rfl hlt fun u3 d3 acts3 h3 => ?_
    · show (if σ.2 = (jgrdA σ n k i).2 then _ else (jgrdA σ n k i).1 σ.2) = _
      rw [if_neg (by show ¬ σ.2 = σ.2 + 1 + i; omega)]
      show (if σ.2 = σ.2 then _ else _) = _
      rw [if_pos rfl]
    · rw [jgrdA_s] at h3
      simp only [wp_pure']
      refine hnext _ _ _ ⟨i + 1, hlt, rfl, ?_⟩
      rw [Nat.add_mul, Nat.one_mul]
      have z1 : cells + (1 + i) + 1 = cells + (1 + (i + 1)) := by omega
      have z2 : slots + (n + i * k) + k = slots + (n + (i * k + k)) := by omega
      rw [z1, z2] at h3
      exact h3
  · rintro u1 d1 acts1 ⟨i, hi, hr, hI⟩
    have : i = n := by
      have := congrArg List.length hr
      simp at this
      omega
    subst this
    exact hq _ _ _ hI
theorem jgrdB_0 (σ : Hp) (n1 n2 k : Nat) : jall σ (.inr (12, n1, .inr (.inr (.inr (.inr (fun _ => none)))))) = jgrdB σ n1 n2 k 0 := by
  unfold jall jgrdB
  refine Prod.ext (funext fun b => ?_) (by show _ = σ.2 + 1 + 0 * (1 + n2); omega)
  by_cases h : b = σ.2
  · simp [h]
  · simp only [if_neg h]
    rw [if_neg (by omega)]
theorem jgrdB_s (σ : Hp) (n1 n2 k i : Nat) : jset (jgrid2 (jgrdB σ n1 n2 k i) n2 k) σ.2 (.inr (12, n1, .inr (.inr (.inr (.inr (va_up (fun j => if j < i then some (σ.2 + 1 + j * (1 + n2)) else none) i (some (jgrdB σ n1 n2 k i).2))))))) = jgrdB σ n1 n2 k (i + 1) := by
  have em : (i + 1) * (1 + n2) = i * (1 + n2) + (1 + n2) := by rw [Nat.add_mul, Nat.one_mul]
  unfold jset jgrid2 jgrdA jgrdB
  refine Prod.ext (funext fun b => ?_) (by show σ.2 + 1 + i * (1 + n2) + 1 + n2 = σ.2 + 1 + (i + 1) * (1 + n2); omega)
  by_cases h : b = σ.2
  · simp only [if_pos h]
    exact congrArg (fun q => some (Sum.inr (12, n1, Sum.inr (Sum.inr (Sum.inr (Sum.inr q)))))) (va_up_grd (fun j => σ.2 + 1 + j * (1 + n2)) i)
  · simp only [if_neg h]
    by_cases h2 : b = σ.2 + 1 + i * (1 + n2)
    · rw [if_pos h2, if_pos (by omega)]
      have e : (b - σ.2 - 1) % (1 + n2) = 0 := by
        rw [h2, show σ.2 + 1 + i * (1 + n2) - σ.2 - 1 = i * (1 + n2) by omega]
        exact Nat.mul_mod_left _ _
      rw [if_pos e, h2]
    · rw [if_neg h2]
      by_cases h3 : σ.2 + 1 + i * (1 + n2) < b ∧ b ≤ σ.2 + 1 + i * (1 + n2) + n2
      · rw [if_pos h3, if_pos (by omega)]
        have e : ¬ (b - σ.2 - 1) % (1 + n2) = 0 := by
          have e1 : b - σ.2 - 1 = (b - (σ.2 + 1 + i * (1 + n2))) + i * (1 + n2) := by omega
          rw [e1, Nat.add_mul_mod_self_right, Nat.mod_eq_of_lt (by omega)]
          omega
        rw [if_neg e]
      · rw [if_neg h3]
        by_cases h4 : σ.2 < b ∧ b ≤ σ.2 + i * (1 + n2)
        · rw [if_pos h4, if_pos (show σ.2 < b ∧ b ≤ σ.2 + (i + 1) * (1 + n2) by omega)]
        · rw [if_neg h4, if_neg (show ¬ (σ.2 < b ∧ b ≤ σ.2 + (i + 1) * (1 + n2)) by omega)]
theorem jm_make3 {vm₁ : Vm} {f : JFrame} {σ : Hp} {cells slots : Nat} {u : State} (h : jmI p l e R s m args below meth c D S0 vm₁ f σ cells slots u) {n1 n k : Nat} {k0 k1 k2 : Class} {c0 : ClassId} (h0 : vm₁.classes[D.2 0]? = some k0) (hk0 : k0.kind = .array c0 .int) (h11 : vm₁.classes[D.2 11]? = some k1) (hk1 : k1.kind = .array (D.2 0) (.array .int)) (h12 : vm₁.classes[D.2 12]? = some k2) (hk2 : k2.kind = .array (D.2 11) (.array (.array .int))) (hn0 : 1 ≤ n1) (hn1 : 1 ≤ n) (hb0 : n1 ≤ 60000000) (hb1 : n ≤ 60000000) (hb : k ≤ 60000000) (h1 : cells + (1 + n1 * (1 + n)) ≤ R.cells) (h2 : slots + (n1 + n1 * (n + n * k)) ≤ R.slots) {QQ : Addr → Pre} {E : CtlPost} {dd : Bool} {acts : List Action} (hq : ∀ u' d' acts', jmI p l e R s m args below meth c D S0 vm₁ f (jgrid3 σ n1 n k) (cells + (1 + n1 * (1 + n))) (slots + (n1 + n1 * (n + n * k))) u' → QQ σ.2 d' acts' u') : wp (Op.multianewarray.make (D.2 12) [nI n1, nI n, nI k]) QQ E e dd acts u := by
  have hn : ¬ nI n1 < 0 := nI_pos (by omega)
  have hkn : (nI n1).toNatClampNeg = n1 := nI_clamp (by omega)
  have hz : (nI n1 == 0) = false := by
    rw [beq_eq_false_iff_ne]
    intro q
    have := congrArg Int32.toNatClampNeg q
    rw [hkn] at this
    have h3 : (0 : Int32).toNatClampNeg = 0 := rfl
    omega
  have hu : u.vm.classes[D.2 12]? = some k2 := by
    obtain ⟨T, locs, e1, e2, X⟩ := h
    rw [e1]; show T.vm.classes[_]? = _; rw [e2]; exact h12
  rw [Op.multianewarray.make]
  simp only [wp_bind', W.ite, hn, if_false, wp_pure', W.theClass, hu, Option.some.injEq, exists_eq_left', hk2, hkn]
  refine jm_alloc h (t := 12) (x := (n1, .inr (.inr (.inr (.inr (fun _ => none)))))) h12 hk2 rfl (by decide) rfl hb0 (by omega) (by omega) (fun u' acts' h => ?_)
  simp only [hz, Bool.false_eq_true, if_false, wp_bind', W.ite, wp_pure']
  simp only [Std.Legacy.Range.forIn_eq_forIn_range']
  have hsz : Std.Legacy.Range.size [0:n1] = n1 := by simp [Std.Legacy.Range.size]
  rw [hsz]
  refine wp_forIn_inv (fun rest u' => ∃ i, i ≤ n1 ∧ rest = List.range' i (n1 - i) ∧ jmI p l e R s m args below meth c D S0 vm₁ f (jgrdB σ n1 n k i) (cells + (1 + i * (1 + n))) (slots + (n1 + i * (n + n * k))) u') _ _ ⟨0, Nat.zero_le _, rfl, ?_⟩ ?_ ?_
  · rw [jgrdB_0 σ n1 n k] at h
    simpa using h
  · rintro x rest u1 d1 acts1 Q1 ⟨i, hi, hr, hI⟩ hnext
    obtain ⟨ex, hlt, rfl⟩ := jm_range hr
    subst x
    simp only [wp_bind']
    have hm : (i + 1) * (n + n * k) ≤ n1 * (n + n * k) := Nat.mul_le_mul_right _ hlt
    have hm2 : (i + 1) * (1 + n) ≤ n1 * (1 + n) := Nat.mul_le_mul_right _ hlt
    have em1 : (i + 1) * (n + n * k) = i * (n + n * k) + (n + n * k) := by rw [Nat.add_mul, Nat.one_mul]
    have em2 : (i + 1) * (1 + n) = i * (1 + n) + (1 + n) := by rw [Nat.add_mul, Nat.one_mul]
    rw [em1] at hm
    rw [em2] at hm2
    refine jm_make2 hI h0 hk0 h11 hk1 hn1 hb1 hb (by omega) (by omega) fun u2 d2 acts2 h2 => ?_
    rw [wp_bind']
    refine jm_write h2 (a := σ.2) (t := 12) (n := n1) (g := fun j => if j < i then some (σ.2 + 1 + j * (1 + n)) else none) ?_ h12 hk2 rfl hlt fun u3 d3 acts3 h3 => ?_
    · show (if σ.2 = (jgrdB σ n1 n k i).2 then _ else (if (jgrdB σ n1 n k i).2 < σ.2 ∧ _ then _ else (jgrdB σ n1 n k i).1 σ.2)) = _
      have e2 : (jgrdB σ n1 n k i).2 = σ.2 + 1 + i * (1 + n) := rfl
      rw [e2, if_neg (by omega), if_neg (by omega)]
      show (if σ.2 = σ.2 then _ else _) = _
      rw [if_pos rfl]
    · rw [jgrdB_s] at h3
      simp only [wp_pure']
      refine hnext _ _ _ ⟨i + 1, hlt, rfl, ?_⟩
      rw [em1, em2]
      have z1 : cells + (1 + i * (1 + n)) + (1 + n) = cells + (1 + (i * (1 + n) + (1 + n))) := by omega
      have z2 : slots + (n1 + i * (n + n * k)) + (n + n * k) = slots + (n1 + (i * (n + n * k) + (n + n * k))) := by omega
      rw [z1, z2] at h3
      exact h3
  · rintro u1 d1 acts1 ⟨i, hi, hr, hI⟩
    have : i = n1 := by
      have := congrArg List.length hr
      simp at this
      omega
    subst this
    exact hq _ _ _ hI
/-- the instruction's end, known -/
theorem jm_instr {p : Program} {e : Env} {below : List Frame} {T : State} {m : MethodId} {c : Code} (h : At T m c below) (hexec : p.tables.exec = Jvm.exec) {f : JFrame} (hf : f.method = m) {index dims : Nat} (hd : decode c.code f.pc = .ok (.multianewarray index dims, 4)) {PP : State → Prop} (hw : wp (Op.multianewarray.sem index dims) (fun _ _ _ s1 => PP s1) (fun _ _ _ => False) e false [] (T.setTop f)) :
    ∃ s₁, PP s₁ ∧ ∀ target, (∀ acts, Steps p.tables e below (afterInstr e 4 (.ok () s₁ acts)).1 target) → Steps p.tables e below (T.setTop f) target := by
  subst hf
  have hw2 := (wpRun_iff_run (Op.multianewarray.sem index dims) (fun _ s1 _ => PP s1) (fun _ _ _ => False) e (T.setTop f)).mp hw
  cases hr : (Op.multianewarray.sem index dims).run e (T.setTop f) with
  | ok a s₁ acts =>
    rw [hr] at hw2
    refine ⟨s₁, hw2, fun target hrest => ?_⟩
    refine Steps.instr (c := c) h ?_
    rw [hd]
    show wpRun (p.tables.exec _) _ _ _ _
    rw [hexec]
    show wpRun (Op.multianewarray.sem index dims) _ _ _ _
    rw [wpRun_iff_run, hr]
    exact hrest
  | ctl x s₁ acts =>
    rw [hr] at hw2
    cases x <;> exact hw2.elim
theorem jm_sem (K : JK p l R s m args meth c D S0 A0 nL cc own HG) {dims index t : Nat} {C : String} {cn : List Nat} (hdim : cn.length = dims) (hlink : Cond.classLink own index C ∈ lw_all) (hC : S0.vm.findClass C = some (D.2 t)) {mc ms : Nat} (d : decode cc pc = .ok (.multianewarray index dims, 4)) {σ σ1 : Hp} {H : Heap} {locs : List Loc} {cells slots : Nat} {ls : Array Slot} (h2 : jRep D S0.heap.size σ H) (h3 : va_S (jA S0) s.heap H locs)
    (hmake : ∀ (vm₁ : Vm) (f : JFrame) (u : State) (QQ : Addr → Pre) (E : CtlPost) (dd : Bool) (acts : List Action), S0.vm.Alike vm₁ → jmI p l e R s m args below meth c D S0 vm₁ f σ cells slots u → (∀ u' d' acts', jmI p l e R s m args below meth c D S0 vm₁ f σ1 (cells + mc) (slots + ms) u' → QQ σ.2 d' acts' u') → wp (Op.multianewarray.make (D.2 t) (cn.map nI)) QQ E e dd acts u)
    (k : ∀ (H1 : Heap) (locs1 : List Loc), jRep D S0.heap.size σ1 H1 → va_S (jA S0) s.heap H1 locs1 → W p l e R s m args below meth c H1 locs1 (cells + mc) (slots + ms) Q (F0 m (pc + 4) ls (.ref σ.2 :: st))) : W p l e R s m args below meth c H locs cells slots Q (F0 m pc ls (((cn.map nI).map Value.int).reverse ++ st)) := by
  intro T hT X
  subst hT
  have hpl : e.platform.magicAccessors = ({} : Platform).magicAccessors := by rw [X.admits.platform]
  obtain ⟨cc', hfcc, hcl⟩ := Cond.classLink_spec K.hown (K.hts _ hlink) e.platform hpl
  have hfc : s.vm.findClass C = some (D.2 t) := by rw [K.hW.alike.findClass]; exact hC
  cases hfc.symm.trans hfcc
  obtain ⟨hg₁, hwarm₁, hready₁⟩ := State.classEntry (e := e) X.warmed hcl
  generalize hvm : T.vm.noted m.cls index (.cls (D.2 t)) = vm₁ at hg₁ hwarm₁ hready₁
  have hal : S0.vm.Alike vm₁ := (State.WarmedH.trans K.hW hwarm₁).alike
  have X₁ := X.noted hwarm₁
  have hw : wp (Op.multianewarray.sem index dims) (fun _ _ _ s1 => ∃ T1 locs1, s1 = T1.setTop { F0 m pc ls (((cn.map nI).map Value.int).reverse ++ st) with stack := .ref σ.2 :: st } ∧ Stand p l e R s m args below meth c T1 locs1 (cells + mc) (slots + ms) ∧ jRep D S0.heap.size σ1 T1.heap ∧ va_S (jA S0) s.heap T1.heap locs1) (fun _ _ _ => False) e false [] (T.setTop (F0 m pc ls (((cn.map nI).map Value.int).reverse ++ st))) := by
    unfold Op.multianewarray.sem
    simp only [wp_bind']
    rw [W.resolveClassAt_links (t := T.setTop (F0 m pc ls (((cn.map nI).map Value.int).reverse ++ st))) (State.method?_setTop _ X.here.top) hg₁]
    have hlen : dims = ((cn.map nI).map Value.int).length := by simp [hdim]
    rw [hlen]
    rw [wp_bind']
    show wp (Jvm.popN _) _ _ _ _ _ ((T.setVm vm₁).setTop _)
    rw [popN_top (s := T.setVm vm₁) X.here.top rfl]
    have hmap : ∀ (zs : List Int32) (QQ : List Int32 → Pre) (E : CtlPost) (dd : Bool) (acts : List Action) (u : State), QQ zs dd acts u → wp ((zs.map Value.int).mapM fun x => (match x with | .int n => Pure.pure n | _ => illTyped "multianewarray: an int count was expected" : Sem Int32)) QQ E e dd acts u := by
      intro zs
      induction zs with
      | nil => intro QQ E dd acts u h; simpa using h
      | cons z zs ih =>
        intro QQ E dd acts u h
        simp only [List.map_cons, List.mapM_cons, wp_bind', wp_pure']
        exact ih (fun a => QQ (z :: a)) _ _ _ _ h
    rw [wp_bind']
    refine hmap _ _ _ _ _ _ ?_
    rw [wp_bind']
    refine hmake vm₁ _ _ _ _ _ _ hal ⟨T.setVm vm₁, locs, rfl, rfl, X₁, h2, h3⟩ fun u' d' acts' hu => ?_
    obtain ⟨T1, locs1, rfl, e2, X1, r1, r2⟩ := hu
    simp only [W.mark, W.pushRef, wp_bind', State.topJava?_setTop' _ X1.here.top, Option.some.injEq, exists_eq_left', State.setTop_setTop]
    exact ⟨T1, locs1, rfl, X1, r1, r2⟩
  obtain ⟨s₁, ⟨T1, locs1, rfl, X1, r1, r2⟩, hst⟩ := jm_instr X.here K.hx rfl (by rw [K.hb]; exact d) hw
  obtain ⟨t1, a1, b1⟩ := k T1.heap locs1 r1 r2 T1 rfl X1
  exact ⟨t1, hst t1 fun acts => by rw [afterInstr_ok]; exact a1, b1⟩
theorem jm_tab (K : JK p l R s m args meth c D S0 A0 nL cc own HG) {vm₁ : Vm} (ha : S0.vm.Alike vm₁) : ∃ (k0 k1 k2 : Class) (c0 : ClassId), vm₁.classes[D.2 0]? = some k0 ∧ k0.kind = .array c0 .int ∧ vm₁.classes[D.2 11]? = some k1 ∧ k1.kind = .array (D.2 0) (.array .int) ∧ vm₁.classes[D.2 12]? = some k2 ∧ k2.kind = .array (D.2 11) (.array (.array .int)) ∧ S0.vm.findClass "[[I" = some (D.2 11) ∧ S0.vm.findClass "[[[I" = some (D.2 12) := by
  have hK := K.hG.2.2.1.2
  have f0 : S0.vm.findClass "[I" = some (D.2 0) := (hK 0 _ (jtys_at (d := D.2) (t := 0) (by omega))).2
  have f1 : S0.vm.findClass "[[I" = some (D.2 11) := (hK 11 _ (jtys_at (d := D.2) (t := 11) (by omega))).2
  have f2 : S0.vm.findClass "[[[I" = some (D.2 12) := (hK 12 _ (jtys_at (d := D.2) (t := 12) (by omega))).2
  have ar := (hK 0 _ (jtys_at (d := D.2) (t := 0) (by omega))).1 0 (fun _ => .null)
  obtain ⟨z0, z1, z2, z3, z4, z5, z6, z7⟩ := arrayOverA_spec (K.hG.2.1 _ q408)
  obtain ⟨y0, y1, y2, y3, y4, y5, y6, y7⟩ := arrayOverA_spec (K.hG.2.1 _ q410)
  cases f0.symm.trans z3
  cases f1.symm.trans y3
  cases f1.symm.trans z7
  cases f2.symm.trans y7
  obtain ⟨-, k0, h0, c0, e0⟩ := ar
  obtain ⟨k0', g0, q0⟩ := ha.2.2 _ _ h0
  obtain ⟨k1', g1, q1⟩ := ha.2.2 _ _ z5
  obtain ⟨k2', g2, q2⟩ := ha.2.2 _ _ y5
  exact ⟨k0', k1', k2', c0, g0, by rw [q0]; exact e0, g1, by rw [q1]; exact z6, g2, by rw [q2]; exact y6, f1, f2⟩
theorem jr_newM2 (K : JK p l R s m args meth c D S0 A0 nL cc own HG) {n k index : Nat} {f : Nat → JP} (hlink : Cond.classLink own index "[[I" ∈ lw_all) (hb : 1 ≤ n ∧ n ≤ 60000000 ∧ k ≤ 60000000) (d : decode cc pc = .ok (.multianewarray index 2, 4)) (kk : ∀ v, JR p l e R s m args below meth c Q D S0 nL (bc - (1 + n)) (bs - (n + n * k)) (f v) (pc + 4) L (.ref v :: st)) : JR p l e R s m args below meth c Q D S0 nL bc bs (jnewM2 n k bc bs f) pc L (.int (nI k) :: .int (nI n) :: st) := by
  intro σ H locs cells slots ls h1 h2 h3 h4 h5 h6
  obtain ⟨b1, b2, h1⟩ := h1
  refine jm_sem K (cn := [n, k]) (t := 11) rfl hlink (jm_tab K (State.WarmedH.alike K.hW)).choose_spec.choose_spec.choose_spec.choose_spec.2.2.2.2.2.2.1 (mc := 1 + n) (ms := n + n * k) d h2 h3 (σ1 := jgrid2 σ n k) (fun vm₁ f u QQ E dd acts hal hI hq => ?_) (fun H1 locs1 r1 r2 => kk _ _ H1 locs1 _ _ ls h1 r1 r2 (by omega) (by omega) h6)
  obtain ⟨k0, k1, k2, c0, g0, e0, g1, e1, -⟩ := jm_tab K hal
  exact jm_make2 hI g0 e0 g1 e1 hb.1 hb.2.1 hb.2.2 (by omega) (by omega) hq
theorem jr_newM3 (K : JK p l R s m args meth c D S0 A0 nL cc own HG) {n1 n k index : Nat} {f : Nat → JP} (hlink : Cond.classLink own index "[[[I" ∈ lw_all) (hb : 1 ≤ n1 ∧ n1 ≤ 60000000 ∧ 1 ≤ n ∧ n ≤ 60000000 ∧ k ≤ 60000000) (d : decode cc pc = .ok (.multianewarray index 3, 4)) (kk : ∀ v, JR p l e R s m args below meth c Q D S0 nL (bc - (1 + n1 * (1 + n))) (bs - (n1 + n1 * (n + n * k))) (f v) (pc + 4) L (.ref v :: st)) : JR p l e R s m args below meth c Q D S0 nL bc bs (jnewM3 n1 n k bc bs f) pc L (.int (nI k) :: .int (nI n) :: .int (nI n1) :: st) := by
  intro σ H locs cells slots ls h1 h2 h3 h4 h5 h6
  obtain ⟨b1, b2, h1⟩ := h1
  refine jm_sem K (cn := [n1, n, k]) (t := 12) rfl hlink (jm_tab K (State.WarmedH.alike K.hW)).choose_spec.choose_spec.choose_spec.choose_spec.2.2.2.2.2.2.2 (mc := 1 + n1 * (1 + n)) (ms := n1 + n1 * (n + n * k)) d h2 h3 (σ1 := jgrid3 σ n1 n k) (fun vm₁ f u QQ E dd acts hal hI hq => ?_) (fun H1 locs1 r1 r2 => kk _ _ H1 locs1 _ _ ls h1 r1 r2 (by omega) (by omega) h6)
  obtain ⟨k0, k1, k2, c0, g0, e0, g1, e1, g2, e2, -⟩ := jm_tab K hal
  exact jm_make3 hI g0 e0 g1 e1 g2 e2 hb.1 hb.2.2.1 hb.2.1 hb.2.2.2.1 hb.2.2.2.2 (by omega) (by omega) hq
/-! the law's script, and its start -/
def jscr (Ln : Nat) (xs : Nat → Int32) (i : Int32) (f : Int32 → JP) : JP := jand (vp_in i Ln) (f (xs i.toNatClampNeg))
theorem jX_cell {b Ln : Nat} {xs : Nat → Int32} {H : Heap} {locs : List Loc} (hX : va_X b Ln xs s s.heap ∧ b < S0.heap.size ∧ S0.heap.size ≤ s.heap.size) (h3 : va_S (jA S0) s.heap H locs) : va_X b Ln xs s H := hX.1.kept (h3.2.1 b (Nat.lt_of_lt_of_le hX.2.1 hX.2.2) (fun z => absurd hX.2.1 (Nat.not_lt.mpr z)))
theorem jr_scr (K : JK p l R s m args meth c D S0 A0 nL cc own HG) {b Ln : Nat} {xs : Nat → Int32} {i : Int32} {f : Int32 → JP} (hX : va_X b Ln xs s s.heap ∧ b < S0.heap.size ∧ S0.heap.size ≤ s.heap.size) (d : decode cc pc = .ok (.iaload, 1)) (k : ∀ v, JR p l e R s m args below meth c Q D S0 nL bc bs (f v) (pc + 1) L (.int v :: st)) : JR p l e R s m args below meth c Q D S0 nL bc bs (jscr Ln xs i f) pc L (.int i :: .ref b :: st) := by
  refine jr_and fun hin => ?_
  intro σ H locs cells slots ls h1 h2 h3 h4 h5 h6
  obtain ⟨cell, q1, q2, q3, q4, q5⟩ := jX_cell hX h3
  have hlt : i.toNatClampNeg < Ln := Nat.not_le.mp fun q => hin (Or.inr q)
  have hin' : ¬ (i < 0 ∨ cell.slots.size ≤ i.toNatClampNeg) := by
    rw [q4]
    exact hin
  exact W.iald (v := .int (xs i.toNatClampNeg)) K.hx K.hb q1 q2 q3 hin' (q5 _ hlt) rfl rfl d (k _ σ H locs cells slots ls h1 h2 h3 h4 h5 h6)
theorem jr_scl (K : JK p l R s m args meth c D S0 A0 nL cc own HG) {b Ln : Nat} {xs : Nat → Int32} (hX : va_X b Ln xs s s.heap ∧ b < S0.heap.size ∧ S0.heap.size ≤ s.heap.size) (d : decode cc pc = .ok (.arraylength, 1)) (k : JR p l e R s m args below meth c Q D S0 nL bc bs P (pc + 1) L (.int (nI Ln) :: st)) : JR p l e R s m args below meth c Q D S0 nL bc bs P pc L (.ref b :: st) := by
  intro σ H locs cells slots ls h1 h2 h3 h4 h5 h6
  obtain ⟨cell, q1, q2, q3, q4, q5⟩ := jX_cell hX h3
  exact W.alen (n := nI Ln) K.hx K.hb q1 q2 (by rw [q4]; rfl) rfl rfl d (k σ H locs cells slots ls h1 h2 h3 h4 h5 h6)
theorem jcl_ok : ∀ z ∈ jcl, (∀ w ∈ u_ws z.1 z.2.1 z.2.2, w ∈ lw_all) ∧ Cond.instantiable z.1 z.2.2 ∈ lw_all := List.forall_mem_cons.mpr ⟨⟨in_X1, q139⟩, List.forall_mem_cons.mpr ⟨⟨in_X1, q139⟩, List.forall_mem_cons.mpr ⟨⟨in_X2, q147⟩, List.forall_mem_cons.mpr ⟨⟨in_j0 RX4, q163⟩, List.forall_mem_cons.mpr ⟨⟨in_j0 RX4, q163⟩, List.forall_mem_cons.mpr ⟨⟨in_j0 RX5, q174⟩, List.forall_mem_cons.mpr ⟨⟨in_X6, q181⟩, List.forall_mem_cons.mpr ⟨⟨in_X7, q289⟩, List.forall_mem_cons.mpr ⟨⟨in_X8, q297⟩, List.forall_mem_cons.mpr ⟨⟨in_X9, q326⟩, List.forall_mem_cons.mpr ⟨⟨in_X10, q400⟩, List.forall_mem_cons.mpr ⟨⟨in_X11, q1468⟩, List.forall_mem_cons.mpr ⟨⟨in_X12, q847⟩, List.forall_mem_cons.mpr ⟨⟨in_X13, q918⟩, List.forall_mem_cons.mpr ⟨⟨in_X14, q933⟩, List.forall_mem_cons.mpr ⟨⟨in_X15, q944⟩, List.forall_mem_cons.mpr ⟨⟨in_X16, q964⟩, List.forall_mem_cons.mpr ⟨⟨in_X17, q971⟩, List.forall_mem_cons.mpr ⟨⟨in_X18, q983⟩, List.forall_mem_cons.mpr ⟨⟨in_X19, q998⟩, List.forall_mem_cons.mpr ⟨⟨in_X20, q1017⟩, List.forall_mem_cons.mpr ⟨⟨in_X21, q1030⟩, List.forall_mem_cons.mpr ⟨⟨in_X22, q1140⟩, List.forall_mem_cons.mpr ⟨⟨in_X23, q1250⟩, List.forall_mem_cons.mpr ⟨⟨in_X24, q1344⟩, List.forall_mem_nil _⟩⟩⟩⟩⟩⟩⟩⟩⟩⟩⟩⟩⟩⟩⟩⟩⟩⟩⟩⟩⟩⟩⟩⟩⟩
theorem jA_cls {ty : FieldType} {A0 : Array Value} {S0 : State} (hp : ∀ C, ty ≠ .object C) (h : (Cond.arrayClass ty).before A0 S0 = true) : ∃ cA : ClassId, ArrOfT S0 cA ty ∧ va_RA S0 cA ty := by
  obtain ⟨cA, k, comp, h1, h2, h3⟩ := Cond.arrayClass_spec h
  refine ⟨cA, fun n z => ⟨(fun k h => by cases h), k, h2, comp, h3⟩, ?_⟩
  cases ty with
  | object C => exact absurd rfl (hp C)
  | _ => exact h1
theorem jA_obj {C : String} {A0 : Array Value} {S0 : State} (h : (Cond.arrayOver (.object C)).before A0 S0 = true) : ∃ cA : ClassId, ArrOfT S0 cA (.object C) ∧ va_RA S0 cA (.object C) := by
  obtain ⟨comp, c, k, h1, h2, h3, h4, h5⟩ := Cond.arrayOver_spec h
  exact ⟨c, fun n z => ⟨(fun k h => by cases h), k, h3, comp, h4⟩, ⟨k, comp, h3, h4, h1, h5⟩⟩
theorem jA_arr {t : FieldType} {A0 : Array Value} {S0 : State} (h : (Cond.arrayOver (.array t)).before A0 S0 = true) : ∃ cA : ClassId, ArrOfT S0 cA (.array t) ∧ va_RA S0 cA (.array t) := by
  obtain ⟨comp, c, k, h1, h2, h3, h4, h5⟩ := arrayOverA_spec h
  exact ⟨c, fun n z => ⟨(fun k h => by cases h), k, h3, comp, h4⟩, h5⟩
theorem jKD_of {A0 : Array Value} {S0 : State} (hT : ∀ w ∈ lw_tbl, w.before A0 S0 = true) : ∃ D : jE, jKD D S0 := by
  have hall : ∀ w ∈ lw_all, w.before A0 S0 = true := fun w h => hT w (List.mem_filter.mp h).1
  have h1 : ∀ i : Nat, ∃ q : ClassId × (Nat → Nat), ∀ z, jcl[i]? = some z → u_Kn S0 z.1 z.2.1 z.2.2 q.1 q.2 := by
    intro i
    cases hz : jcl[i]? with
    | none => exact ⟨(0, fun _ => 0), fun z h => nomatch h⟩
    | some z =>
      obtain ⟨z1, z2⟩ := jcl_ok z (List.mem_of_getElem? hz)
      obtain ⟨cC, iS, h⟩ := u_known hall z1 (hall _ z2)
      exact ⟨(cC, iS), fun z' h' => by cases h'; exact h⟩
  obtain ⟨f, hf⟩ := Classical.axiomOfChoice h1
  obtain ⟨a0, b0⟩ := jA_cls (ty := .int) (fun _ h => nomatch h) (hall _ q321)
  obtain ⟨a1, b1⟩ := jA_cls (ty := .boolean) (fun _ h => nomatch h) (hall _ q514)
  obtain ⟨a2, b2⟩ := jA_cls (ty := .byte) (fun _ h => nomatch h) (hall _ q172)
  obtain ⟨a3, b3⟩ := jA_cls (ty := .long) (fun _ h => nomatch h) (hall _ q1630)
  obtain ⟨a4, b4⟩ := jA_obj (hT _ q153)
  obtain ⟨a5, b5⟩ := jA_obj (hT _ q159)
  obtain ⟨a6, b6⟩ := jA_obj (hT _ q161)
  obtain ⟨a7, b7⟩ := jA_obj (hT _ q295)
  obtain ⟨a8, b8⟩ := jA_obj (hT _ q323)
  obtain ⟨a9, b9⟩ := jA_obj (hT _ q325)
  obtain ⟨a10, b10⟩ := jA_obj (hT _ q332)
  obtain ⟨a11, b11⟩ := jA_arr (hT _ q408)
  obtain ⟨a12, b12⟩ := jA_arr (hT _ q410)
  refine ⟨((fun i => (f i).1, fun i => (f i).2), fun t => [a0, a1, a2, a3, a4, a5, a6, a7, a8, a9, a10, a11, a12].getD t 0), fun c q hq => hf c q hq, ?_⟩
  intro k q hk
  match k, hk with
  | 0, hk => cases hk; exact b0
  | 1, hk => cases hk; exact b1
  | 2, hk => cases hk; exact b2
  | 3, hk => cases hk; exact b3
  | 4, hk => cases hk; exact b4
  | 5, hk => cases hk; exact b5
  | 6, hk => cases hk; exact b6
  | 7, hk => cases hk; exact b7
  | 8, hk => cases hk; exact b8
  | 9, hk => cases hk; exact b9
  | 10, hk => cases hk; exact b10
  | 11, hk => cases hk; exact b11
  | 12, hk => cases hk; exact b12
  | k + 13, hk => cases hk
end JKS
