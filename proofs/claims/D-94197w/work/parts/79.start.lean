/-! THE CLAIM OUT OF ONE WALK OF THE LAW'S BODY. Your part is whole_start (and what it stands on); all else here is the same for every law, but numbers. -/
def R_law : String := "MoveNotesLaw"
def lw_P (b : Addr) (xs : List Int32) (args : Array Value) (s : State) : Prop := args = #[.ref b] ∧ s.IntsAt b xs ∧ xs.length ≤ 448 ∧ (Jvm.Cond.and given_1 narrow_1).before args s = true
def lw_Q (_ : Array Value) (s : State) (o : Outcome) (t : State) : Prop := o = .returned (some (.int 1)) ∧ Framed s o t [] 603072 7194730
def lw_Z (below : List Frame) (a : Array Value) (s : State) : State → Prop := fun t => ∃ o, t.status = .running ∧ Ended t below o ∧ lw_Q a s o t
/-- the law's own end, with 1 on the stack, nothing written that was there before, its room as the claim has it -/
theorem lw_ret {p : Program} {l : Launch} {e : Env} {s : State} {m : MethodId} {below : List Frame} {meth : Method} {c : Code} {b : Nat} (hx : p.tables.exec = Jvm.exec) (hb : c.code = code) (hr : meth.sig.returnType = ret) (hlocks : meth.locks = false) {pc : Nat} {H : Heap} {ls : Array Slot} (hdg : decode code pc = .ok (.ireturn, 1)) : W p l e room_1 s m #[Value.ref b] below meth c H [] 603072 7194730 (lw_Z below #[Value.ref b] s) (F0 m pc ls [.int 1]) := by
  intro T hT X
  obtain ⟨fs, hret, hrun, hended, hW, hframe⟩ := X.leave (v := some (.int 1)) (hlocks := hlocks) (fun h => by rw [hr] at h; cases h)
  have hmeth' : T.vm.method? m = some meth := X.method'
  refine ⟨T.setFrames fs, ?_, .returned (some (.int 1)), hrun, hended, rfl, ⟨_, rfl⟩, hW, hframe⟩
  jvm_step X.here [X.here.top, hx, hb, hdg, hmeth', hr, ret, narrow_b1]
  (try refine ⟨rfl, ?_⟩); (try refine ⟨rfl, ?_⟩)
  first | (intro acts; rw [hret _ acts rfl rfl rfl]) | rw [hret _ _ rfl rfl rfl]
  exact Steps.refl _
/-- what holds at the law's entry: the machine, the code, the tables' words (any of lw_tbl by 'hts w (by decide +kernel)'), the script of L ints xs at the cell b, what the Statement gives of the start (any of its parts by flat_of_before) -/
def lw_At (p : Program) (s : State) (m : MethodId) (meth : Method) (c : Code) (b L : Nat) (xs : Nat → Int32) : Prop :=
  p.tables.exec = Jvm.exec ∧ c.code = code ∧ meth.sig.returnType = ret ∧ c.maxLocals = 8 ∧ s.vm.findClass R_law = some m.cls ∧ (∀ w ∈ lw_tbl, w.before #[Value.ref b] s = true) ∧ va_X b L xs s s.heap ∧ b < s.heap.size ∧ meth.locks = false ∧ (Jvm.Cond.and given_1 narrow_1).before #[Value.ref b] s = true
/-! the law's start: all that is left is a statement about J-programs -/
def jLaw : Prop := ∀ (sK : Nat → Nat) (p0 b0 Ln : Nat) (xs : Nat → Int32), Ln ≤ 448 → JL_law sK 603072 7194730 p0 xs Ln (fun r _ => r = nI 1) (fun _ => none, b0)
theorem whole_of (hlaw : jLaw) {p : Program} {e : Env} {s : State} {m : MethodId} {below : List Frame} {meth : Method} {c : Code} (l : Launch) (hflags : l.flags = flags0) {b L : Nat} {xs : Nat → Int32} (hL : L ≤ 448) (C0 : lw_At p s m meth c b L xs) : W p l e room_1 s m #[Value.ref b] below meth c s.heap [] 0 0 (lw_Z below #[Value.ref b] s) (entryFrame m ([Value.ref b] : List Value).toArray 8) := by
  obtain ⟨hx, hb, hret, hml, hown, hts, hX, hbl, hlocks, hgv⟩ := C0
  obtain ⟨D, hD⟩ := jKD_of hts
  obtain ⟨sK, hS⟩ := jSt.make hts hgv
  have hall : ∀ w ∈ lw_all, w.before #[Value.ref b] s = true := fun w h => hts w (List.mem_filter.mp h).1
  have K : JK p l room_1 s m #[Value.ref b] meth c D s #[Value.ref b] 8 cL_law "MoveNotesLaw" 103 := ⟨hx, hb, hml, hlocks, hown, hall, ⟨hflags, hts, hD, hgv⟩, State.WarmedH.refl _, fun _ _ => rfl, Nat.le_refl _, by decide, by decide⟩
  have hent := lv_entry (n := 8) [Value.ref b] (Nat.le_of_ble_eq_true rfl)
  rw [lg_entry_eq]
  refine wL_law K sK 603072 7194730 b xs L (fun r _ => r = nI 1) hS ⟨hX, hbl, Nat.le_refl _⟩ ?_ (fun _ => none, s.heap.size) s.heap [] 0 0 _ (hlaw sK b s.heap.size L xs hL) ⟨rfl, Nat.le_refl _, fun a o h => nomatch h⟩ va_S.rf (by decide) (by decide) ⟨hent.1, hent.2.1, fun i v h => hent.2.2 (i, v) (jargs_spec (vs := [Value.ref b]) (n := 8) h)⟩
  intro bc bs pc L1 r d
  refine jr_and fun _ => ?_
  intro σ H locs cells slots ls h1 h2 h3 h4 h5 h6
  have h1 : r = nI 1 := h1
  subst h1
  refine va_forget h3.2.2 (W.widen (k := 603072) (n := 7194730) (by have : cells + bc ≤ 603072 := h4; omega) (by have : slots + bs ≤ 7194730 := h5; omega) ?_)
  exact lw_ret hx hb hret hlocks d
