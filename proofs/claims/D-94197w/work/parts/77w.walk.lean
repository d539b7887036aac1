set_option maxRecDepth 100000


section JW
variable {p : Program} {l : Launch} {e : Env} {R : Room} {s : State} {m : MethodId} {args : Array Value} {below : List Frame} {meth : Method} {c : Code} {Q : State → Prop} {D : jE} {S0 : State} {A0 : Array Value}
theorem wL_law_23 (K : JK p l R s m args meth c D S0 A0 8 cL_law "MoveNotesLaw" 103) (sK : Nat → Nat) (bc : Nat) (bs : Nat) (p0 : Nat) (xs : Nat → Int32) (Ln : Nat) (Qj : Int32 → JP) (v0 : Nat) (v8 : Nat) (v17 : Nat) (hS : jSt S0 sK) (hX : va_X p0 Ln xs s s.heap ∧ p0 < S0.heap.size ∧ S0.heap.size ≤ s.heap.size) (hret : jRetZ p l e R s m args below meth c Q D S0 8 cL_law Qj) : ∀ (n : Nat) (x4_23 : Int32) (bc_23 : Nat) (bs_23 : Nat), JR p l e R s m args below meth c Q D S0 8 bc_23 bs_23 (jit (FL_law_23 sK xs Ln Qj v0 v8 v17) (fun _ _ _ => jbot) n x4_23 bc_23 bs_23) 23 [some (.ref p0), some (.ref v0), some (.ref v8), some (.ref v17), some (.int x4_23), none, none, none] [] := by
  intro n
  induction n with
  | zero =>
    intro x4_23 bc_23 bs_23
    exact JR.bot
  | succ n ih23 =>
    intro x4_23 bc_23 bs_23
    show JR p l e R s m args below meth c Q D S0 8 bc_23 bs_23 (FL_law_23 sK xs Ln Qj v0 v8 v17 (jit (FL_law_23 sK xs Ln Qj v0 v8 v17) (fun _ _ _ => jbot) n) x4_23 bc_23 bs_23) 23 [some (.ref p0), some (.ref v0), some (.ref v8), some (.ref v17), some (.int x4_23), none, none, none] []
    generalize jit (FL_law_23 sK xs Ln Qj v0 v8 v17) (fun _ _ _ => jbot) n = rec23 at ih23 ⊢
    unfold FL_law_23
    refine jr_iload K dL_law_23 rfl ?_
    refine jr_aload_n K dL_law_25 rfl ?_
    refine jr_scl K hX dL_law_26 ?_
    refine jr_bipush K dL_law_27 (v := (nI 7)) (by decide) ?_
    refine jr_isub K dL_law_29 ?_
    refine jr_icmp_gt K (tgt := 2061) dL_law_30 (by decide) ?_ ?_
    · refine jr_iconst K dL_law_2061 (v := (nI 1)) (by decide) ?_
      exact JR.imp (fun _ h => ⟨Or.inr rfl, h⟩) (hret _ _ _ _ _ dL_law_2062)
    · refine jr_aload_n K dL_law_33 rfl ?_
      refine jr_iload K dL_law_34 rfl ?_
      refine jr_scr K hX dL_law_36 (fun v36 => ?_)
      refine jr_bipush K dL_law_37 (v := (nI 63)) (by decide) ?_
      refine jr_iand K dL_law_39 ?_
      refine jr_join (fun (k2055 : Nat → Nat → JP) => ∀ (bc_2055 : Nat) (bs_2055 : Nat), JR p l e R s m args below meth c Q D S0 8 bc_2055 bs_2055 (k2055 bc_2055 bs_2055) 2055 [some (.ref p0), some (.ref v0), some (.ref v8), some (.ref v17), some (.int x4_23), none, none, none] []) ?_ (fun k2055 hk2055 => ?_)
      · intro bc_2055 bs_2055
        refine jr_iinc K (v := (x4_23 + (nI 7))) (L' := [some (.ref p0), some (.ref v0), some (.ref v8), some (.ref v17), some (.int (x4_23 + (nI 7))), none, none, none]) dL_law_2055 rfl rfl (by decide) rfl rfl ?_
        refine jr_goto K (tgt := 23) dL_law_2058 (by decide) ?_
        exact jr_weak (ih23 (x4_23 + (nI 7)) bc_2055 bs_2055) ⟨rfl, rfl, rfl, rfl, rfl, trivial⟩
      refine jr_sw (fun hsw0 => ?_) (fun hsw0 => ?_)
      · refine jr_tsIn K dL_law_40 hsw0 (off := 148) (tgt := 188) (by decide) (by decide) rfl (by decide) ?_
        refine jr_aload_n K dL_law_188 rfl ?_
        refine jr_aload_n K dL_law_189 rfl ?_
        refine jr_iload K dL_law_190 rfl ?_
        refine jr_iconst K dL_law_192 (v := (nI 1)) (by decide) ?_
        refine jr_iadd K dL_law_193 ?_
        refine jr_scr K hX dL_law_194 (fun v194 => ?_)
        refine jr_aload_n K dL_law_195 rfl ?_
        refine jr_iload K dL_law_196 rfl ?_
        refine jr_iconst K dL_law_198 (v := (nI 2)) (by decide) ?_
        refine jr_iadd K dL_law_199 ?_
        refine jr_scr K hX dL_law_200 (fun v200 => ?_)
        refine jr_aload_n K dL_law_201 rfl ?_
        refine jr_iload K dL_law_202 rfl ?_
        refine jr_iconst K dL_law_204 (v := (nI 3)) (by decide) ?_
        refine jr_iadd K dL_law_205 ?_
        refine jr_scr K hX dL_law_206 (fun v206 => ?_)
        refine jr_aload_n K dL_law_207 rfl ?_
        refine jr_iload K dL_law_208 rfl ?_
        refine jr_iconst K dL_law_210 (v := (nI 4)) (by decide) ?_
        refine jr_iadd K dL_law_211 ?_
        refine jr_scr K hX dL_law_212 (fun v212 => ?_)
        refine jr_aload_n K dL_law_213 rfl ?_
        refine jr_iload K dL_law_214 rfl ?_
        refine jr_iconst K dL_law_216 (v := (nI 5)) (by decide) ?_
        refine jr_iadd K dL_law_217 ?_
        refine jr_scr K hX dL_law_218 (fun v218 => ?_)
        refine jr_calli0 (jrun_V (As := [.int v194, .int v200, .int v206, .int v212, .int v218]) (st := []) (ci := 1) K (metX1_feed K.hG v0 v194 v200 v206 v212 v218 _) mtX1_feed mvX1_feed q573 rfl rfl rfl (Nat.le_of_ble_eq_true rfl) (by decide) ⟨Nat.zero_le _, Nat.zero_le _⟩ dL_law_219) (fun v219 => ?_)
        refine jr_aload_n K dL_law_222 rfl ?_
        refine jr_aload_n K dL_law_223 rfl ?_
        refine jr_iload K dL_law_224 rfl ?_
        refine jr_iconst K dL_law_226 (v := (nI 1)) (by decide) ?_
        refine jr_iadd K dL_law_227 ?_
        refine jr_scr K hX dL_law_228 (fun v228 => ?_)
        refine jr_aload_n K dL_law_229 rfl ?_
        refine jr_iload K dL_law_230 rfl ?_
        refine jr_iconst K dL_law_232 (v := (nI 2)) (by decide) ?_
        refine jr_iadd K dL_law_233 ?_
        refine jr_scr K hX dL_law_234 (fun v234 => ?_)
        refine jr_aload_n K dL_law_235 rfl ?_
        refine jr_iload K dL_law_236 rfl ?_
        refine jr_iconst K dL_law_238 (v := (nI 3)) (by decide) ?_
        refine jr_iadd K dL_law_239 ?_
        refine jr_scr K hX dL_law_240 (fun v240 => ?_)
        refine jr_aload_n K dL_law_241 rfl ?_
        refine jr_iload K dL_law_242 rfl ?_
        refine jr_iconst K dL_law_244 (v := (nI 4)) (by decide) ?_
        refine jr_iadd K dL_law_245 ?_
        refine jr_scr K hX dL_law_246 (fun v246 => ?_)
        refine jr_aload_n K dL_law_247 rfl ?_
        refine jr_iload K dL_law_248 rfl ?_
        refine jr_iconst K dL_law_250 (v := (nI 5)) (by decide) ?_
        refine jr_iadd K dL_law_251 ?_
        refine jr_scr K hX dL_law_252 (fun v252 => ?_)
        refine jr_calli0 (jrun_V (As := [.int v228, .int v234, .int v240, .int v246, .int v252]) (st := [.int v219]) (ci := 11) K (metX11_feed K.hG v8 v228 v234 v240 v246 v252 _) mtX11_feed mvX11_feed q1639 rfl rfl rfl (Nat.le_of_ble_eq_true rfl) (by decide) ⟨Nat.zero_le _, Nat.zero_le _⟩ dL_law_253) (fun v253 => ?_)
        refine jr_icmp_eq K (tgt := 2055) dL_law_256 (by decide) ?_ ?_
        · exact jr_weak (hk2055 bc_23 bs_23) ⟨rfl, rfl, rfl, rfl, rfl, trivial⟩
        · refine jr_iconst K dL_law_259 (v := (nI 0)) (by decide) ?_
          exact JR.imp (fun _ h => ⟨Or.inl rfl, h⟩) (hret _ _ _ _ _ dL_law_260)
      refine jr_sw (fun hsw1 => ?_) (fun hsw1 => ?_)
      · refine jr_tsIn K dL_law_40 hsw1 (off := 221) (tgt := 261) (by decide) (by decide) rfl (by decide) ?_
        refine jr_aload_n K dL_law_261 rfl ?_
        refine jr_aload_n K dL_law_262 rfl ?_
        refine jr_iload K dL_law_263 rfl ?_
        refine jr_iconst K dL_law_265 (v := (nI 1)) (by decide) ?_
        refine jr_iadd K dL_law_266 ?_
        refine jr_scr K hX dL_law_267 (fun v267 => ?_)
        refine jr_calli0 (jrun_V (As := [.int v267]) (st := []) (ci := 1) K (metX1_end K.hG v0 v267 _) mtX1_end mvX1_end q581 rfl rfl rfl (Nat.le_of_ble_eq_true rfl) (by decide) ⟨Nat.zero_le _, Nat.zero_le _⟩ dL_law_268) (fun v268 => ?_)
        refine jr_aload_n K dL_law_271 rfl ?_
        refine jr_aload_n K dL_law_272 rfl ?_
        refine jr_iload K dL_law_273 rfl ?_
        refine jr_iconst K dL_law_275 (v := (nI 1)) (by decide) ?_
        refine jr_iadd K dL_law_276 ?_
        refine jr_scr K hX dL_law_277 (fun v277 => ?_)
        refine jr_calli0 (jrun_V (As := [.int v277]) (st := [.int v268]) (ci := 11) K (metX11_end K.hG v8 v277 _) mtX11_end mvX11_end q1643 rfl rfl rfl (Nat.le_of_ble_eq_true rfl) (by decide) ⟨Nat.zero_le _, Nat.zero_le _⟩ dL_law_278) (fun v278 => ?_)
        refine jr_icmp_eq K (tgt := 2055) dL_law_281 (by decide) ?_ ?_
        · exact jr_weak (hk2055 bc_23 bs_23) ⟨rfl, rfl, rfl, rfl, rfl, trivial⟩
        · refine jr_iconst K dL_law_284 (v := (nI 0)) (by decide) ?_
          exact JR.imp (fun _ h => ⟨Or.inl rfl, h⟩) (hret _ _ _ _ _ dL_law_285)
      refine jr_sw (fun hsw2 => ?_) (fun hsw2 => ?_)
      · refine jr_tsIn K dL_law_40 hsw2 (off := 246) (tgt := 286) (by decide) (by decide) rfl (by decide) ?_
        refine jr_aload_n K dL_law_286 rfl ?_
        refine jr_aload_n K dL_law_287 rfl ?_
        refine jr_iload K dL_law_288 rfl ?_
        refine jr_iconst K dL_law_290 (v := (nI 1)) (by decide) ?_
        refine jr_iadd K dL_law_291 ?_
        refine jr_scr K hX dL_law_292 (fun v292 => ?_)
        refine jr_aload_n K dL_law_293 rfl ?_
        refine jr_bud (fun mc294 ms294 hmc294 hms294 => ?_)
        refine jr_calli ⟨hmc294, hms294⟩ (jrun_SW (As := [.ref v0, .int v292, .ref v17]) (st := []) K (metX0_kind K.hG hS mc294 ms294 v0 v292 v17 _) mtX0_kind q829 q828 rfl rfl (Nat.le_of_ble_eq_true rfl) (by decide) ⟨hmc294, hms294⟩ dL_law_294) (fun v294 => ?_)
        refine jr_istore K (L' := [some (.ref p0), some (.ref v0), some (.ref v8), some (.ref v17), some (.int x4_23), some (.int v294), none, none]) dL_law_297 (by decide) rfl rfl ?_
        refine jr_aload_n K dL_law_299 rfl ?_
        refine jr_aload_n K dL_law_300 rfl ?_
        refine jr_iload K dL_law_301 rfl ?_
        refine jr_iconst K dL_law_303 (v := (nI 1)) (by decide) ?_
        refine jr_iadd K dL_law_304 ?_
        refine jr_scr K hX dL_law_305 (fun v305 => ?_)
        refine jr_calli0 (jrun_V (As := [.int v305]) (st := []) (ci := 11) K (metX11_kind K.hG hS v8 v305 _) mtX11_kind mvX11_kind q1651 rfl rfl rfl (Nat.le_of_ble_eq_true rfl) (by decide) ⟨Nat.zero_le _, Nat.zero_le _⟩ dL_law_306) (fun v306 => ?_)
        refine jr_istore K (L' := [some (.ref p0), some (.ref v0), some (.ref v8), some (.ref v17), some (.int x4_23), some (.int v294), some (.int v306), none]) dL_law_309 (by decide) rfl rfl ?_
        refine jr_aload_n K dL_law_311 rfl ?_
        refine jr_calli0 (jrun_V (As := []) (st := []) (ci := 11) K (metX11_thrown K.hG v8 _) mtX11_thrown mvX11_thrown q1463 rfl rfl rfl (Nat.le_of_ble_eq_true rfl) (by decide) ⟨Nat.zero_le _, Nat.zero_le _⟩ dL_law_312) (fun v312 => ?_)
        refine jr_iload K dL_law_315 rfl ?_
        refine jr_icmp_eq K (tgt := 322) dL_law_317 (by decide) ?_ ?_
        · refine jr_iload K dL_law_322 rfl ?_
          refine jr_join (fun (k339 : JP) => JR p l e R s m args below meth c Q D S0 8 (bc_23 - mc294) (bs_23 - ms294) k339 339 [some (.ref p0), some (.ref v0), some (.ref v8), some (.ref v17), some (.int x4_23), none, none, none] []) ?_ (fun k339 hk339 => ?_)
          · refine jr_goto K (tgt := 2055) dL_law_339 (by decide) ?_
            exact jr_weak (hk2055 (bc_23 - mc294) (bs_23 - ms294)) ⟨rfl, rfl, rfl, rfl, rfl, trivial⟩
          refine jr_if_ne K (tgt := 339) dL_law_324 (by decide) ?_ ?_
          · exact jr_weak (hk339) ⟨rfl, rfl, rfl, rfl, rfl, trivial⟩
          · refine jr_aload_n K dL_law_327 rfl ?_
            refine jr_iconst K dL_law_328 (v := (nI 0)) (by decide) ?_
            refine jr_lald K dL_law_329 (fun v329 => ?_)
            refine jr_iload K dL_law_330 rfl ?_
            refine jr_i2l K dL_law_332 ?_
            refine jr_lcmp K dL_law_333 ?_
            refine jr_if_eq K (tgt := 339) dL_law_334 (by decide) ?_ ?_
            · exact jr_weak (hk339) ⟨rfl, rfl, rfl, rfl, rfl, trivial⟩
            · refine jr_iconst K dL_law_337 (v := (nI 0)) (by decide) ?_
              exact JR.imp (fun _ h => ⟨Or.inl rfl, h⟩) (hret _ _ _ _ _ dL_law_338)
        · refine jr_iconst K dL_law_320 (v := (nI 0)) (by decide) ?_
          exact JR.imp (fun _ h => ⟨Or.inl rfl, h⟩) (hret _ _ _ _ _ dL_law_321)
      refine jr_sw (fun hsw3 => ?_) (fun hsw3 => ?_)
      · refine jr_tsIn K dL_law_40 hsw3 (off := 302) (tgt := 342) (by decide) (by decide) rfl (by decide) ?_
        refine jr_aload_n K dL_law_342 rfl ?_
        refine jr_aload_n K dL_law_343 rfl ?_
        refine jr_bud (fun mc344 ms344 hmc344 hms344 => ?_)
        refine jr_calli ⟨hmc344, hms344⟩ (jrun_SW (As := [.ref v0, .ref v17]) (st := []) K (metX0_measure K.hG hS mc344 ms344 v0 v17 _) mtX0_measure q1129 q1128 rfl rfl (Nat.le_of_ble_eq_true rfl) (by decide) ⟨hmc344, hms344⟩ dL_law_344) (fun v344 => ?_)
        refine jr_istore K (L' := [some (.ref p0), some (.ref v0), some (.ref v8), some (.ref v17), some (.int x4_23), some (.int v344), none, none]) dL_law_347 (by decide) rfl rfl ?_
        refine jr_aload_n K dL_law_349 rfl ?_
        refine jr_calli0 (jrun_V (As := []) (st := []) (ci := 11) K (metX11_measure K.hG hS v8 _) mtX11_measure mvX11_measure q1752 rfl rfl rfl (Nat.le_of_ble_eq_true rfl) (by decide) ⟨Nat.zero_le _, Nat.zero_le _⟩ dL_law_350) (fun v350 => ?_)
        refine jr_istore K (L' := [some (.ref p0), some (.ref v0), some (.ref v8), some (.ref v17), some (.int x4_23), some (.int v344), some (.int v350), none]) dL_law_353 (by decide) rfl rfl ?_
        refine jr_aload_n K dL_law_355 rfl ?_
        refine jr_calli0 (jrun_V (As := []) (st := []) (ci := 11) K (metX11_thrown K.hG v8 _) mtX11_thrown mvX11_thrown q1463 rfl rfl rfl (Nat.le_of_ble_eq_true rfl) (by decide) ⟨Nat.zero_le _, Nat.zero_le _⟩ dL_law_356) (fun v356 => ?_)
        refine jr_iload K dL_law_359 rfl ?_
        refine jr_icmp_eq K (tgt := 366) dL_law_361 (by decide) ?_ ?_
        · refine jr_iload K dL_law_366 rfl ?_
          refine jr_join (fun (k383 : JP) => JR p l e R s m args below meth c Q D S0 8 (bc_23 - mc344) (bs_23 - ms344) k383 383 [some (.ref p0), some (.ref v0), some (.ref v8), some (.ref v17), some (.int x4_23), none, none, none] []) ?_ (fun k383 hk383 => ?_)
          · refine jr_goto K (tgt := 2055) dL_law_383 (by decide) ?_
            exact jr_weak (hk2055 (bc_23 - mc344) (bs_23 - ms344)) ⟨rfl, rfl, rfl, rfl, rfl, trivial⟩
          refine jr_if_ne K (tgt := 383) dL_law_368 (by decide) ?_ ?_
          · exact jr_weak (hk383) ⟨rfl, rfl, rfl, rfl, rfl, trivial⟩
          · refine jr_aload_n K dL_law_371 rfl ?_
            refine jr_iconst K dL_law_372 (v := (nI 0)) (by decide) ?_
            refine jr_lald K dL_law_373 (fun v373 => ?_)
            refine jr_iload K dL_law_374 rfl ?_
            refine jr_i2l K dL_law_376 ?_
            refine jr_lcmp K dL_law_377 ?_
            refine jr_if_eq K (tgt := 383) dL_law_378 (by decide) ?_ ?_
            · exact jr_weak (hk383) ⟨rfl, rfl, rfl, rfl, rfl, trivial⟩
            · refine jr_iconst K dL_law_381 (v := (nI 0)) (by decide) ?_
              exact JR.imp (fun _ h => ⟨Or.inl rfl, h⟩) (hret _ _ _ _ _ dL_law_382)
        · refine jr_iconst K dL_law_364 (v := (nI 0)) (by decide) ?_
          exact JR.imp (fun _ h => ⟨Or.inl rfl, h⟩) (hret _ _ _ _ _ dL_law_365)
      refine jr_sw (fun hsw4 => ?_) (fun hsw4 => ?_)
      · refine jr_tsIn K dL_law_40 hsw4 (off := 346) (tgt := 386) (by decide) (by decide) rfl (by decide) ?_
        refine jr_aload_n K dL_law_386 rfl ?_
        refine jr_calli0 (jrun_V (As := []) (st := []) (ci := 1) K (metX1_fault K.hG v0 _) mtX1_fault mvX1_fault q588 rfl rfl rfl (Nat.le_of_ble_eq_true rfl) (by decide) ⟨Nat.zero_le _, Nat.zero_le _⟩ dL_law_387) (fun v387 => ?_)
        refine jr_aload_n K dL_law_390 rfl ?_
        refine jr_calli0 (jrun_V (As := []) (st := [.int v387]) (ci := 11) K (metX11_fault K.hG v8 _) mtX11_fault mvX11_fault q1647 rfl rfl rfl (Nat.le_of_ble_eq_true rfl) (by decide) ⟨Nat.zero_le _, Nat.zero_le _⟩ dL_law_391) (fun v391 => ?_)
        refine jr_icmp_eq K (tgt := 2055) dL_law_394 (by decide) ?_ ?_
        · exact jr_weak (hk2055 bc_23 bs_23) ⟨rfl, rfl, rfl, rfl, rfl, trivial⟩
        · refine jr_iconst K dL_law_397 (v := (nI 0)) (by decide) ?_
          exact JR.imp (fun _ h => ⟨Or.inl rfl, h⟩) (hret _ _ _ _ _ dL_law_398)
      refine jr_sw (fun hsw5 => ?_) (fun hsw5 => ?_)
      · refine jr_tsIn K dL_law_40 hsw5 (off := 359) (tgt := 399) (by decide) (by decide) rfl (by decide) ?_
        refine jr_aload_n K dL_law_399 rfl ?_
        refine jr_aload_n K dL_law_400 rfl ?_
        refine jr_iload K dL_law_401 rfl ?_
        refine jr_iconst K dL_law_403 (v := (nI 1)) (by decide) ?_
        refine jr_iadd K dL_law_404 ?_
        refine jr_scr K hX dL_law_405 (fun v405 => ?_)
        refine jr_aload_n K dL_law_406 rfl ?_
        refine jr_iload K dL_law_407 rfl ?_
        refine jr_iconst K dL_law_409 (v := (nI 2)) (by decide) ?_
        refine jr_iadd K dL_law_410 ?_
        refine jr_scr K hX dL_law_411 (fun v411 => ?_)
        refine jr_aload_n K dL_law_412 rfl ?_
        refine jr_iload K dL_law_413 rfl ?_
        refine jr_iconst K dL_law_415 (v := (nI 3)) (by decide) ?_
        refine jr_iadd K dL_law_416 ?_
        refine jr_scr K hX dL_law_417 (fun v417 => ?_)
        refine jr_bud (fun mc418 ms418 hmc418 hms418 => ?_)
        refine jr_calli ⟨hmc418, hms418⟩ (jrun_SW (As := [.ref v0, .int v405, .int v411, .int v417]) (st := []) K (metX0_put K.hG mc418 ms418 v0 v405 v411 v417 _) mtX0_put q1153 q1152 rfl rfl (Nat.le_of_ble_eq_true rfl) (by decide) ⟨hmc418, hms418⟩ dL_law_418) (fun v418 => ?_)
        refine jr_istore K (L' := [some (.ref p0), some (.ref v0), some (.ref v8), some (.ref v17), some (.int x4_23), some (.int v418), none, none]) dL_law_421 (by decide) rfl rfl ?_
        refine jr_aload_n K dL_law_423 rfl ?_
        refine jr_aload_n K dL_law_424 rfl ?_
        refine jr_iload K dL_law_425 rfl ?_
        refine jr_iconst K dL_law_427 (v := (nI 1)) (by decide) ?_
        refine jr_iadd K dL_law_428 ?_
        refine jr_scr K hX dL_law_429 (fun v429 => ?_)
        refine jr_aload_n K dL_law_430 rfl ?_
        refine jr_iload K dL_law_431 rfl ?_
        refine jr_iconst K dL_law_433 (v := (nI 2)) (by decide) ?_
        refine jr_iadd K dL_law_434 ?_
        refine jr_scr K hX dL_law_435 (fun v435 => ?_)
        refine jr_aload_n K dL_law_436 rfl ?_
        refine jr_iload K dL_law_437 rfl ?_
        refine jr_iconst K dL_law_439 (v := (nI 3)) (by decide) ?_
        refine jr_iadd K dL_law_440 ?_
        refine jr_scr K hX dL_law_441 (fun v441 => ?_)
        refine jr_callv0 (jrun_V (As := [.int v429, .int v435, .int v441]) (st := []) (ci := 11) K (metX11_put K.hG v8 v429 v435 v441 _) mtX11_put mvX11_put q1756 rfl rfl rfl (Nat.le_of_ble_eq_true rfl) (by decide) ⟨Nat.zero_le _, Nat.zero_le _⟩ dL_law_442) ?_
        refine jr_aload_n K dL_law_445 rfl ?_
        refine jr_calli0 (jrun_V (As := []) (st := []) (ci := 11) K (metX11_thrown K.hG v8 _) mtX11_thrown mvX11_thrown q1463 rfl rfl rfl (Nat.le_of_ble_eq_true rfl) (by decide) ⟨Nat.zero_le _, Nat.zero_le _⟩ dL_law_446) (fun v446 => ?_)
        refine jr_iload K dL_law_449 rfl ?_
        refine jr_icmp_eq K (tgt := 456) dL_law_451 (by decide) ?_ ?_
        · refine jr_goto K (tgt := 2055) dL_law_456 (by decide) ?_
          exact jr_weak (hk2055 (bc_23 - mc418) (bs_23 - ms418)) ⟨rfl, rfl, rfl, rfl, rfl, trivial⟩
        · refine jr_iconst K dL_law_454 (v := (nI 0)) (by decide) ?_
          exact JR.imp (fun _ h => ⟨Or.inl rfl, h⟩) (hret _ _ _ _ _ dL_law_455)
      refine jr_sw (fun hsw6 => ?_) (fun hsw6 => ?_)
      · refine jr_tsIn K dL_law_40 hsw6 (off := 419) (tgt := 459) (by decide) (by decide) rfl (by decide) ?_
        refine jr_aload_n K dL_law_459 rfl ?_
        refine jr_aload_n K dL_law_460 rfl ?_
        refine jr_iload K dL_law_461 rfl ?_
        refine jr_iconst K dL_law_463 (v := (nI 1)) (by decide) ?_
        refine jr_iadd K dL_law_464 ?_
        refine jr_scr K hX dL_law_465 (fun v465 => ?_)
        refine jr_aload_n K dL_law_466 rfl ?_
        refine jr_iload K dL_law_467 rfl ?_
        refine jr_iconst K dL_law_469 (v := (nI 2)) (by decide) ?_
        refine jr_iadd K dL_law_470 ?_
        refine jr_scr K hX dL_law_471 (fun v471 => ?_)
        refine jr_aload_n K dL_law_472 rfl ?_
        refine jr_bud (fun mc473 ms473 hmc473 hms473 => ?_)
        refine jr_calli ⟨hmc473, hms473⟩ (jrun_SW (As := [.ref v0, .int v465, .int v471, .ref v17]) (st := []) K (metX0_moves K.hG mc473 ms473 v0 v465 v471 v17 _) mtX0_moves q1217 q1216 rfl rfl (Nat.le_of_ble_eq_true rfl) (by decide) ⟨hmc473, hms473⟩ dL_law_473) (fun v473 => ?_)
        refine jr_istore K (L' := [some (.ref p0), some (.ref v0), some (.ref v8), some (.ref v17), some (.int x4_23), some (.int v473), none, none]) dL_law_476 (by decide) rfl rfl ?_
        refine jr_aload_n K dL_law_478 rfl ?_
        refine jr_aload_n K dL_law_479 rfl ?_
        refine jr_iload K dL_law_480 rfl ?_
        refine jr_iconst K dL_law_482 (v := (nI 1)) (by decide) ?_
        refine jr_iadd K dL_law_483 ?_
        refine jr_scr K hX dL_law_484 (fun v484 => ?_)
        refine jr_aload_n K dL_law_485 rfl ?_
        refine jr_iload K dL_law_486 rfl ?_
        refine jr_iconst K dL_law_488 (v := (nI 2)) (by decide) ?_
        refine jr_iadd K dL_law_489 ?_
        refine jr_scr K hX dL_law_490 (fun v490 => ?_)
        refine jr_calli0 (jrun_V (As := [.int v484, .int v490]) (st := []) (ci := 11) K (metX11_moves K.hG v8 v484 v490 _) mtX11_moves mvX11_moves q1833 rfl rfl rfl (Nat.le_of_ble_eq_true rfl) (by decide) ⟨Nat.zero_le _, Nat.zero_le _⟩ dL_law_491) (fun v491 => ?_)
        refine jr_istore K (L' := [some (.ref p0), some (.ref v0), some (.ref v8), some (.ref v17), some (.int x4_23), some (.int v473), some (.int v491), none]) dL_law_494 (by decide) rfl rfl ?_
        refine jr_aload_n K dL_law_496 rfl ?_
        refine jr_calli0 (jrun_V (As := []) (st := []) (ci := 11) K (metX11_thrown K.hG v8 _) mtX11_thrown mvX11_thrown q1463 rfl rfl rfl (Nat.le_of_ble_eq_true rfl) (by decide) ⟨Nat.zero_le _, Nat.zero_le _⟩ dL_law_497) (fun v497 => ?_)
        refine jr_iload K dL_law_500 rfl ?_
        refine jr_icmp_eq K (tgt := 507) dL_law_502 (by decide) ?_ ?_
        · refine jr_iload K dL_law_507 rfl ?_
          refine jr_join (fun (k524 : JP) => JR p l e R s m args below meth c Q D S0 8 (bc_23 - mc473) (bs_23 - ms473) k524 524 [some (.ref p0), some (.ref v0), some (.ref v8), some (.ref v17), some (.int x4_23), none, none, none] []) ?_ (fun k524 hk524 => ?_)
          · refine jr_goto K (tgt := 2055) dL_law_524 (by decide) ?_
            exact jr_weak (hk2055 (bc_23 - mc473) (bs_23 - ms473)) ⟨rfl, rfl, rfl, rfl, rfl, trivial⟩
          refine jr_if_ne K (tgt := 524) dL_law_509 (by decide) ?_ ?_
          · exact jr_weak (hk524) ⟨rfl, rfl, rfl, rfl, rfl, trivial⟩
          · refine jr_aload_n K dL_law_512 rfl ?_
            refine jr_iconst K dL_law_513 (v := (nI 0)) (by decide) ?_
            refine jr_lald K dL_law_514 (fun v514 => ?_)
            refine jr_iload K dL_law_515 rfl ?_
            refine jr_i2l K dL_law_517 ?_
            refine jr_lcmp K dL_law_518 ?_
            refine jr_if_eq K (tgt := 524) dL_law_519 (by decide) ?_ ?_
            · exact jr_weak (hk524) ⟨rfl, rfl, rfl, rfl, rfl, trivial⟩
            · refine jr_iconst K dL_law_522 (v := (nI 0)) (by decide) ?_
              exact JR.imp (fun _ h => ⟨Or.inl rfl, h⟩) (hret _ _ _ _ _ dL_law_523)
        · refine jr_iconst K dL_law_505 (v := (nI 0)) (by decide) ?_
          exact JR.imp (fun _ h => ⟨Or.inl rfl, h⟩) (hret _ _ _ _ _ dL_law_506)
      refine jr_sw (fun hsw7 => ?_) (fun hsw7 => ?_)
      · refine jr_tsIn K dL_law_40 hsw7 (off := 487) (tgt := 527) (by decide) (by decide) rfl (by decide) ?_
        refine jr_aload_n K dL_law_527 rfl ?_
        refine jr_aload_n K dL_law_528 rfl ?_
        refine jr_iload K dL_law_529 rfl ?_
        refine jr_iconst K dL_law_531 (v := (nI 1)) (by decide) ?_
        refine jr_iadd K dL_law_532 ?_
        refine jr_scr K hX dL_law_533 (fun v533 => ?_)
        refine jr_aload_n K dL_law_534 rfl ?_
        refine jr_bud (fun mc535 ms535 hmc535 hms535 => ?_)
        refine jr_calli ⟨hmc535, hms535⟩ (jrun_SW (As := [.ref v0, .int v533, .ref v17]) (st := []) K (metX0_book K.hG mc535 ms535 v0 v533 v17 _) mtX0_book q1225 q1224 rfl rfl (Nat.le_of_ble_eq_true rfl) (by decide) ⟨hmc535, hms535⟩ dL_law_535) (fun v535 => ?_)
        refine jr_istore K (L' := [some (.ref p0), some (.ref v0), some (.ref v8), some (.ref v17), some (.int x4_23), some (.int v535), none, none]) dL_law_538 (by decide) rfl rfl ?_
        refine jr_aload_n K dL_law_540 rfl ?_
        refine jr_aload_n K dL_law_541 rfl ?_
        refine jr_iload K dL_law_542 rfl ?_
        refine jr_iconst K dL_law_544 (v := (nI 1)) (by decide) ?_
        refine jr_iadd K dL_law_545 ?_
        refine jr_scr K hX dL_law_546 (fun v546 => ?_)
        refine jr_calli0 (jrun_V (As := [.int v546]) (st := []) (ci := 11) K (metX11_book K.hG v8 v546 _) mtX11_book mvX11_book q1774 rfl rfl rfl (Nat.le_of_ble_eq_true rfl) (by decide) ⟨Nat.zero_le _, Nat.zero_le _⟩ dL_law_547) (fun v547 => ?_)
        refine jr_istore K (L' := [some (.ref p0), some (.ref v0), some (.ref v8), some (.ref v17), some (.int x4_23), some (.int v535), some (.int v547), none]) dL_law_550 (by decide) rfl rfl ?_
        refine jr_aload_n K dL_law_552 rfl ?_
        refine jr_calli0 (jrun_V (As := []) (st := []) (ci := 11) K (metX11_thrown K.hG v8 _) mtX11_thrown mvX11_thrown q1463 rfl rfl rfl (Nat.le_of_ble_eq_true rfl) (by decide) ⟨Nat.zero_le _, Nat.zero_le _⟩ dL_law_553) (fun v553 => ?_)
        refine jr_iload K dL_law_556 rfl ?_
        refine jr_icmp_eq K (tgt := 563) dL_law_558 (by decide) ?_ ?_
        · refine jr_iload K dL_law_563 rfl ?_
          refine jr_join (fun (k580 : JP) => JR p l e R s m args below meth c Q D S0 8 (bc_23 - mc535) (bs_23 - ms535) k580 580 [some (.ref p0), some (.ref v0), some (.ref v8), some (.ref v17), some (.int x4_23), none, none, none] []) ?_ (fun k580 hk580 => ?_)
          · refine jr_goto K (tgt := 2055) dL_law_580 (by decide) ?_
            exact jr_weak (hk2055 (bc_23 - mc535) (bs_23 - ms535)) ⟨rfl, rfl, rfl, rfl, rfl, trivial⟩
          refine jr_if_ne K (tgt := 580) dL_law_565 (by decide) ?_ ?_
          · exact jr_weak (hk580) ⟨rfl, rfl, rfl, rfl, rfl, trivial⟩
          · refine jr_aload_n K dL_law_568 rfl ?_
            refine jr_iconst K dL_law_569 (v := (nI 0)) (by decide) ?_
            refine jr_lald K dL_law_570 (fun v570 => ?_)
            refine jr_iload K dL_law_571 rfl ?_
            refine jr_i2l K dL_law_573 ?_
            refine jr_lcmp K dL_law_574 ?_
            refine jr_if_eq K (tgt := 580) dL_law_575 (by decide) ?_ ?_
            · exact jr_weak (hk580) ⟨rfl, rfl, rfl, rfl, rfl, trivial⟩
            · refine jr_iconst K dL_law_578 (v := (nI 0)) (by decide) ?_
              exact JR.imp (fun _ h => ⟨Or.inl rfl, h⟩) (hret _ _ _ _ _ dL_law_579)
        · refine jr_iconst K dL_law_561 (v := (nI 0)) (by decide) ?_
          exact JR.imp (fun _ h => ⟨Or.inl rfl, h⟩) (hret _ _ _ _ _ dL_law_562)
      refine jr_sw (fun hsw8 => ?_) (fun hsw8 => ?_)
      · refine jr_tsIn K dL_law_40 hsw8 (off := 543) (tgt := 583) (by decide) (by decide) rfl (by decide) ?_
        refine jr_aload_n K dL_law_583 rfl ?_
        refine jr_aload_n K dL_law_584 rfl ?_
        refine jr_iload K dL_law_585 rfl ?_
        refine jr_iconst K dL_law_587 (v := (nI 1)) (by decide) ?_
        refine jr_iadd K dL_law_588 ?_
        refine jr_scr K hX dL_law_589 (fun v589 => ?_)
        refine jr_aload_n K dL_law_590 rfl ?_
        refine jr_iload K dL_law_591 rfl ?_
        refine jr_iconst K dL_law_593 (v := (nI 2)) (by decide) ?_
        refine jr_iadd K dL_law_594 ?_
        refine jr_scr K hX dL_law_595 (fun v595 => ?_)
        refine jr_aload_n K dL_law_596 rfl ?_
        refine jr_iload K dL_law_597 rfl ?_
        refine jr_iconst K dL_law_599 (v := (nI 3)) (by decide) ?_
        refine jr_iadd K dL_law_600 ?_
        refine jr_scr K hX dL_law_601 (fun v601 => ?_)
        refine jr_aload_n K dL_law_602 rfl ?_
        refine jr_iload K dL_law_603 rfl ?_
        refine jr_iconst K dL_law_605 (v := (nI 4)) (by decide) ?_
        refine jr_iadd K dL_law_606 ?_
        refine jr_scr K hX dL_law_607 (fun v607 => ?_)
        refine jr_aload_n K dL_law_608 rfl ?_
        refine jr_iload K dL_law_609 rfl ?_
        refine jr_iconst K dL_law_611 (v := (nI 5)) (by decide) ?_
        refine jr_iadd K dL_law_612 ?_
        refine jr_scr K hX dL_law_613 (fun v613 => ?_)
        refine jr_aload_n K dL_law_614 rfl ?_
        refine jr_bud (fun mc615 ms615 hmc615 hms615 => ?_)
        refine jr_calli ⟨hmc615, hms615⟩ (jrun_SW (As := [.ref v0, .int v589, .int v595, .int v601, .int v607, .int v613, .ref v17]) (st := []) K (metX0_note K.hG mc615 ms615 v0 v589 v595 v601 v607 v613 v17 _) mtX0_note q1236 q1235 rfl rfl (Nat.le_of_ble_eq_true rfl) (by decide) ⟨hmc615, hms615⟩ dL_law_615) (fun v615 => ?_)
        refine jr_istore K (L' := [some (.ref p0), some (.ref v0), some (.ref v8), some (.ref v17), some (.int x4_23), some (.int v615), none, none]) dL_law_618 (by decide) rfl rfl ?_
        refine jr_aload_n K dL_law_620 rfl ?_
        refine jr_aload_n K dL_law_621 rfl ?_
        refine jr_iload K dL_law_622 rfl ?_
        refine jr_iconst K dL_law_624 (v := (nI 1)) (by decide) ?_
        refine jr_iadd K dL_law_625 ?_
        refine jr_scr K hX dL_law_626 (fun v626 => ?_)
        refine jr_aload_n K dL_law_627 rfl ?_
        refine jr_iload K dL_law_628 rfl ?_
        refine jr_iconst K dL_law_630 (v := (nI 2)) (by decide) ?_
        refine jr_iadd K dL_law_631 ?_
        refine jr_scr K hX dL_law_632 (fun v632 => ?_)
        refine jr_aload_n K dL_law_633 rfl ?_
        refine jr_iload K dL_law_634 rfl ?_
        refine jr_iconst K dL_law_636 (v := (nI 3)) (by decide) ?_
        refine jr_iadd K dL_law_637 ?_
        refine jr_scr K hX dL_law_638 (fun v638 => ?_)
        refine jr_aload_n K dL_law_639 rfl ?_
        refine jr_iload K dL_law_640 rfl ?_
        refine jr_iconst K dL_law_642 (v := (nI 4)) (by decide) ?_
        refine jr_iadd K dL_law_643 ?_
        refine jr_scr K hX dL_law_644 (fun v644 => ?_)
        refine jr_aload_n K dL_law_645 rfl ?_
        refine jr_iload K dL_law_646 rfl ?_
        refine jr_iconst K dL_law_648 (v := (nI 5)) (by decide) ?_
        refine jr_iadd K dL_law_649 ?_
        refine jr_scr K hX dL_law_650 (fun v650 => ?_)
        refine jr_calli0 (jrun_V (As := [.int v626, .int v632, .int v638, .int v644, .int v650]) (st := []) (ci := 11) K (metX11_note K.hG v8 v626 v632 v638 v644 v650 _) mtX11_note mvX11_note q1778 rfl rfl rfl (Nat.le_of_ble_eq_true rfl) (by decide) ⟨Nat.zero_le _, Nat.zero_le _⟩ dL_law_651) (fun v651 => ?_)
        refine jr_istore K (L' := [some (.ref p0), some (.ref v0), some (.ref v8), some (.ref v17), some (.int x4_23), some (.int v615), some (.int v651), none]) dL_law_654 (by decide) rfl rfl ?_
        refine jr_aload_n K dL_law_656 rfl ?_
        refine jr_calli0 (jrun_V (As := []) (st := []) (ci := 11) K (metX11_thrown K.hG v8 _) mtX11_thrown mvX11_thrown q1463 rfl rfl rfl (Nat.le_of_ble_eq_true rfl) (by decide) ⟨Nat.zero_le _, Nat.zero_le _⟩ dL_law_657) (fun v657 => ?_)
        refine jr_iload K dL_law_660 rfl ?_
        refine jr_icmp_eq K (tgt := 667) dL_law_662 (by decide) ?_ ?_
        · refine jr_iload K dL_law_667 rfl ?_
          refine jr_join (fun (k684 : JP) => JR p l e R s m args below meth c Q D S0 8 (bc_23 - mc615) (bs_23 - ms615) k684 684 [some (.ref p0), some (.ref v0), some (.ref v8), some (.ref v17), some (.int x4_23), none, none, none] []) ?_ (fun k684 hk684 => ?_)
          · refine jr_goto K (tgt := 2055) dL_law_684 (by decide) ?_
            exact jr_weak (hk2055 (bc_23 - mc615) (bs_23 - ms615)) ⟨rfl, rfl, rfl, rfl, rfl, trivial⟩
          refine jr_if_ne K (tgt := 684) dL_law_669 (by decide) ?_ ?_
          · exact jr_weak (hk684) ⟨rfl, rfl, rfl, rfl, rfl, trivial⟩
          · refine jr_aload_n K dL_law_672 rfl ?_
            refine jr_iconst K dL_law_673 (v := (nI 0)) (by decide) ?_
            refine jr_lald K dL_law_674 (fun v674 => ?_)
            refine jr_iload K dL_law_675 rfl ?_
            refine jr_i2l K dL_law_677 ?_
            refine jr_lcmp K dL_law_678 ?_
            refine jr_if_eq K (tgt := 684) dL_law_679 (by decide) ?_ ?_
            · exact jr_weak (hk684) ⟨rfl, rfl, rfl, rfl, rfl, trivial⟩
            · refine jr_iconst K dL_law_682 (v := (nI 0)) (by decide) ?_
              exact JR.imp (fun _ h => ⟨Or.inl rfl, h⟩) (hret _ _ _ _ _ dL_law_683)
        · refine jr_iconst K dL_law_665 (v := (nI 0)) (by decide) ?_
          exact JR.imp (fun _ h => ⟨Or.inl rfl, h⟩) (hret _ _ _ _ _ dL_law_666)
      refine jr_sw (fun hsw9 => ?_) (fun hsw9 => ?_)
      · refine jr_tsIn K dL_law_40 hsw9 (off := 647) (tgt := 687) (by decide) (by decide) rfl (by decide) ?_
        refine jr_aload_n K dL_law_687 rfl ?_
        refine jr_aload_n K dL_law_688 rfl ?_
        refine jr_iload K dL_law_689 rfl ?_
        refine jr_iconst K dL_law_691 (v := (nI 1)) (by decide) ?_
        refine jr_iadd K dL_law_692 ?_
        refine jr_scr K hX dL_law_693 (fun v693 => ?_)
        refine jr_aload_n K dL_law_694 rfl ?_
        refine jr_iload K dL_law_695 rfl ?_
        refine jr_iconst K dL_law_697 (v := (nI 2)) (by decide) ?_
        refine jr_iadd K dL_law_698 ?_
        refine jr_scr K hX dL_law_699 (fun v699 => ?_)
        refine jr_aload_n K dL_law_700 rfl ?_
        refine jr_iload K dL_law_701 rfl ?_
        refine jr_iconst K dL_law_703 (v := (nI 3)) (by decide) ?_
        refine jr_iadd K dL_law_704 ?_
        refine jr_scr K hX dL_law_705 (fun v705 => ?_)
        refine jr_aload_n K dL_law_706 rfl ?_
        refine jr_iload K dL_law_707 rfl ?_
        refine jr_iconst K dL_law_709 (v := (nI 4)) (by decide) ?_
        refine jr_iadd K dL_law_710 ?_
        refine jr_scr K hX dL_law_711 (fun v711 => ?_)
        refine jr_aload_n K dL_law_712 rfl ?_
        refine jr_iload K dL_law_713 rfl ?_
        refine jr_iconst K dL_law_715 (v := (nI 5)) (by decide) ?_
        refine jr_iadd K dL_law_716 ?_
        refine jr_scr K hX dL_law_717 (fun v717 => ?_)
        refine jr_aload_n K dL_law_718 rfl ?_
        refine jr_iload K dL_law_719 rfl ?_
        refine jr_bipush K dL_law_721 (v := (nI 6)) (by decide) ?_
        refine jr_iadd K dL_law_723 ?_
        refine jr_scr K hX dL_law_724 (fun v724 => ?_)
        refine jr_aload_n K dL_law_725 rfl ?_
        refine jr_bud (fun mc726 ms726 hmc726 hms726 => ?_)
        refine jr_calli ⟨hmc726, hms726⟩ (jrun_SW (As := [.ref v0, .int v693, .int v699, .int v705, .int v711, .int v717, .int v724, .ref v17]) (st := []) K (metX0_change K.hG mc726 ms726 v0 v693 v699 v705 v711 v717 v724 v17 _) mtX0_change q1273 q1272 rfl rfl (Nat.le_of_ble_eq_true rfl) (by decide) ⟨hmc726, hms726⟩ dL_law_726) (fun v726 => ?_)
        refine jr_istore K (L' := [some (.ref p0), some (.ref v0), some (.ref v8), some (.ref v17), some (.int x4_23), some (.int v726), none, none]) dL_law_729 (by decide) rfl rfl ?_
        refine jr_aload_n K dL_law_731 rfl ?_
        refine jr_aload_n K dL_law_732 rfl ?_
        refine jr_iload K dL_law_733 rfl ?_
        refine jr_iconst K dL_law_735 (v := (nI 1)) (by decide) ?_
        refine jr_iadd K dL_law_736 ?_
        refine jr_scr K hX dL_law_737 (fun v737 => ?_)
        refine jr_aload_n K dL_law_738 rfl ?_
        refine jr_iload K dL_law_739 rfl ?_
        refine jr_iconst K dL_law_741 (v := (nI 2)) (by decide) ?_
        refine jr_iadd K dL_law_742 ?_
        refine jr_scr K hX dL_law_743 (fun v743 => ?_)
        refine jr_aload_n K dL_law_744 rfl ?_
        refine jr_iload K dL_law_745 rfl ?_
        refine jr_iconst K dL_law_747 (v := (nI 3)) (by decide) ?_
        refine jr_iadd K dL_law_748 ?_
        refine jr_scr K hX dL_law_749 (fun v749 => ?_)
        refine jr_aload_n K dL_law_750 rfl ?_
        refine jr_iload K dL_law_751 rfl ?_
        refine jr_iconst K dL_law_753 (v := (nI 4)) (by decide) ?_
        refine jr_iadd K dL_law_754 ?_
        refine jr_scr K hX dL_law_755 (fun v755 => ?_)
        refine jr_aload_n K dL_law_756 rfl ?_
        refine jr_iload K dL_law_757 rfl ?_
        refine jr_iconst K dL_law_759 (v := (nI 5)) (by decide) ?_
        refine jr_iadd K dL_law_760 ?_
        refine jr_scr K hX dL_law_761 (fun v761 => ?_)
        refine jr_aload_n K dL_law_762 rfl ?_
        refine jr_iload K dL_law_763 rfl ?_
        refine jr_bipush K dL_law_765 (v := (nI 6)) (by decide) ?_
        refine jr_iadd K dL_law_767 ?_
        refine jr_scr K hX dL_law_768 (fun v768 => ?_)
        refine jr_calli0 (jrun_V (As := [.int v737, .int v743, .int v749, .int v755, .int v761, .int v768]) (st := []) (ci := 11) K (metX11_change K.hG v8 v737 v743 v749 v755 v761 v768 _) mtX11_change mvX11_change q1805 rfl rfl rfl (Nat.le_of_ble_eq_true rfl) (by decide) ⟨Nat.zero_le _, Nat.zero_le _⟩ dL_law_769) (fun v769 => ?_)
        refine jr_istore K (L' := [some (.ref p0), some (.ref v0), some (.ref v8), some (.ref v17), some (.int x4_23), some (.int v726), some (.int v769), none]) dL_law_772 (by decide) rfl rfl ?_
        refine jr_aload_n K dL_law_774 rfl ?_
        refine jr_calli0 (jrun_V (As := []) (st := []) (ci := 11) K (metX11_thrown K.hG v8 _) mtX11_thrown mvX11_thrown q1463 rfl rfl rfl (Nat.le_of_ble_eq_true rfl) (by decide) ⟨Nat.zero_le _, Nat.zero_le _⟩ dL_law_775) (fun v775 => ?_)
        refine jr_iload K dL_law_778 rfl ?_
        refine jr_icmp_eq K (tgt := 785) dL_law_780 (by decide) ?_ ?_
        · refine jr_iload K dL_law_785 rfl ?_
          refine jr_join (fun (k809 : JP) => JR p l e R s m args below meth c Q D S0 8 (bc_23 - mc726) (bs_23 - ms726) k809 809 [some (.ref p0), some (.ref v0), some (.ref v8), some (.ref v17), some (.int x4_23), none, none, none] []) ?_ (fun k809 hk809 => ?_)
          · refine jr_goto K (tgt := 2055) dL_law_809 (by decide) ?_
            exact jr_weak (hk2055 (bc_23 - mc726) (bs_23 - ms726)) ⟨rfl, rfl, rfl, rfl, rfl, trivial⟩
          refine jr_if_ne K (tgt := 809) dL_law_787 (by decide) ?_ ?_
          · exact jr_weak (hk809) ⟨rfl, rfl, rfl, rfl, rfl, trivial⟩
          · refine jr_aload_n K dL_law_790 rfl ?_
            refine jr_iconst K dL_law_791 (v := (nI 0)) (by decide) ?_
            refine jr_lald K dL_law_792 (fun v792 => ?_)
            refine jr_iload K dL_law_793 rfl ?_
            refine jr_join (fun (k803 : Int64 → JP) => ∀ (s1_803 : Int64), JR p l e R s m args below meth c Q D S0 8 (bc_23 - mc726) (bs_23 - ms726) (k803 s1_803) 803 [some (.ref p0), some (.ref v0), some (.ref v8), some (.ref v17), some (.int x4_23), none, none, none] [.long s1_803, .long v792]) ?_ (fun k803 hk803 => ?_)
            · intro s1_803
              refine jr_lcmp K dL_law_803 ?_
              refine jr_if_eq K (tgt := 809) dL_law_804 (by decide) ?_ ?_
              · exact jr_weak (hk809) ⟨rfl, rfl, rfl, rfl, rfl, trivial⟩
              · refine jr_iconst K dL_law_807 (v := (nI 0)) (by decide) ?_
                exact JR.imp (fun _ h => ⟨Or.inl rfl, h⟩) (hret _ _ _ _ _ dL_law_808)
            refine jr_if_eq K (tgt := 802) dL_law_795 (by decide) ?_ ?_
            · refine jr_lconst K dL_law_802 (v := (lN 0)) rfl ?_
              exact jr_weak (hk803 (lN 0)) ⟨rfl, rfl, rfl, rfl, rfl, trivial⟩
            · refine jr_lconst K dL_law_798 (v := (lN 1)) rfl ?_
              refine jr_goto K (tgt := 803) dL_law_799 (by decide) ?_
              exact jr_weak (hk803 (lN 1)) ⟨rfl, rfl, rfl, rfl, rfl, trivial⟩
        · refine jr_iconst K dL_law_783 (v := (nI 0)) (by decide) ?_
          exact JR.imp (fun _ h => ⟨Or.inl rfl, h⟩) (hret _ _ _ _ _ dL_law_784)
      refine jr_sw (fun hsw10 => ?_) (fun hsw10 => ?_)
      · refine jr_tsIn K dL_law_40 hsw10 (off := 772) (tgt := 812) (by decide) (by decide) rfl (by decide) ?_
        refine jr_aload_n K dL_law_812 rfl ?_
        refine jr_aload_n K dL_law_813 rfl ?_
        refine jr_iload K dL_law_814 rfl ?_
        refine jr_iconst K dL_law_816 (v := (nI 1)) (by decide) ?_
        refine jr_iadd K dL_law_817 ?_
        refine jr_scr K hX dL_law_818 (fun v818 => ?_)
        refine jr_aload_n K dL_law_819 rfl ?_
        refine jr_iload K dL_law_820 rfl ?_
        refine jr_iconst K dL_law_822 (v := (nI 2)) (by decide) ?_
        refine jr_iadd K dL_law_823 ?_
        refine jr_scr K hX dL_law_824 (fun v824 => ?_)
        refine jr_aload_n K dL_law_825 rfl ?_
        refine jr_iload K dL_law_826 rfl ?_
        refine jr_iconst K dL_law_828 (v := (nI 3)) (by decide) ?_
        refine jr_iadd K dL_law_829 ?_
        refine jr_scr K hX dL_law_830 (fun v830 => ?_)
        refine jr_aload_n K dL_law_831 rfl ?_
        refine jr_bud (fun mc832 ms832 hmc832 hms832 => ?_)
        refine jr_calli ⟨hmc832, hms832⟩ (jrun_SW (As := [.ref v0, .int v818, .int v824, .int v830, .ref v17]) (st := []) K (metX0_look K.hG mc832 ms832 v0 v818 v824 v830 v17 _) mtX0_look q1285 q1284 rfl rfl (Nat.le_of_ble_eq_true rfl) (by decide) ⟨hmc832, hms832⟩ dL_law_832) (fun v832 => ?_)
        refine jr_istore K (L' := [some (.ref p0), some (.ref v0), some (.ref v8), some (.ref v17), some (.int x4_23), some (.int v832), none, none]) dL_law_835 (by decide) rfl rfl ?_
        refine jr_aload_n K dL_law_837 rfl ?_
        refine jr_aload_n K dL_law_838 rfl ?_
        refine jr_iload K dL_law_839 rfl ?_
        refine jr_iconst K dL_law_841 (v := (nI 1)) (by decide) ?_
        refine jr_iadd K dL_law_842 ?_
        refine jr_scr K hX dL_law_843 (fun v843 => ?_)
        refine jr_aload_n K dL_law_844 rfl ?_
        refine jr_iload K dL_law_845 rfl ?_
        refine jr_iconst K dL_law_847 (v := (nI 2)) (by decide) ?_
        refine jr_iadd K dL_law_848 ?_
        refine jr_scr K hX dL_law_849 (fun v849 => ?_)
        refine jr_aload_n K dL_law_850 rfl ?_
        refine jr_iload K dL_law_851 rfl ?_
        refine jr_iconst K dL_law_853 (v := (nI 3)) (by decide) ?_
        refine jr_iadd K dL_law_854 ?_
        refine jr_scr K hX dL_law_855 (fun v855 => ?_)
        refine jr_calli0 (jrun_V (As := [.int v843, .int v849, .int v855]) (st := []) (ci := 11) K (metX11_look K.hG v8 v843 v849 v855 _) mtX11_look mvX11_look q1817 rfl rfl rfl (Nat.le_of_ble_eq_true rfl) (by decide) ⟨Nat.zero_le _, Nat.zero_le _⟩ dL_law_856) (fun v856 => ?_)
        refine jr_istore K (L' := [some (.ref p0), some (.ref v0), some (.ref v8), some (.ref v17), some (.int x4_23), some (.int v832), some (.int v856), none]) dL_law_859 (by decide) rfl rfl ?_
        refine jr_aload_n K dL_law_861 rfl ?_
        refine jr_calli0 (jrun_V (As := []) (st := []) (ci := 11) K (metX11_thrown K.hG v8 _) mtX11_thrown mvX11_thrown q1463 rfl rfl rfl (Nat.le_of_ble_eq_true rfl) (by decide) ⟨Nat.zero_le _, Nat.zero_le _⟩ dL_law_862) (fun v862 => ?_)
        refine jr_iload K dL_law_865 rfl ?_
        refine jr_icmp_eq K (tgt := 872) dL_law_867 (by decide) ?_ ?_
        · refine jr_iload K dL_law_872 rfl ?_
          refine jr_join (fun (k889 : JP) => JR p l e R s m args below meth c Q D S0 8 (bc_23 - mc832) (bs_23 - ms832) k889 889 [some (.ref p0), some (.ref v0), some (.ref v8), some (.ref v17), some (.int x4_23), none, none, none] []) ?_ (fun k889 hk889 => ?_)
          · refine jr_goto K (tgt := 2055) dL_law_889 (by decide) ?_
            exact jr_weak (hk2055 (bc_23 - mc832) (bs_23 - ms832)) ⟨rfl, rfl, rfl, rfl, rfl, trivial⟩
          refine jr_if_ne K (tgt := 889) dL_law_874 (by decide) ?_ ?_
          · exact jr_weak (hk889) ⟨rfl, rfl, rfl, rfl, rfl, trivial⟩
          · refine jr_aload_n K dL_law_877 rfl ?_
            refine jr_iconst K dL_law_878 (v := (nI 0)) (by decide) ?_
            refine jr_lald K dL_law_879 (fun v879 => ?_)
            refine jr_iload K dL_law_880 rfl ?_
            refine jr_i2l K dL_law_882 ?_
            refine jr_lcmp K dL_law_883 ?_
            refine jr_if_eq K (tgt := 889) dL_law_884 (by decide) ?_ ?_
            · exact jr_weak (hk889) ⟨rfl, rfl, rfl, rfl, rfl, trivial⟩
            · refine jr_iconst K dL_law_887 (v := (nI 0)) (by decide) ?_
              exact JR.imp (fun _ h => ⟨Or.inl rfl, h⟩) (hret _ _ _ _ _ dL_law_888)
        · refine jr_iconst K dL_law_870 (v := (nI 0)) (by decide) ?_
          exact JR.imp (fun _ h => ⟨Or.inl rfl, h⟩) (hret _ _ _ _ _ dL_law_871)
      refine jr_sw (fun hsw11 => ?_) (fun hsw11 => ?_)
      · refine jr_tsIn K dL_law_40 hsw11 (off := 852) (tgt := 892) (by decide) (by decide) rfl (by decide) ?_
        refine jr_aload_n K dL_law_892 rfl ?_
        refine jr_aload_n K dL_law_893 rfl ?_
        refine jr_iload K dL_law_894 rfl ?_
        refine jr_iconst K dL_law_896 (v := (nI 1)) (by decide) ?_
        refine jr_iadd K dL_law_897 ?_
        refine jr_scr K hX dL_law_898 (fun v898 => ?_)
        refine jr_aload_n K dL_law_899 rfl ?_
        refine jr_iload K dL_law_900 rfl ?_
        refine jr_iconst K dL_law_902 (v := (nI 2)) (by decide) ?_
        refine jr_iadd K dL_law_903 ?_
        refine jr_scr K hX dL_law_904 (fun v904 => ?_)
        refine jr_aload_n K dL_law_905 rfl ?_
        refine jr_iload K dL_law_906 rfl ?_
        refine jr_iconst K dL_law_908 (v := (nI 3)) (by decide) ?_
        refine jr_iadd K dL_law_909 ?_
        refine jr_scr K hX dL_law_910 (fun v910 => ?_)
        refine jr_aload_n K dL_law_911 rfl ?_
        refine jr_iload K dL_law_912 rfl ?_
        refine jr_iconst K dL_law_914 (v := (nI 4)) (by decide) ?_
        refine jr_iadd K dL_law_915 ?_
        refine jr_scr K hX dL_law_916 (fun v916 => ?_)
        refine jr_aload_n K dL_law_917 rfl ?_
        refine jr_bud (fun mc918 ms918 hmc918 hms918 => ?_)
        refine jr_calli ⟨hmc918, hms918⟩ (jrun_SW (As := [.ref v0, .int v898, .int v904, .int v910, .int v916, .ref v17]) (st := []) K (metX0_write K.hG mc918 ms918 v0 v898 v904 v910 v916 v17 _) mtX0_write q1308 q1307 rfl rfl (Nat.le_of_ble_eq_true rfl) (by decide) ⟨hmc918, hms918⟩ dL_law_918) (fun v918 => ?_)
        refine jr_istore K (L' := [some (.ref p0), some (.ref v0), some (.ref v8), some (.ref v17), some (.int x4_23), some (.int v918), none, none]) dL_law_921 (by decide) rfl rfl ?_
        refine jr_aload_n K dL_law_923 rfl ?_
        refine jr_aload_n K dL_law_924 rfl ?_
        refine jr_iload K dL_law_925 rfl ?_
        refine jr_iconst K dL_law_927 (v := (nI 1)) (by decide) ?_
        refine jr_iadd K dL_law_928 ?_
        refine jr_scr K hX dL_law_929 (fun v929 => ?_)
        refine jr_aload_n K dL_law_930 rfl ?_
        refine jr_iload K dL_law_931 rfl ?_
        refine jr_iconst K dL_law_933 (v := (nI 2)) (by decide) ?_
        refine jr_iadd K dL_law_934 ?_
        refine jr_scr K hX dL_law_935 (fun v935 => ?_)
        refine jr_aload_n K dL_law_936 rfl ?_
        refine jr_iload K dL_law_937 rfl ?_
        refine jr_iconst K dL_law_939 (v := (nI 3)) (by decide) ?_
        refine jr_iadd K dL_law_940 ?_
        refine jr_scr K hX dL_law_941 (fun v941 => ?_)
        refine jr_aload_n K dL_law_942 rfl ?_
        refine jr_iload K dL_law_943 rfl ?_
        refine jr_iconst K dL_law_945 (v := (nI 4)) (by decide) ?_
        refine jr_iadd K dL_law_946 ?_
        refine jr_scr K hX dL_law_947 (fun v947 => ?_)
        refine jr_calli0 (jrun_V (As := [.int v929, .int v935, .int v941, .int v947]) (st := []) (ci := 11) K (metX11_write K.hG v8 v929 v935 v941 v947 _) mtX11_write mvX11_write q2059 rfl rfl rfl (Nat.le_of_ble_eq_true rfl) (by decide) ⟨Nat.zero_le _, Nat.zero_le _⟩ dL_law_948) (fun v948 => ?_)
        refine jr_istore K (L' := [some (.ref p0), some (.ref v0), some (.ref v8), some (.ref v17), some (.int x4_23), some (.int v918), some (.int v948), none]) dL_law_951 (by decide) rfl rfl ?_
        refine jr_aload_n K dL_law_953 rfl ?_
        refine jr_calli0 (jrun_V (As := []) (st := []) (ci := 11) K (metX11_thrown K.hG v8 _) mtX11_thrown mvX11_thrown q1463 rfl rfl rfl (Nat.le_of_ble_eq_true rfl) (by decide) ⟨Nat.zero_le _, Nat.zero_le _⟩ dL_law_954) (fun v954 => ?_)
        refine jr_iload K dL_law_957 rfl ?_
        refine jr_icmp_eq K (tgt := 964) dL_law_959 (by decide) ?_ ?_
        · refine jr_iload K dL_law_964 rfl ?_
          refine jr_join (fun (k981 : JP) => JR p l e R s m args below meth c Q D S0 8 (bc_23 - mc918) (bs_23 - ms918) k981 981 [some (.ref p0), some (.ref v0), some (.ref v8), some (.ref v17), some (.int x4_23), none, none, none] []) ?_ (fun k981 hk981 => ?_)
          · refine jr_goto K (tgt := 2055) dL_law_981 (by decide) ?_
            exact jr_weak (hk2055 (bc_23 - mc918) (bs_23 - ms918)) ⟨rfl, rfl, rfl, rfl, rfl, trivial⟩
          refine jr_if_ne K (tgt := 981) dL_law_966 (by decide) ?_ ?_
          · exact jr_weak (hk981) ⟨rfl, rfl, rfl, rfl, rfl, trivial⟩
          · refine jr_aload_n K dL_law_969 rfl ?_
            refine jr_iconst K dL_law_970 (v := (nI 0)) (by decide) ?_
            refine jr_lald K dL_law_971 (fun v971 => ?_)
            refine jr_iload K dL_law_972 rfl ?_
            refine jr_i2l K dL_law_974 ?_
            refine jr_lcmp K dL_law_975 ?_
            refine jr_if_eq K (tgt := 981) dL_law_976 (by decide) ?_ ?_
            · exact jr_weak (hk981) ⟨rfl, rfl, rfl, rfl, rfl, trivial⟩
            · refine jr_iconst K dL_law_979 (v := (nI 0)) (by decide) ?_
              exact JR.imp (fun _ h => ⟨Or.inl rfl, h⟩) (hret _ _ _ _ _ dL_law_980)
        · refine jr_iconst K dL_law_962 (v := (nI 0)) (by decide) ?_
          exact JR.imp (fun _ h => ⟨Or.inl rfl, h⟩) (hret _ _ _ _ _ dL_law_963)
      refine jr_sw (fun hsw12 => ?_) (fun hsw12 => ?_)
      · refine jr_tsIn K dL_law_40 hsw12 (off := 944) (tgt := 984) (by decide) (by decide) rfl (by decide) ?_
        refine jr_aload_n K dL_law_984 rfl ?_
        refine jr_aload_n K dL_law_985 rfl ?_
        refine jr_iload K dL_law_986 rfl ?_
        refine jr_iconst K dL_law_988 (v := (nI 1)) (by decide) ?_
        refine jr_iadd K dL_law_989 ?_
        refine jr_scr K hX dL_law_990 (fun v990 => ?_)
        refine jr_aload_n K dL_law_991 rfl ?_
        refine jr_iload K dL_law_992 rfl ?_
        refine jr_iconst K dL_law_994 (v := (nI 2)) (by decide) ?_
        refine jr_iadd K dL_law_995 ?_
        refine jr_scr K hX dL_law_996 (fun v996 => ?_)
        refine jr_aload_n K dL_law_997 rfl ?_
        refine jr_bud (fun mc998 ms998 hmc998 hms998 => ?_)
        refine jr_calli ⟨hmc998, hms998⟩ (jrun_SW (As := [.ref v0, .int v990, .int v996, .ref v17]) (st := []) K (metX0_price K.hG mc998 ms998 v0 v990 v996 v17 _) mtX0_price q1320 q1319 rfl rfl (Nat.le_of_ble_eq_true rfl) (by decide) ⟨hmc998, hms998⟩ dL_law_998) (fun v998 => ?_)
        refine jr_istore K (L' := [some (.ref p0), some (.ref v0), some (.ref v8), some (.ref v17), some (.int x4_23), some (.int v998), none, none]) dL_law_1001 (by decide) rfl rfl ?_
        refine jr_aload_n K dL_law_1003 rfl ?_
        refine jr_aload_n K dL_law_1004 rfl ?_
        refine jr_iload K dL_law_1005 rfl ?_
        refine jr_iconst K dL_law_1007 (v := (nI 1)) (by decide) ?_
        refine jr_iadd K dL_law_1008 ?_
        refine jr_scr K hX dL_law_1009 (fun v1009 => ?_)
        refine jr_aload_n K dL_law_1010 rfl ?_
        refine jr_iload K dL_law_1011 rfl ?_
        refine jr_iconst K dL_law_1013 (v := (nI 2)) (by decide) ?_
        refine jr_iadd K dL_law_1014 ?_
        refine jr_scr K hX dL_law_1015 (fun v1015 => ?_)
        refine jr_calli0 (jrun_V (As := [.int v1009, .int v1015]) (st := []) (ci := 11) K (metX11_price K.hG v8 v1009 v1015 _) mtX11_price mvX11_price q1821 rfl rfl rfl (Nat.le_of_ble_eq_true rfl) (by decide) ⟨Nat.zero_le _, Nat.zero_le _⟩ dL_law_1016) (fun v1016 => ?_)
        refine jr_istore K (L' := [some (.ref p0), some (.ref v0), some (.ref v8), some (.ref v17), some (.int x4_23), some (.int v998), some (.int v1016), none]) dL_law_1019 (by decide) rfl rfl ?_
        refine jr_aload_n K dL_law_1021 rfl ?_
        refine jr_calli0 (jrun_V (As := []) (st := []) (ci := 11) K (metX11_thrown K.hG v8 _) mtX11_thrown mvX11_thrown q1463 rfl rfl rfl (Nat.le_of_ble_eq_true rfl) (by decide) ⟨Nat.zero_le _, Nat.zero_le _⟩ dL_law_1022) (fun v1022 => ?_)
        refine jr_iload K dL_law_1025 rfl ?_
        refine jr_icmp_eq K (tgt := 1032) dL_law_1027 (by decide) ?_ ?_
        · refine jr_iload K dL_law_1032 rfl ?_
          refine jr_join (fun (k1049 : JP) => JR p l e R s m args below meth c Q D S0 8 (bc_23 - mc998) (bs_23 - ms998) k1049 1049 [some (.ref p0), some (.ref v0), some (.ref v8), some (.ref v17), some (.int x4_23), none, none, none] []) ?_ (fun k1049 hk1049 => ?_)
          · refine jr_goto K (tgt := 2055) dL_law_1049 (by decide) ?_
            exact jr_weak (hk2055 (bc_23 - mc998) (bs_23 - ms998)) ⟨rfl, rfl, rfl, rfl, rfl, trivial⟩
          refine jr_if_ne K (tgt := 1049) dL_law_1034 (by decide) ?_ ?_
          · exact jr_weak (hk1049) ⟨rfl, rfl, rfl, rfl, rfl, trivial⟩
          · refine jr_aload_n K dL_law_1037 rfl ?_
            refine jr_iconst K dL_law_1038 (v := (nI 0)) (by decide) ?_
            refine jr_lald K dL_law_1039 (fun v1039 => ?_)
            refine jr_iload K dL_law_1040 rfl ?_
            refine jr_i2l K dL_law_1042 ?_
            refine jr_lcmp K dL_law_1043 ?_
            refine jr_if_eq K (tgt := 1049) dL_law_1044 (by decide) ?_ ?_
            · exact jr_weak (hk1049) ⟨rfl, rfl, rfl, rfl, rfl, trivial⟩
            · refine jr_iconst K dL_law_1047 (v := (nI 0)) (by decide) ?_
              exact JR.imp (fun _ h => ⟨Or.inl rfl, h⟩) (hret _ _ _ _ _ dL_law_1048)
        · refine jr_iconst K dL_law_1030 (v := (nI 0)) (by decide) ?_
          exact JR.imp (fun _ h => ⟨Or.inl rfl, h⟩) (hret _ _ _ _ _ dL_law_1031)
      refine jr_sw (fun hsw13 => ?_) (fun hsw13 => ?_)
      · refine jr_tsIn K dL_law_40 hsw13 (off := 1012) (tgt := 1052) (by decide) (by decide) rfl (by decide) ?_
        refine jr_aload_n K dL_law_1052 rfl ?_
        refine jr_aload_n K dL_law_1053 rfl ?_
        refine jr_iload K dL_law_1054 rfl ?_
        refine jr_iconst K dL_law_1056 (v := (nI 1)) (by decide) ?_
        refine jr_iadd K dL_law_1057 ?_
        refine jr_scr K hX dL_law_1058 (fun v1058 => ?_)
        refine jr_bud (fun mc1059 ms1059 hmc1059 hms1059 => ?_)
        refine jr_calli ⟨hmc1059, hms1059⟩ (jrun_SW (As := [.ref v0, .int v1058]) (st := []) K (metX0_length K.hG mc1059 ms1059 v0 v1058 _) mtX0_length q1330 q1329 rfl rfl (Nat.le_of_ble_eq_true rfl) (by decide) ⟨hmc1059, hms1059⟩ dL_law_1059) (fun v1059 => ?_)
        refine jr_istore K (L' := [some (.ref p0), some (.ref v0), some (.ref v8), some (.ref v17), some (.int x4_23), some (.int v1059), none, none]) dL_law_1062 (by decide) rfl rfl ?_
        refine jr_aload_n K dL_law_1064 rfl ?_
        refine jr_aload_n K dL_law_1065 rfl ?_
        refine jr_iload K dL_law_1066 rfl ?_
        refine jr_iconst K dL_law_1068 (v := (nI 1)) (by decide) ?_
        refine jr_iadd K dL_law_1069 ?_
        refine jr_scr K hX dL_law_1070 (fun v1070 => ?_)
        refine jr_callv0 (jrun_V (As := [.int v1070]) (st := []) (ci := 11) K (metX11_length K.hG v8 v1070 _) mtX11_length mvX11_length q1825 rfl rfl rfl (Nat.le_of_ble_eq_true rfl) (by decide) ⟨Nat.zero_le _, Nat.zero_le _⟩ dL_law_1071) ?_
        refine jr_aload_n K dL_law_1074 rfl ?_
        refine jr_calli0 (jrun_V (As := []) (st := []) (ci := 11) K (metX11_thrown K.hG v8 _) mtX11_thrown mvX11_thrown q1463 rfl rfl rfl (Nat.le_of_ble_eq_true rfl) (by decide) ⟨Nat.zero_le _, Nat.zero_le _⟩ dL_law_1075) (fun v1075 => ?_)
        refine jr_iload K dL_law_1078 rfl ?_
        refine jr_icmp_eq K (tgt := 1085) dL_law_1080 (by decide) ?_ ?_
        · refine jr_goto K (tgt := 2055) dL_law_1085 (by decide) ?_
          exact jr_weak (hk2055 (bc_23 - mc1059) (bs_23 - ms1059)) ⟨rfl, rfl, rfl, rfl, rfl, trivial⟩
        · refine jr_iconst K dL_law_1083 (v := (nI 0)) (by decide) ?_
          exact JR.imp (fun _ h => ⟨Or.inl rfl, h⟩) (hret _ _ _ _ _ dL_law_1084)
      refine jr_sw (fun hsw14 => ?_) (fun hsw14 => ?_)
      · refine jr_tsIn K dL_law_40 hsw14 (off := 1048) (tgt := 1088) (by decide) (by decide) rfl (by decide) ?_
        refine jr_aload_n K dL_law_1088 rfl ?_
        refine jr_aload_n K dL_law_1089 rfl ?_
        refine jr_iload K dL_law_1090 rfl ?_
        refine jr_iconst K dL_law_1092 (v := (nI 1)) (by decide) ?_
        refine jr_iadd K dL_law_1093 ?_
        refine jr_scr K hX dL_law_1094 (fun v1094 => ?_)
        refine jr_aload_n K dL_law_1095 rfl ?_
        refine jr_iload K dL_law_1096 rfl ?_
        refine jr_iconst K dL_law_1098 (v := (nI 2)) (by decide) ?_
        refine jr_iadd K dL_law_1099 ?_
        refine jr_scr K hX dL_law_1100 (fun v1100 => ?_)
        refine jr_aload_n K dL_law_1101 rfl ?_
        refine jr_iload K dL_law_1102 rfl ?_
        refine jr_iconst K dL_law_1104 (v := (nI 3)) (by decide) ?_
        refine jr_iadd K dL_law_1105 ?_
        refine jr_scr K hX dL_law_1106 (fun v1106 => ?_)
        refine jr_aload_n K dL_law_1107 rfl ?_
        refine jr_iload K dL_law_1108 rfl ?_
        refine jr_iconst K dL_law_1110 (v := (nI 4)) (by decide) ?_
        refine jr_iadd K dL_law_1111 ?_
        refine jr_scr K hX dL_law_1112 (fun v1112 => ?_)
        refine jr_aload_n K dL_law_1113 rfl ?_
        refine jr_bud (fun mc1114 ms1114 hmc1114 hms1114 => ?_)
        refine jr_calli ⟨hmc1114, hms1114⟩ (jrun_SW (As := [.ref v0, .int v1094, .int v1100, .int v1106, .int v1112, .ref v17]) (st := []) K (metX0_picture K.hG mc1114 ms1114 v0 v1094 v1100 v1106 v1112 v17 _) mtX0_picture q1337 q1336 rfl rfl (Nat.le_of_ble_eq_true rfl) (by decide) ⟨hmc1114, hms1114⟩ dL_law_1114) (fun v1114 => ?_)
        refine jr_istore K (L' := [some (.ref p0), some (.ref v0), some (.ref v8), some (.ref v17), some (.int x4_23), some (.int v1114), none, none]) dL_law_1117 (by decide) rfl rfl ?_
        refine jr_aload_n K dL_law_1119 rfl ?_
        refine jr_aload_n K dL_law_1120 rfl ?_
        refine jr_iload K dL_law_1121 rfl ?_
        refine jr_iconst K dL_law_1123 (v := (nI 1)) (by decide) ?_
        refine jr_iadd K dL_law_1124 ?_
        refine jr_scr K hX dL_law_1125 (fun v1125 => ?_)
        refine jr_aload_n K dL_law_1126 rfl ?_
        refine jr_iload K dL_law_1127 rfl ?_
        refine jr_iconst K dL_law_1129 (v := (nI 2)) (by decide) ?_
        refine jr_iadd K dL_law_1130 ?_
        refine jr_scr K hX dL_law_1131 (fun v1131 => ?_)
        refine jr_aload_n K dL_law_1132 rfl ?_
        refine jr_iload K dL_law_1133 rfl ?_
        refine jr_iconst K dL_law_1135 (v := (nI 3)) (by decide) ?_
        refine jr_iadd K dL_law_1136 ?_
        refine jr_scr K hX dL_law_1137 (fun v1137 => ?_)
        refine jr_aload_n K dL_law_1138 rfl ?_
        refine jr_iload K dL_law_1139 rfl ?_
        refine jr_iconst K dL_law_1141 (v := (nI 4)) (by decide) ?_
        refine jr_iadd K dL_law_1142 ?_
        refine jr_scr K hX dL_law_1143 (fun v1143 => ?_)
        refine jr_calli0 (jrun_V (As := [.int v1125, .int v1131, .int v1137, .int v1143]) (st := []) (ci := 11) K (metX11_picture K.hG v8 v1125 v1131 v1137 v1143 _) mtX11_picture mvX11_picture q1829 rfl rfl rfl (Nat.le_of_ble_eq_true rfl) (by decide) ⟨Nat.zero_le _, Nat.zero_le _⟩ dL_law_1144) (fun v1144 => ?_)
        refine jr_istore K (L' := [some (.ref p0), some (.ref v0), some (.ref v8), some (.ref v17), some (.int x4_23), some (.int v1114), some (.int v1144), none]) dL_law_1147 (by decide) rfl rfl ?_
        refine jr_aload_n K dL_law_1149 rfl ?_
        refine jr_calli0 (jrun_V (As := []) (st := []) (ci := 11) K (metX11_thrown K.hG v8 _) mtX11_thrown mvX11_thrown q1463 rfl rfl rfl (Nat.le_of_ble_eq_true rfl) (by decide) ⟨Nat.zero_le _, Nat.zero_le _⟩ dL_law_1150) (fun v1150 => ?_)
        refine jr_iload K dL_law_1153 rfl ?_
        refine jr_icmp_eq K (tgt := 1160) dL_law_1155 (by decide) ?_ ?_
        · refine jr_iload K dL_law_1160 rfl ?_
          refine jr_join (fun (k1177 : JP) => JR p l e R s m args below meth c Q D S0 8 (bc_23 - mc1114) (bs_23 - ms1114) k1177 1177 [some (.ref p0), some (.ref v0), some (.ref v8), some (.ref v17), some (.int x4_23), none, none, none] []) ?_ (fun k1177 hk1177 => ?_)
          · refine jr_goto K (tgt := 2055) dL_law_1177 (by decide) ?_
            exact jr_weak (hk2055 (bc_23 - mc1114) (bs_23 - ms1114)) ⟨rfl, rfl, rfl, rfl, rfl, trivial⟩
          refine jr_if_ne K (tgt := 1177) dL_law_1162 (by decide) ?_ ?_
          · exact jr_weak (hk1177) ⟨rfl, rfl, rfl, rfl, rfl, trivial⟩
          · refine jr_aload_n K dL_law_1165 rfl ?_
            refine jr_iconst K dL_law_1166 (v := (nI 0)) (by decide) ?_
            refine jr_lald K dL_law_1167 (fun v1167 => ?_)
            refine jr_iload K dL_law_1168 rfl ?_
            refine jr_i2l K dL_law_1170 ?_
            refine jr_lcmp K dL_law_1171 ?_
            refine jr_if_eq K (tgt := 1177) dL_law_1172 (by decide) ?_ ?_
            · exact jr_weak (hk1177) ⟨rfl, rfl, rfl, rfl, rfl, trivial⟩
            · refine jr_iconst K dL_law_1175 (v := (nI 0)) (by decide) ?_
              exact JR.imp (fun _ h => ⟨Or.inl rfl, h⟩) (hret _ _ _ _ _ dL_law_1176)
        · refine jr_iconst K dL_law_1158 (v := (nI 0)) (by decide) ?_
          exact JR.imp (fun _ h => ⟨Or.inl rfl, h⟩) (hret _ _ _ _ _ dL_law_1159)
      refine jr_sw (fun hsw15 => ?_) (fun hsw15 => ?_)
      · refine jr_tsIn K dL_law_40 hsw15 (off := 1140) (tgt := 1180) (by decide) (by decide) rfl (by decide) ?_
        refine jr_aload_n K dL_law_1180 rfl ?_
        refine jr_calli0 (jrun_V (As := []) (st := []) (ci := 1) K (metX1_least K.hG v0 _) mtX1_least mvX1_least q592 rfl rfl rfl (Nat.le_of_ble_eq_true rfl) (by decide) ⟨Nat.zero_le _, Nat.zero_le _⟩ dL_law_1181) (fun v1181 => ?_)
        refine jr_aload_n K dL_law_1184 rfl ?_
        refine jr_calli0 (jrun_V (As := []) (st := [.int v1181]) (ci := 11) K (metX11_least K.hG v8 _) mtX11_least mvX11_least q1883 rfl rfl rfl (Nat.le_of_ble_eq_true rfl) (by decide) ⟨Nat.zero_le _, Nat.zero_le _⟩ dL_law_1185) (fun v1185 => ?_)
        refine jr_icmp_eq K (tgt := 2055) dL_law_1188 (by decide) ?_ ?_
        · exact jr_weak (hk2055 bc_23 bs_23) ⟨rfl, rfl, rfl, rfl, rfl, trivial⟩
        · refine jr_iconst K dL_law_1191 (v := (nI 0)) (by decide) ?_
          exact JR.imp (fun _ h => ⟨Or.inl rfl, h⟩) (hret _ _ _ _ _ dL_law_1192)
      refine jr_sw (fun hsw16 => ?_) (fun hsw16 => ?_)
      · refine jr_tsIn K dL_law_40 hsw16 (off := 1153) (tgt := 1193) (by decide) (by decide) rfl (by decide) ?_
        refine jr_aload_n K dL_law_1193 rfl ?_
        refine jr_calli0 (jrun_V (As := []) (st := []) (ci := 1) K (metX1_many K.hG v0 _) mtX1_many mvX1_many q796 rfl rfl rfl (Nat.le_of_ble_eq_true rfl) (by decide) ⟨Nat.zero_le _, Nat.zero_le _⟩ dL_law_1194) (fun v1194 => ?_)
        refine jr_aload_n K dL_law_1197 rfl ?_
        refine jr_calli0 (jrun_V (As := []) (st := [.int v1194]) (ci := 11) K (metX11_many K.hG v8 _) mtX11_many mvX11_many q1991 rfl rfl rfl (Nat.le_of_ble_eq_true rfl) (by decide) ⟨Nat.zero_le _, Nat.zero_le _⟩ dL_law_1198) (fun v1198 => ?_)
        refine jr_icmp_eq K (tgt := 2055) dL_law_1201 (by decide) ?_ ?_
        · exact jr_weak (hk2055 bc_23 bs_23) ⟨rfl, rfl, rfl, rfl, rfl, trivial⟩
        · refine jr_iconst K dL_law_1204 (v := (nI 0)) (by decide) ?_
          exact JR.imp (fun _ h => ⟨Or.inl rfl, h⟩) (hret _ _ _ _ _ dL_law_1205)
      refine jr_sw (fun hsw17 => ?_) (fun hsw17 => ?_)
      · refine jr_tsIn K dL_law_40 hsw17 (off := 1166) (tgt := 1206) (by decide) (by decide) rfl (by decide) ?_
        refine jr_aload_n K dL_law_1206 rfl ?_
        refine jr_aload_n K dL_law_1207 rfl ?_
        refine jr_iload K dL_law_1208 rfl ?_
        refine jr_iconst K dL_law_1210 (v := (nI 1)) (by decide) ?_
        refine jr_iadd K dL_law_1211 ?_
        refine jr_scr K hX dL_law_1212 (fun v1212 => ?_)
        refine jr_aload_n K dL_law_1213 rfl ?_
        refine jr_bud (fun mc1214 ms1214 hmc1214 hms1214 => ?_)
        refine jr_calli ⟨hmc1214, hms1214⟩ (jrun_SW (As := [.ref v0, .int v1212, .ref v17]) (st := []) K (metX0_read K.hG mc1214 ms1214 v0 v1212 v17 _) mtX0_read q1364 q1363 rfl rfl (Nat.le_of_ble_eq_true rfl) (by decide) ⟨hmc1214, hms1214⟩ dL_law_1214) (fun v1214 => ?_)
        refine jr_istore K (L' := [some (.ref p0), some (.ref v0), some (.ref v8), some (.ref v17), some (.int x4_23), some (.int v1214), none, none]) dL_law_1217 (by decide) rfl rfl ?_
        refine jr_aload_n K dL_law_1219 rfl ?_
        refine jr_aload_n K dL_law_1220 rfl ?_
        refine jr_iload K dL_law_1221 rfl ?_
        refine jr_iconst K dL_law_1223 (v := (nI 1)) (by decide) ?_
        refine jr_iadd K dL_law_1224 ?_
        refine jr_scr K hX dL_law_1225 (fun v1225 => ?_)
        refine jr_calli0 (jrun_V (As := [.int v1225]) (st := []) (ci := 11) K (metX11_read K.hG v8 v1225 _) mtX11_read mvX11_read q1995 rfl rfl rfl (Nat.le_of_ble_eq_true rfl) (by decide) ⟨Nat.zero_le _, Nat.zero_le _⟩ dL_law_1226) (fun v1226 => ?_)
        refine jr_istore K (L' := [some (.ref p0), some (.ref v0), some (.ref v8), some (.ref v17), some (.int x4_23), some (.int v1214), some (.int v1226), none]) dL_law_1229 (by decide) rfl rfl ?_
        refine jr_aload_n K dL_law_1231 rfl ?_
        refine jr_calli0 (jrun_V (As := []) (st := []) (ci := 11) K (metX11_thrown K.hG v8 _) mtX11_thrown mvX11_thrown q1463 rfl rfl rfl (Nat.le_of_ble_eq_true rfl) (by decide) ⟨Nat.zero_le _, Nat.zero_le _⟩ dL_law_1232) (fun v1232 => ?_)
        refine jr_iload K dL_law_1235 rfl ?_
        refine jr_icmp_eq K (tgt := 1242) dL_law_1237 (by decide) ?_ ?_
        · refine jr_iload K dL_law_1242 rfl ?_
          refine jr_join (fun (k1259 : JP) => JR p l e R s m args below meth c Q D S0 8 (bc_23 - mc1214) (bs_23 - ms1214) k1259 1259 [some (.ref p0), some (.ref v0), some (.ref v8), some (.ref v17), some (.int x4_23), none, none, none] []) ?_ (fun k1259 hk1259 => ?_)
          · refine jr_goto K (tgt := 2055) dL_law_1259 (by decide) ?_
            exact jr_weak (hk2055 (bc_23 - mc1214) (bs_23 - ms1214)) ⟨rfl, rfl, rfl, rfl, rfl, trivial⟩
          refine jr_if_ne K (tgt := 1259) dL_law_1244 (by decide) ?_ ?_
          · exact jr_weak (hk1259) ⟨rfl, rfl, rfl, rfl, rfl, trivial⟩
          · refine jr_aload_n K dL_law_1247 rfl ?_
            refine jr_iconst K dL_law_1248 (v := (nI 0)) (by decide) ?_
            refine jr_lald K dL_law_1249 (fun v1249 => ?_)
            refine jr_iload K dL_law_1250 rfl ?_
            refine jr_i2l K dL_law_1252 ?_
            refine jr_lcmp K dL_law_1253 ?_
            refine jr_if_eq K (tgt := 1259) dL_law_1254 (by decide) ?_ ?_
            · exact jr_weak (hk1259) ⟨rfl, rfl, rfl, rfl, rfl, trivial⟩
            · refine jr_iconst K dL_law_1257 (v := (nI 0)) (by decide) ?_
              exact JR.imp (fun _ h => ⟨Or.inl rfl, h⟩) (hret _ _ _ _ _ dL_law_1258)
        · refine jr_iconst K dL_law_1240 (v := (nI 0)) (by decide) ?_
          exact JR.imp (fun _ h => ⟨Or.inl rfl, h⟩) (hret _ _ _ _ _ dL_law_1241)
      refine jr_sw (fun hsw18 => ?_) (fun hsw18 => ?_)
      · refine jr_tsIn K dL_law_40 hsw18 (off := 1222) (tgt := 1262) (by decide) (by decide) rfl (by decide) ?_
        refine jr_aload_n K dL_law_1262 rfl ?_
        refine jr_aload_n K dL_law_1263 rfl ?_
        refine jr_iload K dL_law_1264 rfl ?_
        refine jr_iconst K dL_law_1266 (v := (nI 1)) (by decide) ?_
        refine jr_iadd K dL_law_1267 ?_
        refine jr_scr K hX dL_law_1268 (fun v1268 => ?_)
        refine jr_aload_n K dL_law_1269 rfl ?_
        refine jr_bud (fun mc1270 ms1270 hmc1270 hms1270 => ?_)
        refine jr_calli ⟨hmc1270, hms1270⟩ (jrun_SW (As := [.ref v0, .int v1268, .ref v17]) (st := []) K (metX0_readNext K.hG mc1270 ms1270 v0 v1268 v17 _) mtX0_readNext q1371 q1370 rfl rfl (Nat.le_of_ble_eq_true rfl) (by decide) ⟨hmc1270, hms1270⟩ dL_law_1270) (fun v1270 => ?_)
        refine jr_istore K (L' := [some (.ref p0), some (.ref v0), some (.ref v8), some (.ref v17), some (.int x4_23), some (.int v1270), none, none]) dL_law_1273 (by decide) rfl rfl ?_
        refine jr_aload_n K dL_law_1275 rfl ?_
        refine jr_aload_n K dL_law_1276 rfl ?_
        refine jr_iload K dL_law_1277 rfl ?_
        refine jr_iconst K dL_law_1279 (v := (nI 1)) (by decide) ?_
        refine jr_iadd K dL_law_1280 ?_
        refine jr_scr K hX dL_law_1281 (fun v1281 => ?_)
        refine jr_calli0 (jrun_V (As := [.int v1281]) (st := []) (ci := 11) K (metX11_readNext K.hG v8 v1281 _) mtX11_readNext mvX11_readNext q1999 rfl rfl rfl (Nat.le_of_ble_eq_true rfl) (by decide) ⟨Nat.zero_le _, Nat.zero_le _⟩ dL_law_1282) (fun v1282 => ?_)
        refine jr_istore K (L' := [some (.ref p0), some (.ref v0), some (.ref v8), some (.ref v17), some (.int x4_23), some (.int v1270), some (.int v1282), none]) dL_law_1285 (by decide) rfl rfl ?_
        refine jr_aload_n K dL_law_1287 rfl ?_
        refine jr_calli0 (jrun_V (As := []) (st := []) (ci := 11) K (metX11_thrown K.hG v8 _) mtX11_thrown mvX11_thrown q1463 rfl rfl rfl (Nat.le_of_ble_eq_true rfl) (by decide) ⟨Nat.zero_le _, Nat.zero_le _⟩ dL_law_1288) (fun v1288 => ?_)
        refine jr_iload K dL_law_1291 rfl ?_
        refine jr_icmp_eq K (tgt := 1298) dL_law_1293 (by decide) ?_ ?_
        · refine jr_iload K dL_law_1298 rfl ?_
          refine jr_join (fun (k1315 : JP) => JR p l e R s m args below meth c Q D S0 8 (bc_23 - mc1270) (bs_23 - ms1270) k1315 1315 [some (.ref p0), some (.ref v0), some (.ref v8), some (.ref v17), some (.int x4_23), none, none, none] []) ?_ (fun k1315 hk1315 => ?_)
          · refine jr_goto K (tgt := 2055) dL_law_1315 (by decide) ?_
            exact jr_weak (hk2055 (bc_23 - mc1270) (bs_23 - ms1270)) ⟨rfl, rfl, rfl, rfl, rfl, trivial⟩
          refine jr_if_ne K (tgt := 1315) dL_law_1300 (by decide) ?_ ?_
          · exact jr_weak (hk1315) ⟨rfl, rfl, rfl, rfl, rfl, trivial⟩
          · refine jr_aload_n K dL_law_1303 rfl ?_
            refine jr_iconst K dL_law_1304 (v := (nI 0)) (by decide) ?_
            refine jr_lald K dL_law_1305 (fun v1305 => ?_)
            refine jr_iload K dL_law_1306 rfl ?_
            refine jr_i2l K dL_law_1308 ?_
            refine jr_lcmp K dL_law_1309 ?_
            refine jr_if_eq K (tgt := 1315) dL_law_1310 (by decide) ?_ ?_
            · exact jr_weak (hk1315) ⟨rfl, rfl, rfl, rfl, rfl, trivial⟩
            · refine jr_iconst K dL_law_1313 (v := (nI 0)) (by decide) ?_
              exact JR.imp (fun _ h => ⟨Or.inl rfl, h⟩) (hret _ _ _ _ _ dL_law_1314)
        · refine jr_iconst K dL_law_1296 (v := (nI 0)) (by decide) ?_
          exact JR.imp (fun _ h => ⟨Or.inl rfl, h⟩) (hret _ _ _ _ _ dL_law_1297)
      refine jr_sw (fun hsw19 => ?_) (fun hsw19 => ?_)
      · refine jr_tsIn K dL_law_40 hsw19 (off := 1278) (tgt := 1318) (by decide) (by decide) rfl (by decide) ?_
        refine jr_aload_n K dL_law_1318 rfl ?_
        refine jr_aload_n K dL_law_1319 rfl ?_
        refine jr_iload K dL_law_1320 rfl ?_
        refine jr_iconst K dL_law_1322 (v := (nI 1)) (by decide) ?_
        refine jr_iadd K dL_law_1323 ?_
        refine jr_scr K hX dL_law_1324 (fun v1324 => ?_)
        refine jr_aload_n K dL_law_1325 rfl ?_
        refine jr_iload K dL_law_1326 rfl ?_
        refine jr_iconst K dL_law_1328 (v := (nI 2)) (by decide) ?_
        refine jr_iadd K dL_law_1329 ?_
        refine jr_scr K hX dL_law_1330 (fun v1330 => ?_)
        refine jr_aload_n K dL_law_1331 rfl ?_
        refine jr_bud (fun mc1332 ms1332 hmc1332 hms1332 => ?_)
        refine jr_calli ⟨hmc1332, hms1332⟩ (jrun_SW (As := [.ref v0, .int v1324, .int v1330, .ref v17]) (st := []) K (metX0_slip K.hG mc1332 ms1332 v0 v1324 v1330 v17 _) mtX0_slip q1378 q1377 rfl rfl (Nat.le_of_ble_eq_true rfl) (by decide) ⟨hmc1332, hms1332⟩ dL_law_1332) (fun v1332 => ?_)
        refine jr_istore K (L' := [some (.ref p0), some (.ref v0), some (.ref v8), some (.ref v17), some (.int x4_23), some (.int v1332), none, none]) dL_law_1335 (by decide) rfl rfl ?_
        refine jr_aload_n K dL_law_1337 rfl ?_
        refine jr_aload_n K dL_law_1338 rfl ?_
        refine jr_iload K dL_law_1339 rfl ?_
        refine jr_iconst K dL_law_1341 (v := (nI 1)) (by decide) ?_
        refine jr_iadd K dL_law_1342 ?_
        refine jr_scr K hX dL_law_1343 (fun v1343 => ?_)
        refine jr_aload_n K dL_law_1344 rfl ?_
        refine jr_iload K dL_law_1345 rfl ?_
        refine jr_iconst K dL_law_1347 (v := (nI 2)) (by decide) ?_
        refine jr_iadd K dL_law_1348 ?_
        refine jr_scr K hX dL_law_1349 (fun v1349 => ?_)
        refine jr_calli0 (jrun_V (As := [.int v1343, .int v1349]) (st := []) (ci := 11) K (metX11_slip K.hG v8 v1343 v1349 _) mtX11_slip mvX11_slip q2003 rfl rfl rfl (Nat.le_of_ble_eq_true rfl) (by decide) ⟨Nat.zero_le _, Nat.zero_le _⟩ dL_law_1350) (fun v1350 => ?_)
        refine jr_istore K (L' := [some (.ref p0), some (.ref v0), some (.ref v8), some (.ref v17), some (.int x4_23), some (.int v1332), some (.int v1350), none]) dL_law_1353 (by decide) rfl rfl ?_
        refine jr_aload_n K dL_law_1355 rfl ?_
        refine jr_calli0 (jrun_V (As := []) (st := []) (ci := 11) K (metX11_thrown K.hG v8 _) mtX11_thrown mvX11_thrown q1463 rfl rfl rfl (Nat.le_of_ble_eq_true rfl) (by decide) ⟨Nat.zero_le _, Nat.zero_le _⟩ dL_law_1356) (fun v1356 => ?_)
        refine jr_iload K dL_law_1359 rfl ?_
        refine jr_icmp_eq K (tgt := 1366) dL_law_1361 (by decide) ?_ ?_
        · refine jr_iload K dL_law_1366 rfl ?_
          refine jr_join (fun (k1383 : JP) => JR p l e R s m args below meth c Q D S0 8 (bc_23 - mc1332) (bs_23 - ms1332) k1383 1383 [some (.ref p0), some (.ref v0), some (.ref v8), some (.ref v17), some (.int x4_23), none, none, none] []) ?_ (fun k1383 hk1383 => ?_)
          · refine jr_goto K (tgt := 2055) dL_law_1383 (by decide) ?_
            exact jr_weak (hk2055 (bc_23 - mc1332) (bs_23 - ms1332)) ⟨rfl, rfl, rfl, rfl, rfl, trivial⟩
          refine jr_if_ne K (tgt := 1383) dL_law_1368 (by decide) ?_ ?_
          · exact jr_weak (hk1383) ⟨rfl, rfl, rfl, rfl, rfl, trivial⟩
          · refine jr_aload_n K dL_law_1371 rfl ?_
            refine jr_iconst K dL_law_1372 (v := (nI 0)) (by decide) ?_
            refine jr_lald K dL_law_1373 (fun v1373 => ?_)
            refine jr_iload K dL_law_1374 rfl ?_
            refine jr_i2l K dL_law_1376 ?_
            refine jr_lcmp K dL_law_1377 ?_
            refine jr_if_eq K (tgt := 1383) dL_law_1378 (by decide) ?_ ?_
            · exact jr_weak (hk1383) ⟨rfl, rfl, rfl, rfl, rfl, trivial⟩
            · refine jr_iconst K dL_law_1381 (v := (nI 0)) (by decide) ?_
              exact JR.imp (fun _ h => ⟨Or.inl rfl, h⟩) (hret _ _ _ _ _ dL_law_1382)
        · refine jr_iconst K dL_law_1364 (v := (nI 0)) (by decide) ?_
          exact JR.imp (fun _ h => ⟨Or.inl rfl, h⟩) (hret _ _ _ _ _ dL_law_1365)
      refine jr_sw (fun hsw20 => ?_) (fun hsw20 => ?_)
      · refine jr_tsIn K dL_law_40 hsw20 (off := 1346) (tgt := 1386) (by decide) (by decide) rfl (by decide) ?_
        refine jr_aload_n K dL_law_1386 rfl ?_
        refine jr_aload_n K dL_law_1387 rfl ?_
        refine jr_iload K dL_law_1388 rfl ?_
        refine jr_iconst K dL_law_1390 (v := (nI 1)) (by decide) ?_
        refine jr_iadd K dL_law_1391 ?_
        refine jr_scr K hX dL_law_1392 (fun v1392 => ?_)
        refine jr_aload_n K dL_law_1393 rfl ?_
        refine jr_iload K dL_law_1394 rfl ?_
        refine jr_iconst K dL_law_1396 (v := (nI 2)) (by decide) ?_
        refine jr_iadd K dL_law_1397 ?_
        refine jr_scr K hX dL_law_1398 (fun v1398 => ?_)
        refine jr_aload_n K dL_law_1399 rfl ?_
        refine jr_bud (fun mc1400 ms1400 hmc1400 hms1400 => ?_)
        refine jr_calli ⟨hmc1400, hms1400⟩ (jrun_SW (As := [.ref v0, .int v1392, .int v1398, .ref v17]) (st := []) K (metX0_slips K.hG mc1400 ms1400 v0 v1392 v1398 v17 _) mtX0_slips q1385 q1384 rfl rfl (Nat.le_of_ble_eq_true rfl) (by decide) ⟨hmc1400, hms1400⟩ dL_law_1400) (fun v1400 => ?_)
        refine jr_istore K (L' := [some (.ref p0), some (.ref v0), some (.ref v8), some (.ref v17), some (.int x4_23), some (.int v1400), none, none]) dL_law_1403 (by decide) rfl rfl ?_
        refine jr_aload_n K dL_law_1405 rfl ?_
        refine jr_aload_n K dL_law_1406 rfl ?_
        refine jr_iload K dL_law_1407 rfl ?_
        refine jr_iconst K dL_law_1409 (v := (nI 1)) (by decide) ?_
        refine jr_iadd K dL_law_1410 ?_
        refine jr_scr K hX dL_law_1411 (fun v1411 => ?_)
        refine jr_aload_n K dL_law_1412 rfl ?_
        refine jr_iload K dL_law_1413 rfl ?_
        refine jr_iconst K dL_law_1415 (v := (nI 2)) (by decide) ?_
        refine jr_iadd K dL_law_1416 ?_
        refine jr_scr K hX dL_law_1417 (fun v1417 => ?_)
        refine jr_calli0 (jrun_V (As := [.int v1411, .int v1417]) (st := []) (ci := 11) K (metX11_slips K.hG v8 v1411 v1417 _) mtX11_slips mvX11_slips q2011 rfl rfl rfl (Nat.le_of_ble_eq_true rfl) (by decide) ⟨Nat.zero_le _, Nat.zero_le _⟩ dL_law_1418) (fun v1418 => ?_)
        refine jr_istore K (L' := [some (.ref p0), some (.ref v0), some (.ref v8), some (.ref v17), some (.int x4_23), some (.int v1400), some (.int v1418), none]) dL_law_1421 (by decide) rfl rfl ?_
        refine jr_aload_n K dL_law_1423 rfl ?_
        refine jr_calli0 (jrun_V (As := []) (st := []) (ci := 11) K (metX11_thrown K.hG v8 _) mtX11_thrown mvX11_thrown q1463 rfl rfl rfl (Nat.le_of_ble_eq_true rfl) (by decide) ⟨Nat.zero_le _, Nat.zero_le _⟩ dL_law_1424) (fun v1424 => ?_)
        refine jr_iload K dL_law_1427 rfl ?_
        refine jr_icmp_eq K (tgt := 1434) dL_law_1429 (by decide) ?_ ?_
        · refine jr_iload K dL_law_1434 rfl ?_
          refine jr_join (fun (k1451 : JP) => JR p l e R s m args below meth c Q D S0 8 (bc_23 - mc1400) (bs_23 - ms1400) k1451 1451 [some (.ref p0), some (.ref v0), some (.ref v8), some (.ref v17), some (.int x4_23), none, none, none] []) ?_ (fun k1451 hk1451 => ?_)
          · refine jr_goto K (tgt := 2055) dL_law_1451 (by decide) ?_
            exact jr_weak (hk2055 (bc_23 - mc1400) (bs_23 - ms1400)) ⟨rfl, rfl, rfl, rfl, rfl, trivial⟩
          refine jr_if_ne K (tgt := 1451) dL_law_1436 (by decide) ?_ ?_
          · exact jr_weak (hk1451) ⟨rfl, rfl, rfl, rfl, rfl, trivial⟩
          · refine jr_aload_n K dL_law_1439 rfl ?_
            refine jr_iconst K dL_law_1440 (v := (nI 0)) (by decide) ?_
            refine jr_lald K dL_law_1441 (fun v1441 => ?_)
            refine jr_iload K dL_law_1442 rfl ?_
            refine jr_i2l K dL_law_1444 ?_
            refine jr_lcmp K dL_law_1445 ?_
            refine jr_if_eq K (tgt := 1451) dL_law_1446 (by decide) ?_ ?_
            · exact jr_weak (hk1451) ⟨rfl, rfl, rfl, rfl, rfl, trivial⟩
            · refine jr_iconst K dL_law_1449 (v := (nI 0)) (by decide) ?_
              exact JR.imp (fun _ h => ⟨Or.inl rfl, h⟩) (hret _ _ _ _ _ dL_law_1450)
        · refine jr_iconst K dL_law_1432 (v := (nI 0)) (by decide) ?_
          exact JR.imp (fun _ h => ⟨Or.inl rfl, h⟩) (hret _ _ _ _ _ dL_law_1433)
      refine jr_sw (fun hsw21 => ?_) (fun hsw21 => ?_)
      · refine jr_tsIn K dL_law_40 hsw21 (off := 1414) (tgt := 1454) (by decide) (by decide) rfl (by decide) ?_
        refine jr_aload_n K dL_law_1454 rfl ?_
        refine jr_aload_n K dL_law_1455 rfl ?_
        refine jr_iload K dL_law_1456 rfl ?_
        refine jr_iconst K dL_law_1458 (v := (nI 1)) (by decide) ?_
        refine jr_iadd K dL_law_1459 ?_
        refine jr_scr K hX dL_law_1460 (fun v1460 => ?_)
        refine jr_aload_n K dL_law_1461 rfl ?_
        refine jr_bud (fun mc1462 ms1462 hmc1462 hms1462 => ?_)
        refine jr_calli ⟨hmc1462, hms1462⟩ (jrun_SW (As := [.ref v0, .int v1460, .ref v17]) (st := []) K (metX0_breaks K.hG mc1462 ms1462 v0 v1460 v17 _) mtX0_breaks q1392 q1391 rfl rfl (Nat.le_of_ble_eq_true rfl) (by decide) ⟨hmc1462, hms1462⟩ dL_law_1462) (fun v1462 => ?_)
        refine jr_istore K (L' := [some (.ref p0), some (.ref v0), some (.ref v8), some (.ref v17), some (.int x4_23), some (.int v1462), none, none]) dL_law_1465 (by decide) rfl rfl ?_
        refine jr_aload_n K dL_law_1467 rfl ?_
        refine jr_aload_n K dL_law_1468 rfl ?_
        refine jr_iload K dL_law_1469 rfl ?_
        refine jr_iconst K dL_law_1471 (v := (nI 1)) (by decide) ?_
        refine jr_iadd K dL_law_1472 ?_
        refine jr_scr K hX dL_law_1473 (fun v1473 => ?_)
        refine jr_calli0 (jrun_V (As := [.int v1473]) (st := []) (ci := 11) K (metX11_breaks K.hG v8 v1473 _) mtX11_breaks mvX11_breaks q2015 rfl rfl rfl (Nat.le_of_ble_eq_true rfl) (by decide) ⟨Nat.zero_le _, Nat.zero_le _⟩ dL_law_1474) (fun v1474 => ?_)
        refine jr_istore K (L' := [some (.ref p0), some (.ref v0), some (.ref v8), some (.ref v17), some (.int x4_23), some (.int v1462), some (.int v1474), none]) dL_law_1477 (by decide) rfl rfl ?_
        refine jr_aload_n K dL_law_1479 rfl ?_
        refine jr_calli0 (jrun_V (As := []) (st := []) (ci := 11) K (metX11_thrown K.hG v8 _) mtX11_thrown mvX11_thrown q1463 rfl rfl rfl (Nat.le_of_ble_eq_true rfl) (by decide) ⟨Nat.zero_le _, Nat.zero_le _⟩ dL_law_1480) (fun v1480 => ?_)
        refine jr_iload K dL_law_1483 rfl ?_
        refine jr_icmp_eq K (tgt := 1490) dL_law_1485 (by decide) ?_ ?_
        · refine jr_iload K dL_law_1490 rfl ?_
          refine jr_join (fun (k1507 : JP) => JR p l e R s m args below meth c Q D S0 8 (bc_23 - mc1462) (bs_23 - ms1462) k1507 1507 [some (.ref p0), some (.ref v0), some (.ref v8), some (.ref v17), some (.int x4_23), none, none, none] []) ?_ (fun k1507 hk1507 => ?_)
          · refine jr_goto K (tgt := 2055) dL_law_1507 (by decide) ?_
            exact jr_weak (hk2055 (bc_23 - mc1462) (bs_23 - ms1462)) ⟨rfl, rfl, rfl, rfl, rfl, trivial⟩
          refine jr_if_ne K (tgt := 1507) dL_law_1492 (by decide) ?_ ?_
          · exact jr_weak (hk1507) ⟨rfl, rfl, rfl, rfl, rfl, trivial⟩
          · refine jr_aload_n K dL_law_1495 rfl ?_
            refine jr_iconst K dL_law_1496 (v := (nI 0)) (by decide) ?_
            refine jr_lald K dL_law_1497 (fun v1497 => ?_)
            refine jr_iload K dL_law_1498 rfl ?_
            refine jr_i2l K dL_law_1500 ?_
            refine jr_lcmp K dL_law_1501 ?_
            refine jr_if_eq K (tgt := 1507) dL_law_1502 (by decide) ?_ ?_
            · exact jr_weak (hk1507) ⟨rfl, rfl, rfl, rfl, rfl, trivial⟩
            · refine jr_iconst K dL_law_1505 (v := (nI 0)) (by decide) ?_
              exact JR.imp (fun _ h => ⟨Or.inl rfl, h⟩) (hret _ _ _ _ _ dL_law_1506)
        · refine jr_iconst K dL_law_1488 (v := (nI 0)) (by decide) ?_
          exact JR.imp (fun _ h => ⟨Or.inl rfl, h⟩) (hret _ _ _ _ _ dL_law_1489)
      refine jr_sw (fun hsw22 => ?_) (fun hsw22 => ?_)
      · refine jr_tsIn K dL_law_40 hsw22 (off := 1470) (tgt := 1510) (by decide) (by decide) rfl (by decide) ?_
        refine jr_aload_n K dL_law_1510 rfl ?_
        refine jr_aload_n K dL_law_1511 rfl ?_
        refine jr_iload K dL_law_1512 rfl ?_
        refine jr_iconst K dL_law_1514 (v := (nI 1)) (by decide) ?_
        refine jr_iadd K dL_law_1515 ?_
        refine jr_scr K hX dL_law_1516 (fun v1516 => ?_)
        refine jr_aload_n K dL_law_1517 rfl ?_
        refine jr_bud (fun mc1518 ms1518 hmc1518 hms1518 => ?_)
        refine jr_calli ⟨hmc1518, hms1518⟩ (jrun_SW (As := [.ref v0, .int v1516, .ref v17]) (st := []) K (metX0_brief K.hG mc1518 ms1518 v0 v1516 v17 _) mtX0_brief q1403 q1402 rfl rfl (Nat.le_of_ble_eq_true rfl) (by decide) ⟨hmc1518, hms1518⟩ dL_law_1518) (fun v1518 => ?_)
        refine jr_istore K (L' := [some (.ref p0), some (.ref v0), some (.ref v8), some (.ref v17), some (.int x4_23), some (.int v1518), none, none]) dL_law_1521 (by decide) rfl rfl ?_
        refine jr_aload_n K dL_law_1523 rfl ?_
        refine jr_aload_n K dL_law_1524 rfl ?_
        refine jr_iload K dL_law_1525 rfl ?_
        refine jr_iconst K dL_law_1527 (v := (nI 1)) (by decide) ?_
        refine jr_iadd K dL_law_1528 ?_
        refine jr_scr K hX dL_law_1529 (fun v1529 => ?_)
        refine jr_calli0 (jrun_V (As := [.int v1529]) (st := []) (ci := 11) K (metX11_brief K.hG v8 v1529 _) mtX11_brief mvX11_brief q2019 rfl rfl rfl (Nat.le_of_ble_eq_true rfl) (by decide) ⟨Nat.zero_le _, Nat.zero_le _⟩ dL_law_1530) (fun v1530 => ?_)
        refine jr_istore K (L' := [some (.ref p0), some (.ref v0), some (.ref v8), some (.ref v17), some (.int x4_23), some (.int v1518), some (.int v1530), none]) dL_law_1533 (by decide) rfl rfl ?_
        refine jr_aload_n K dL_law_1535 rfl ?_
        refine jr_calli0 (jrun_V (As := []) (st := []) (ci := 11) K (metX11_thrown K.hG v8 _) mtX11_thrown mvX11_thrown q1463 rfl rfl rfl (Nat.le_of_ble_eq_true rfl) (by decide) ⟨Nat.zero_le _, Nat.zero_le _⟩ dL_law_1536) (fun v1536 => ?_)
        refine jr_iload K dL_law_1539 rfl ?_
        refine jr_icmp_eq K (tgt := 1546) dL_law_1541 (by decide) ?_ ?_
        · refine jr_iload K dL_law_1546 rfl ?_
          refine jr_join (fun (k1563 : JP) => JR p l e R s m args below meth c Q D S0 8 (bc_23 - mc1518) (bs_23 - ms1518) k1563 1563 [some (.ref p0), some (.ref v0), some (.ref v8), some (.ref v17), some (.int x4_23), none, none, none] []) ?_ (fun k1563 hk1563 => ?_)
          · refine jr_goto K (tgt := 2055) dL_law_1563 (by decide) ?_
            exact jr_weak (hk2055 (bc_23 - mc1518) (bs_23 - ms1518)) ⟨rfl, rfl, rfl, rfl, rfl, trivial⟩
          refine jr_if_ne K (tgt := 1563) dL_law_1548 (by decide) ?_ ?_
          · exact jr_weak (hk1563) ⟨rfl, rfl, rfl, rfl, rfl, trivial⟩
          · refine jr_aload_n K dL_law_1551 rfl ?_
            refine jr_iconst K dL_law_1552 (v := (nI 0)) (by decide) ?_
            refine jr_lald K dL_law_1553 (fun v1553 => ?_)
            refine jr_iload K dL_law_1554 rfl ?_
            refine jr_i2l K dL_law_1556 ?_
            refine jr_lcmp K dL_law_1557 ?_
            refine jr_if_eq K (tgt := 1563) dL_law_1558 (by decide) ?_ ?_
            · exact jr_weak (hk1563) ⟨rfl, rfl, rfl, rfl, rfl, trivial⟩
            · refine jr_iconst K dL_law_1561 (v := (nI 0)) (by decide) ?_
              exact JR.imp (fun _ h => ⟨Or.inl rfl, h⟩) (hret _ _ _ _ _ dL_law_1562)
        · refine jr_iconst K dL_law_1544 (v := (nI 0)) (by decide) ?_
          exact JR.imp (fun _ h => ⟨Or.inl rfl, h⟩) (hret _ _ _ _ _ dL_law_1545)
      refine jr_sw (fun hsw23 => ?_) (fun hsw23 => ?_)
      · refine jr_tsIn K dL_law_40 hsw23 (off := 1526) (tgt := 1566) (by decide) (by decide) rfl (by decide) ?_
        refine jr_aload_n K dL_law_1566 rfl ?_
        refine jr_calli0 (jrun_V (As := []) (st := []) (ci := 1) K (metX1_part K.hG v0 _) mtX1_part mvX1_part q800 rfl rfl rfl (Nat.le_of_ble_eq_true rfl) (by decide) ⟨Nat.zero_le _, Nat.zero_le _⟩ dL_law_1567) (fun v1567 => ?_)
        refine jr_aload_n K dL_law_1570 rfl ?_
        refine jr_calli0 (jrun_V (As := []) (st := [.int v1567]) (ci := 11) K (metX11_part K.hG v8 _) mtX11_part mvX11_part q2023 rfl rfl rfl (Nat.le_of_ble_eq_true rfl) (by decide) ⟨Nat.zero_le _, Nat.zero_le _⟩ dL_law_1571) (fun v1571 => ?_)
        refine jr_icmp_eq K (tgt := 2055) dL_law_1574 (by decide) ?_ ?_
        · exact jr_weak (hk2055 bc_23 bs_23) ⟨rfl, rfl, rfl, rfl, rfl, trivial⟩
        · refine jr_iconst K dL_law_1577 (v := (nI 0)) (by decide) ?_
          exact JR.imp (fun _ h => ⟨Or.inl rfl, h⟩) (hret _ _ _ _ _ dL_law_1578)
      refine jr_sw (fun hsw24 => ?_) (fun hsw24 => ?_)
      · refine jr_tsIn K dL_law_40 hsw24 (off := 1539) (tgt := 1579) (by decide) (by decide) rfl (by decide) ?_
        refine jr_aload_n K dL_law_1579 rfl ?_
        refine jr_aload_n K dL_law_1580 rfl ?_
        refine jr_iload K dL_law_1581 rfl ?_
        refine jr_iconst K dL_law_1583 (v := (nI 1)) (by decide) ?_
        refine jr_iadd K dL_law_1584 ?_
        refine jr_scr K hX dL_law_1585 (fun v1585 => ?_)
        refine jr_aload_n K dL_law_1586 rfl ?_
        refine jr_bud (fun mc1587 ms1587 hmc1587 hms1587 => ?_)
        refine jr_calli ⟨hmc1587, hms1587⟩ (jrun_SW (As := [.ref v0, .int v1585, .ref v17]) (st := []) K (metX0_best K.hG mc1587 ms1587 v0 v1585 v17 _) mtX0_best q1410 q1409 rfl rfl (Nat.le_of_ble_eq_true rfl) (by decide) ⟨hmc1587, hms1587⟩ dL_law_1587) (fun v1587 => ?_)
        refine jr_istore K (L' := [some (.ref p0), some (.ref v0), some (.ref v8), some (.ref v17), some (.int x4_23), some (.int v1587), none, none]) dL_law_1590 (by decide) rfl rfl ?_
        refine jr_aload_n K dL_law_1592 rfl ?_
        refine jr_aload_n K dL_law_1593 rfl ?_
        refine jr_iload K dL_law_1594 rfl ?_
        refine jr_iconst K dL_law_1596 (v := (nI 1)) (by decide) ?_
        refine jr_iadd K dL_law_1597 ?_
        refine jr_scr K hX dL_law_1598 (fun v1598 => ?_)
        refine jr_calli0 (jrun_V (As := [.int v1598]) (st := []) (ci := 11) K (metX11_best K.hG v8 v1598 _) mtX11_best mvX11_best q2027 rfl rfl rfl (Nat.le_of_ble_eq_true rfl) (by decide) ⟨Nat.zero_le _, Nat.zero_le _⟩ dL_law_1599) (fun v1599 => ?_)
        refine jr_istore K (L' := [some (.ref p0), some (.ref v0), some (.ref v8), some (.ref v17), some (.int x4_23), some (.int v1587), some (.int v1599), none]) dL_law_1602 (by decide) rfl rfl ?_
        refine jr_aload_n K dL_law_1604 rfl ?_
        refine jr_calli0 (jrun_V (As := []) (st := []) (ci := 11) K (metX11_thrown K.hG v8 _) mtX11_thrown mvX11_thrown q1463 rfl rfl rfl (Nat.le_of_ble_eq_true rfl) (by decide) ⟨Nat.zero_le _, Nat.zero_le _⟩ dL_law_1605) (fun v1605 => ?_)
        refine jr_iload K dL_law_1608 rfl ?_
        refine jr_icmp_eq K (tgt := 1615) dL_law_1610 (by decide) ?_ ?_
        · refine jr_iload K dL_law_1615 rfl ?_
          refine jr_join (fun (k1632 : JP) => JR p l e R s m args below meth c Q D S0 8 (bc_23 - mc1587) (bs_23 - ms1587) k1632 1632 [some (.ref p0), some (.ref v0), some (.ref v8), some (.ref v17), some (.int x4_23), none, none, none] []) ?_ (fun k1632 hk1632 => ?_)
          · refine jr_goto K (tgt := 2055) dL_law_1632 (by decide) ?_
            exact jr_weak (hk2055 (bc_23 - mc1587) (bs_23 - ms1587)) ⟨rfl, rfl, rfl, rfl, rfl, trivial⟩
          refine jr_if_ne K (tgt := 1632) dL_law_1617 (by decide) ?_ ?_
          · exact jr_weak (hk1632) ⟨rfl, rfl, rfl, rfl, rfl, trivial⟩
          · refine jr_aload_n K dL_law_1620 rfl ?_
            refine jr_iconst K dL_law_1621 (v := (nI 0)) (by decide) ?_
            refine jr_lald K dL_law_1622 (fun v1622 => ?_)
            refine jr_iload K dL_law_1623 rfl ?_
            refine jr_i2l K dL_law_1625 ?_
            refine jr_lcmp K dL_law_1626 ?_
            refine jr_if_eq K (tgt := 1632) dL_law_1627 (by decide) ?_ ?_
            · exact jr_weak (hk1632) ⟨rfl, rfl, rfl, rfl, rfl, trivial⟩
            · refine jr_iconst K dL_law_1630 (v := (nI 0)) (by decide) ?_
              exact JR.imp (fun _ h => ⟨Or.inl rfl, h⟩) (hret _ _ _ _ _ dL_law_1631)
        · refine jr_iconst K dL_law_1613 (v := (nI 0)) (by decide) ?_
          exact JR.imp (fun _ h => ⟨Or.inl rfl, h⟩) (hret _ _ _ _ _ dL_law_1614)
      refine jr_sw (fun hsw25 => ?_) (fun hsw25 => ?_)
      · refine jr_tsIn K dL_law_40 hsw25 (off := 1595) (tgt := 1635) (by decide) (by decide) rfl (by decide) ?_
        refine jr_aload_n K dL_law_1635 rfl ?_
        refine jr_aload_n K dL_law_1636 rfl ?_
        refine jr_iload K dL_law_1637 rfl ?_
        refine jr_iconst K dL_law_1639 (v := (nI 1)) (by decide) ?_
        refine jr_iadd K dL_law_1640 ?_
        refine jr_scr K hX dL_law_1641 (fun v1641 => ?_)
        refine jr_aload_n K dL_law_1642 rfl ?_
        refine jr_iload K dL_law_1643 rfl ?_
        refine jr_iconst K dL_law_1645 (v := (nI 2)) (by decide) ?_
        refine jr_iadd K dL_law_1646 ?_
        refine jr_scr K hX dL_law_1647 (fun v1647 => ?_)
        refine jr_aload_n K dL_law_1648 rfl ?_
        refine jr_iload K dL_law_1649 rfl ?_
        refine jr_iconst K dL_law_1651 (v := (nI 3)) (by decide) ?_
        refine jr_iadd K dL_law_1652 ?_
        refine jr_scr K hX dL_law_1653 (fun v1653 => ?_)
        refine jr_join (fun (k1662 : Int32 → JP) => ∀ (s3_1662 : Int32), JR p l e R s m args below meth c Q D S0 8 bc_23 bs_23 (k1662 s3_1662) 1662 [some (.ref p0), some (.ref v0), some (.ref v8), some (.ref v17), some (.int x4_23), none, none, none] [.int s3_1662, .int v1647, .int v1641, .ref v0]) ?_ (fun k1662 hk1662 => ?_)
        · intro s3_1662
          refine jr_aload_n K dL_law_1662 rfl ?_
          refine jr_bud (fun mc1663 ms1663 hmc1663 hms1663 => ?_)
          refine jr_calli ⟨hmc1663, hms1663⟩ (jrun_SW (As := [.ref v0, .int v1641, .int v1647, .int s3_1662, .ref v17]) (st := []) K (metX0_odds K.hG mc1663 ms1663 v0 v1641 v1647 s3_1662 v17 _) mtX0_odds q1417 q1416 rfl rfl (Nat.le_of_ble_eq_true rfl) (by decide) ⟨hmc1663, hms1663⟩ dL_law_1663) (fun v1663 => ?_)
          refine jr_istore K (L' := [some (.ref p0), some (.ref v0), some (.ref v8), some (.ref v17), some (.int x4_23), some (.int v1663), none, none]) dL_law_1666 (by decide) rfl rfl ?_
          refine jr_aload_n K dL_law_1668 rfl ?_
          refine jr_aload_n K dL_law_1669 rfl ?_
          refine jr_iload K dL_law_1670 rfl ?_
          refine jr_iconst K dL_law_1672 (v := (nI 1)) (by decide) ?_
          refine jr_iadd K dL_law_1673 ?_
          refine jr_scr K hX dL_law_1674 (fun v1674 => ?_)
          refine jr_aload_n K dL_law_1675 rfl ?_
          refine jr_iload K dL_law_1676 rfl ?_
          refine jr_iconst K dL_law_1678 (v := (nI 2)) (by decide) ?_
          refine jr_iadd K dL_law_1679 ?_
          refine jr_scr K hX dL_law_1680 (fun v1680 => ?_)
          refine jr_aload_n K dL_law_1681 rfl ?_
          refine jr_iload K dL_law_1682 rfl ?_
          refine jr_iconst K dL_law_1684 (v := (nI 3)) (by decide) ?_
          refine jr_iadd K dL_law_1685 ?_
          refine jr_scr K hX dL_law_1686 (fun v1686 => ?_)
          refine jr_join (fun (k1695 : Int32 → JP) => ∀ (s3_1695 : Int32), JR p l e R s m args below meth c Q D S0 8 (bc_23 - mc1663) (bs_23 - ms1663) (k1695 s3_1695) 1695 [some (.ref p0), some (.ref v0), some (.ref v8), some (.ref v17), some (.int x4_23), some (.int v1663), none, none] [.int s3_1695, .int v1680, .int v1674, .ref v8]) ?_ (fun k1695 hk1695 => ?_)
          · intro s3_1695
            refine jr_calll0 (jrun_V (As := [.int v1674, .int v1680, .int s3_1695]) (st := []) (ci := 11) K (metX11_odds K.hG v8 v1674 v1680 s3_1695 _) mtX11_odds mvX11_odds q2031 rfl rfl rfl (Nat.le_of_ble_eq_true rfl) (by decide) ⟨Nat.zero_le _, Nat.zero_le _⟩ dL_law_1695) (fun v1695 => ?_)
            refine jr_lstore K (L' := [some (.ref p0), some (.ref v0), some (.ref v8), some (.ref v17), some (.int x4_23), some (.int v1663), some (.long v1695), none]) dL_law_1698 (by decide) rfl rfl ?_
            refine jr_aload_n K dL_law_1700 rfl ?_
            refine jr_calli0 (jrun_V (As := []) (st := []) (ci := 11) K (metX11_thrown K.hG v8 _) mtX11_thrown mvX11_thrown q1463 rfl rfl rfl (Nat.le_of_ble_eq_true rfl) (by decide) ⟨Nat.zero_le _, Nat.zero_le _⟩ dL_law_1701) (fun v1701 => ?_)
            refine jr_iload K dL_law_1704 rfl ?_
            refine jr_icmp_eq K (tgt := 1711) dL_law_1706 (by decide) ?_ ?_
            · refine jr_iload K dL_law_1711 rfl ?_
              refine jr_join (fun (k1727 : JP) => JR p l e R s m args below meth c Q D S0 8 (bc_23 - mc1663) (bs_23 - ms1663) k1727 1727 [some (.ref p0), some (.ref v0), some (.ref v8), some (.ref v17), some (.int x4_23), none, none, none] []) ?_ (fun k1727 hk1727 => ?_)
              · refine jr_goto K (tgt := 2055) dL_law_1727 (by decide) ?_
                exact jr_weak (hk2055 (bc_23 - mc1663) (bs_23 - ms1663)) ⟨rfl, rfl, rfl, rfl, rfl, trivial⟩
              refine jr_if_ne K (tgt := 1727) dL_law_1713 (by decide) ?_ ?_
              · exact jr_weak (hk1727) ⟨rfl, rfl, rfl, rfl, rfl, trivial⟩
              · refine jr_aload_n K dL_law_1716 rfl ?_
                refine jr_iconst K dL_law_1717 (v := (nI 0)) (by decide) ?_
                refine jr_lald K dL_law_1718 (fun v1718 => ?_)
                refine jr_lload K dL_law_1719 rfl ?_
                refine jr_lcmp K dL_law_1721 ?_
                refine jr_if_eq K (tgt := 1727) dL_law_1722 (by decide) ?_ ?_
                · exact jr_weak (hk1727) ⟨rfl, rfl, rfl, rfl, rfl, trivial⟩
                · refine jr_iconst K dL_law_1725 (v := (nI 0)) (by decide) ?_
                  exact JR.imp (fun _ h => ⟨Or.inl rfl, h⟩) (hret _ _ _ _ _ dL_law_1726)
            · refine jr_iconst K dL_law_1709 (v := (nI 0)) (by decide) ?_
              exact JR.imp (fun _ h => ⟨Or.inl rfl, h⟩) (hret _ _ _ _ _ dL_law_1710)
          refine jr_if_eq K (tgt := 1694) dL_law_1687 (by decide) ?_ ?_
          · refine jr_iconst K dL_law_1694 (v := (nI 0)) (by decide) ?_
            exact jr_weak (hk1695 (nI 0)) ⟨rfl, rfl, rfl, rfl, rfl, rfl, trivial⟩
          · refine jr_iconst K dL_law_1690 (v := (nI 1)) (by decide) ?_
            refine jr_goto K (tgt := 1695) dL_law_1691 (by decide) ?_
            exact jr_weak (hk1695 (nI 1)) ⟨rfl, rfl, rfl, rfl, rfl, rfl, trivial⟩
        refine jr_if_eq K (tgt := 1661) dL_law_1654 (by decide) ?_ ?_
        · refine jr_iconst K dL_law_1661 (v := (nI 0)) (by decide) ?_
          exact jr_weak (hk1662 (nI 0)) ⟨rfl, rfl, rfl, rfl, rfl, trivial⟩
        · refine jr_iconst K dL_law_1657 (v := (nI 1)) (by decide) ?_
          refine jr_goto K (tgt := 1662) dL_law_1658 (by decide) ?_
          exact jr_weak (hk1662 (nI 1)) ⟨rfl, rfl, rfl, rfl, rfl, trivial⟩
      refine jr_sw (fun hsw26 => ?_) (fun hsw26 => ?_)
      · refine jr_tsIn K dL_law_40 hsw26 (off := 1690) (tgt := 1730) (by decide) (by decide) rfl (by decide) ?_
        refine jr_aload_n K dL_law_1730 rfl ?_
        refine jr_aload_n K dL_law_1731 rfl ?_
        refine jr_iload K dL_law_1732 rfl ?_
        refine jr_iconst K dL_law_1734 (v := (nI 1)) (by decide) ?_
        refine jr_iadd K dL_law_1735 ?_
        refine jr_scr K hX dL_law_1736 (fun v1736 => ?_)
        refine jr_aload_n K dL_law_1737 rfl ?_
        refine jr_iload K dL_law_1738 rfl ?_
        refine jr_iconst K dL_law_1740 (v := (nI 2)) (by decide) ?_
        refine jr_iadd K dL_law_1741 ?_
        refine jr_scr K hX dL_law_1742 (fun v1742 => ?_)
        refine jr_aload_n K dL_law_1743 rfl ?_
        refine jr_iload K dL_law_1744 rfl ?_
        refine jr_iconst K dL_law_1746 (v := (nI 3)) (by decide) ?_
        refine jr_iadd K dL_law_1747 ?_
        refine jr_scr K hX dL_law_1748 (fun v1748 => ?_)
        refine jr_join (fun (k1757 : Int32 → JP) => ∀ (s3_1757 : Int32), JR p l e R s m args below meth c Q D S0 8 bc_23 bs_23 (k1757 s3_1757) 1757 [some (.ref p0), some (.ref v0), some (.ref v8), some (.ref v17), some (.int x4_23), none, none, none] [.int s3_1757, .int v1742, .int v1736, .ref v0]) ?_ (fun k1757 hk1757 => ?_)
        · intro s3_1757
          refine jr_aload_n K dL_law_1757 rfl ?_
          refine jr_bud (fun mc1758 ms1758 hmc1758 hms1758 => ?_)
          refine jr_calli ⟨hmc1758, hms1758⟩ (jrun_SW (As := [.ref v0, .int v1736, .int v1742, .int s3_1757, .ref v17]) (st := []) K (metX0_shared K.hG mc1758 ms1758 v0 v1736 v1742 s3_1757 v17 _) mtX0_shared q1434 q1433 rfl rfl (Nat.le_of_ble_eq_true rfl) (by decide) ⟨hmc1758, hms1758⟩ dL_law_1758) (fun v1758 => ?_)
          refine jr_istore K (L' := [some (.ref p0), some (.ref v0), some (.ref v8), some (.ref v17), some (.int x4_23), some (.int v1758), none, none]) dL_law_1761 (by decide) rfl rfl ?_
          refine jr_aload_n K dL_law_1763 rfl ?_
          refine jr_aload_n K dL_law_1764 rfl ?_
          refine jr_iload K dL_law_1765 rfl ?_
          refine jr_iconst K dL_law_1767 (v := (nI 1)) (by decide) ?_
          refine jr_iadd K dL_law_1768 ?_
          refine jr_scr K hX dL_law_1769 (fun v1769 => ?_)
          refine jr_aload_n K dL_law_1770 rfl ?_
          refine jr_iload K dL_law_1771 rfl ?_
          refine jr_iconst K dL_law_1773 (v := (nI 2)) (by decide) ?_
          refine jr_iadd K dL_law_1774 ?_
          refine jr_scr K hX dL_law_1775 (fun v1775 => ?_)
          refine jr_aload_n K dL_law_1776 rfl ?_
          refine jr_iload K dL_law_1777 rfl ?_
          refine jr_iconst K dL_law_1779 (v := (nI 3)) (by decide) ?_
          refine jr_iadd K dL_law_1780 ?_
          refine jr_scr K hX dL_law_1781 (fun v1781 => ?_)
          refine jr_join (fun (k1790 : Int32 → JP) => ∀ (s3_1790 : Int32), JR p l e R s m args below meth c Q D S0 8 (bc_23 - mc1758) (bs_23 - ms1758) (k1790 s3_1790) 1790 [some (.ref p0), some (.ref v0), some (.ref v8), some (.ref v17), some (.int x4_23), some (.int v1758), none, none] [.int s3_1790, .int v1775, .int v1769, .ref v8]) ?_ (fun k1790 hk1790 => ?_)
          · intro s3_1790
            refine jr_calli0 (jrun_V (As := [.int v1769, .int v1775, .int s3_1790]) (st := []) (ci := 11) K (metX11_shared K.hG v8 v1769 v1775 s3_1790 _) mtX11_shared mvX11_shared q2040 rfl rfl rfl (Nat.le_of_ble_eq_true rfl) (by decide) ⟨Nat.zero_le _, Nat.zero_le _⟩ dL_law_1790) (fun v1790 => ?_)
            refine jr_istore K (L' := [some (.ref p0), some (.ref v0), some (.ref v8), some (.ref v17), some (.int x4_23), some (.int v1758), some (.int v1790), none]) dL_law_1793 (by decide) rfl rfl ?_
            refine jr_aload_n K dL_law_1795 rfl ?_
            refine jr_calli0 (jrun_V (As := []) (st := []) (ci := 11) K (metX11_thrown K.hG v8 _) mtX11_thrown mvX11_thrown q1463 rfl rfl rfl (Nat.le_of_ble_eq_true rfl) (by decide) ⟨Nat.zero_le _, Nat.zero_le _⟩ dL_law_1796) (fun v1796 => ?_)
            refine jr_iload K dL_law_1799 rfl ?_
            refine jr_icmp_eq K (tgt := 1806) dL_law_1801 (by decide) ?_ ?_
            · refine jr_iload K dL_law_1806 rfl ?_
              refine jr_join (fun (k1823 : JP) => JR p l e R s m args below meth c Q D S0 8 (bc_23 - mc1758) (bs_23 - ms1758) k1823 1823 [some (.ref p0), some (.ref v0), some (.ref v8), some (.ref v17), some (.int x4_23), none, none, none] []) ?_ (fun k1823 hk1823 => ?_)
              · refine jr_goto K (tgt := 2055) dL_law_1823 (by decide) ?_
                exact jr_weak (hk2055 (bc_23 - mc1758) (bs_23 - ms1758)) ⟨rfl, rfl, rfl, rfl, rfl, trivial⟩
              refine jr_if_ne K (tgt := 1823) dL_law_1808 (by decide) ?_ ?_
              · exact jr_weak (hk1823) ⟨rfl, rfl, rfl, rfl, rfl, trivial⟩
              · refine jr_aload_n K dL_law_1811 rfl ?_
                refine jr_iconst K dL_law_1812 (v := (nI 0)) (by decide) ?_
                refine jr_lald K dL_law_1813 (fun v1813 => ?_)
                refine jr_iload K dL_law_1814 rfl ?_
                refine jr_i2l K dL_law_1816 ?_
                refine jr_lcmp K dL_law_1817 ?_
                refine jr_if_eq K (tgt := 1823) dL_law_1818 (by decide) ?_ ?_
                · exact jr_weak (hk1823) ⟨rfl, rfl, rfl, rfl, rfl, trivial⟩
                · refine jr_iconst K dL_law_1821 (v := (nI 0)) (by decide) ?_
                  exact JR.imp (fun _ h => ⟨Or.inl rfl, h⟩) (hret _ _ _ _ _ dL_law_1822)
            · refine jr_iconst K dL_law_1804 (v := (nI 0)) (by decide) ?_
              exact JR.imp (fun _ h => ⟨Or.inl rfl, h⟩) (hret _ _ _ _ _ dL_law_1805)
          refine jr_if_eq K (tgt := 1789) dL_law_1782 (by decide) ?_ ?_
          · refine jr_iconst K dL_law_1789 (v := (nI 0)) (by decide) ?_
            exact jr_weak (hk1790 (nI 0)) ⟨rfl, rfl, rfl, rfl, rfl, rfl, trivial⟩
          · refine jr_iconst K dL_law_1785 (v := (nI 1)) (by decide) ?_
            refine jr_goto K (tgt := 1790) dL_law_1786 (by decide) ?_
            exact jr_weak (hk1790 (nI 1)) ⟨rfl, rfl, rfl, rfl, rfl, rfl, trivial⟩
        refine jr_if_eq K (tgt := 1756) dL_law_1749 (by decide) ?_ ?_
        · refine jr_iconst K dL_law_1756 (v := (nI 0)) (by decide) ?_
          exact jr_weak (hk1757 (nI 0)) ⟨rfl, rfl, rfl, rfl, rfl, trivial⟩
        · refine jr_iconst K dL_law_1752 (v := (nI 1)) (by decide) ?_
          refine jr_goto K (tgt := 1757) dL_law_1753 (by decide) ?_
          exact jr_weak (hk1757 (nI 1)) ⟨rfl, rfl, rfl, rfl, rfl, trivial⟩
      refine jr_sw (fun hsw27 => ?_) (fun hsw27 => ?_)
      · refine jr_tsIn K dL_law_40 hsw27 (off := 1786) (tgt := 1826) (by decide) (by decide) rfl (by decide) ?_
        refine jr_aload_n K dL_law_1826 rfl ?_
        refine jr_aload_n K dL_law_1827 rfl ?_
        refine jr_iload K dL_law_1828 rfl ?_
        refine jr_iconst K dL_law_1830 (v := (nI 1)) (by decide) ?_
        refine jr_iadd K dL_law_1831 ?_
        refine jr_scr K hX dL_law_1832 (fun v1832 => ?_)
        refine jr_aload_n K dL_law_1833 rfl ?_
        refine jr_iload K dL_law_1834 rfl ?_
        refine jr_iconst K dL_law_1836 (v := (nI 2)) (by decide) ?_
        refine jr_iadd K dL_law_1837 ?_
        refine jr_scr K hX dL_law_1838 (fun v1838 => ?_)
        refine jr_aload_n K dL_law_1839 rfl ?_
        refine jr_bud (fun mc1840 ms1840 hmc1840 hms1840 => ?_)
        refine jr_calli ⟨hmc1840, hms1840⟩ (jrun_SW (As := [.ref v0, .int v1832, .int v1838, .ref v17]) (st := []) K (metX0_alike K.hG mc1840 ms1840 v0 v1832 v1838 v17 _) mtX0_alike q1442 q1441 rfl rfl (Nat.le_of_ble_eq_true rfl) (by decide) ⟨hmc1840, hms1840⟩ dL_law_1840) (fun v1840 => ?_)
        refine jr_istore K (L' := [some (.ref p0), some (.ref v0), some (.ref v8), some (.ref v17), some (.int x4_23), some (.int v1840), none, none]) dL_law_1843 (by decide) rfl rfl ?_
        refine jr_aload_n K dL_law_1845 rfl ?_
        refine jr_aload_n K dL_law_1846 rfl ?_
        refine jr_iload K dL_law_1847 rfl ?_
        refine jr_iconst K dL_law_1849 (v := (nI 1)) (by decide) ?_
        refine jr_iadd K dL_law_1850 ?_
        refine jr_scr K hX dL_law_1851 (fun v1851 => ?_)
        refine jr_aload_n K dL_law_1852 rfl ?_
        refine jr_iload K dL_law_1853 rfl ?_
        refine jr_iconst K dL_law_1855 (v := (nI 2)) (by decide) ?_
        refine jr_iadd K dL_law_1856 ?_
        refine jr_scr K hX dL_law_1857 (fun v1857 => ?_)
        refine jr_calli0 (jrun_V (As := [.int v1851, .int v1857]) (st := []) (ci := 11) K (metX11_alike K.hG v8 v1851 v1857 _) mtX11_alike mvX11_alike q2047 rfl rfl rfl (Nat.le_of_ble_eq_true rfl) (by decide) ⟨Nat.zero_le _, Nat.zero_le _⟩ dL_law_1858) (fun v1858 => ?_)
        refine jr_istore K (L' := [some (.ref p0), some (.ref v0), some (.ref v8), some (.ref v17), some (.int x4_23), some (.int v1840), some (.int v1858), none]) dL_law_1861 (by decide) rfl rfl ?_
        refine jr_aload_n K dL_law_1863 rfl ?_
        refine jr_calli0 (jrun_V (As := []) (st := []) (ci := 11) K (metX11_thrown K.hG v8 _) mtX11_thrown mvX11_thrown q1463 rfl rfl rfl (Nat.le_of_ble_eq_true rfl) (by decide) ⟨Nat.zero_le _, Nat.zero_le _⟩ dL_law_1864) (fun v1864 => ?_)
        refine jr_iload K dL_law_1867 rfl ?_
        refine jr_icmp_eq K (tgt := 1874) dL_law_1869 (by decide) ?_ ?_
        · refine jr_iload K dL_law_1874 rfl ?_
          refine jr_join (fun (k1891 : JP) => JR p l e R s m args below meth c Q D S0 8 (bc_23 - mc1840) (bs_23 - ms1840) k1891 1891 [some (.ref p0), some (.ref v0), some (.ref v8), some (.ref v17), some (.int x4_23), none, none, none] []) ?_ (fun k1891 hk1891 => ?_)
          · refine jr_goto K (tgt := 2055) dL_law_1891 (by decide) ?_
            exact jr_weak (hk2055 (bc_23 - mc1840) (bs_23 - ms1840)) ⟨rfl, rfl, rfl, rfl, rfl, trivial⟩
          refine jr_if_ne K (tgt := 1891) dL_law_1876 (by decide) ?_ ?_
          · exact jr_weak (hk1891) ⟨rfl, rfl, rfl, rfl, rfl, trivial⟩
          · refine jr_aload_n K dL_law_1879 rfl ?_
            refine jr_iconst K dL_law_1880 (v := (nI 0)) (by decide) ?_
            refine jr_lald K dL_law_1881 (fun v1881 => ?_)
            refine jr_iload K dL_law_1882 rfl ?_
            refine jr_i2l K dL_law_1884 ?_
            refine jr_lcmp K dL_law_1885 ?_
            refine jr_if_eq K (tgt := 1891) dL_law_1886 (by decide) ?_ ?_
            · exact jr_weak (hk1891) ⟨rfl, rfl, rfl, rfl, rfl, trivial⟩
            · refine jr_iconst K dL_law_1889 (v := (nI 0)) (by decide) ?_
              exact JR.imp (fun _ h => ⟨Or.inl rfl, h⟩) (hret _ _ _ _ _ dL_law_1890)
        · refine jr_iconst K dL_law_1872 (v := (nI 0)) (by decide) ?_
          exact JR.imp (fun _ h => ⟨Or.inl rfl, h⟩) (hret _ _ _ _ _ dL_law_1873)
      refine jr_sw (fun hsw28 => ?_) (fun hsw28 => ?_)
      · refine jr_tsIn K dL_law_40 hsw28 (off := 1854) (tgt := 1894) (by decide) (by decide) rfl (by decide) ?_
        refine jr_aload_n K dL_law_1894 rfl ?_
        refine jr_aload_n K dL_law_1895 rfl ?_
        refine jr_iload K dL_law_1896 rfl ?_
        refine jr_iconst K dL_law_1898 (v := (nI 1)) (by decide) ?_
        refine jr_iadd K dL_law_1899 ?_
        refine jr_scr K hX dL_law_1900 (fun v1900 => ?_)
        refine jr_aload_n K dL_law_1901 rfl ?_
        refine jr_bud (fun mc1902 ms1902 hmc1902 hms1902 => ?_)
        refine jr_calli ⟨hmc1902, hms1902⟩ (jrun_SW (As := [.ref v0, .int v1900, .ref v17]) (st := []) K (metX0_way K.hG mc1902 ms1902 v0 v1900 v17 _) mtX0_way q1450 q1449 rfl rfl (Nat.le_of_ble_eq_true rfl) (by decide) ⟨hmc1902, hms1902⟩ dL_law_1902) (fun v1902 => ?_)
        refine jr_istore K (L' := [some (.ref p0), some (.ref v0), some (.ref v8), some (.ref v17), some (.int x4_23), some (.int v1902), none, none]) dL_law_1905 (by decide) rfl rfl ?_
        refine jr_aload_n K dL_law_1907 rfl ?_
        refine jr_aload_n K dL_law_1908 rfl ?_
        refine jr_iload K dL_law_1909 rfl ?_
        refine jr_iconst K dL_law_1911 (v := (nI 1)) (by decide) ?_
        refine jr_iadd K dL_law_1912 ?_
        refine jr_scr K hX dL_law_1913 (fun v1913 => ?_)
        refine jr_calli0 (jrun_V (As := [.int v1913]) (st := []) (ci := 11) K (metX11_way K.hG v8 v1913 _) mtX11_way mvX11_way q2051 rfl rfl rfl (Nat.le_of_ble_eq_true rfl) (by decide) ⟨Nat.zero_le _, Nat.zero_le _⟩ dL_law_1914) (fun v1914 => ?_)
        refine jr_istore K (L' := [some (.ref p0), some (.ref v0), some (.ref v8), some (.ref v17), some (.int x4_23), some (.int v1902), some (.int v1914), none]) dL_law_1917 (by decide) rfl rfl ?_
        refine jr_aload_n K dL_law_1919 rfl ?_
        refine jr_calli0 (jrun_V (As := []) (st := []) (ci := 11) K (metX11_thrown K.hG v8 _) mtX11_thrown mvX11_thrown q1463 rfl rfl rfl (Nat.le_of_ble_eq_true rfl) (by decide) ⟨Nat.zero_le _, Nat.zero_le _⟩ dL_law_1920) (fun v1920 => ?_)
        refine jr_iload K dL_law_1923 rfl ?_
        refine jr_icmp_eq K (tgt := 1930) dL_law_1925 (by decide) ?_ ?_
        · refine jr_iload K dL_law_1930 rfl ?_
          refine jr_join (fun (k1947 : JP) => JR p l e R s m args below meth c Q D S0 8 (bc_23 - mc1902) (bs_23 - ms1902) k1947 1947 [some (.ref p0), some (.ref v0), some (.ref v8), some (.ref v17), some (.int x4_23), none, none, none] []) ?_ (fun k1947 hk1947 => ?_)
          · refine jr_goto K (tgt := 2055) dL_law_1947 (by decide) ?_
            exact jr_weak (hk2055 (bc_23 - mc1902) (bs_23 - ms1902)) ⟨rfl, rfl, rfl, rfl, rfl, trivial⟩
          refine jr_if_ne K (tgt := 1947) dL_law_1932 (by decide) ?_ ?_
          · exact jr_weak (hk1947) ⟨rfl, rfl, rfl, rfl, rfl, trivial⟩
          · refine jr_aload_n K dL_law_1935 rfl ?_
            refine jr_iconst K dL_law_1936 (v := (nI 0)) (by decide) ?_
            refine jr_lald K dL_law_1937 (fun v1937 => ?_)
            refine jr_iload K dL_law_1938 rfl ?_
            refine jr_i2l K dL_law_1940 ?_
            refine jr_lcmp K dL_law_1941 ?_
            refine jr_if_eq K (tgt := 1947) dL_law_1942 (by decide) ?_ ?_
            · exact jr_weak (hk1947) ⟨rfl, rfl, rfl, rfl, rfl, trivial⟩
            · refine jr_iconst K dL_law_1945 (v := (nI 0)) (by decide) ?_
              exact JR.imp (fun _ h => ⟨Or.inl rfl, h⟩) (hret _ _ _ _ _ dL_law_1946)
        · refine jr_iconst K dL_law_1928 (v := (nI 0)) (by decide) ?_
          exact JR.imp (fun _ h => ⟨Or.inl rfl, h⟩) (hret _ _ _ _ _ dL_law_1929)
      refine jr_sw (fun hsw29 => ?_) (fun hsw29 => ?_)
      · refine jr_tsIn K dL_law_40 hsw29 (off := 1910) (tgt := 1950) (by decide) (by decide) rfl (by decide) ?_
        refine jr_aload_n K dL_law_1950 rfl ?_
        refine jr_aload_n K dL_law_1951 rfl ?_
        refine jr_iload K dL_law_1952 rfl ?_
        refine jr_iconst K dL_law_1954 (v := (nI 1)) (by decide) ?_
        refine jr_iadd K dL_law_1955 ?_
        refine jr_scr K hX dL_law_1956 (fun v1956 => ?_)
        refine jr_aload_n K dL_law_1957 rfl ?_
        refine jr_bud (fun mc1958 ms1958 hmc1958 hms1958 => ?_)
        refine jr_calli ⟨hmc1958, hms1958⟩ (jrun_SW (As := [.ref v0, .int v1956, .ref v17]) (st := []) K (metX0_cheaper K.hG mc1958 ms1958 v0 v1956 v17 _) mtX0_cheaper q1457 q1456 rfl rfl (Nat.le_of_ble_eq_true rfl) (by decide) ⟨hmc1958, hms1958⟩ dL_law_1958) (fun v1958 => ?_)
        refine jr_istore K (L' := [some (.ref p0), some (.ref v0), some (.ref v8), some (.ref v17), some (.int x4_23), some (.int v1958), none, none]) dL_law_1961 (by decide) rfl rfl ?_
        refine jr_aload_n K dL_law_1963 rfl ?_
        refine jr_aload_n K dL_law_1964 rfl ?_
        refine jr_iload K dL_law_1965 rfl ?_
        refine jr_iconst K dL_law_1967 (v := (nI 1)) (by decide) ?_
        refine jr_iadd K dL_law_1968 ?_
        refine jr_scr K hX dL_law_1969 (fun v1969 => ?_)
        refine jr_calli0 (jrun_V (As := [.int v1969]) (st := []) (ci := 11) K (metX11_cheaper K.hG v8 v1969 _) mtX11_cheaper mvX11_cheaper q2055 rfl rfl rfl (Nat.le_of_ble_eq_true rfl) (by decide) ⟨Nat.zero_le _, Nat.zero_le _⟩ dL_law_1970) (fun v1970 => ?_)
        refine jr_istore K (L' := [some (.ref p0), some (.ref v0), some (.ref v8), some (.ref v17), some (.int x4_23), some (.int v1958), some (.int v1970), none]) dL_law_1973 (by decide) rfl rfl ?_
        refine jr_aload_n K dL_law_1975 rfl ?_
        refine jr_calli0 (jrun_V (As := []) (st := []) (ci := 11) K (metX11_thrown K.hG v8 _) mtX11_thrown mvX11_thrown q1463 rfl rfl rfl (Nat.le_of_ble_eq_true rfl) (by decide) ⟨Nat.zero_le _, Nat.zero_le _⟩ dL_law_1976) (fun v1976 => ?_)
        refine jr_iload K dL_law_1979 rfl ?_
        refine jr_icmp_eq K (tgt := 1986) dL_law_1981 (by decide) ?_ ?_
        · refine jr_iload K dL_law_1986 rfl ?_
          refine jr_join (fun (k2003 : JP) => JR p l e R s m args below meth c Q D S0 8 (bc_23 - mc1958) (bs_23 - ms1958) k2003 2003 [some (.ref p0), some (.ref v0), some (.ref v8), some (.ref v17), some (.int x4_23), none, none, none] []) ?_ (fun k2003 hk2003 => ?_)
          · refine jr_goto K (tgt := 2055) dL_law_2003 (by decide) ?_
            exact jr_weak (hk2055 (bc_23 - mc1958) (bs_23 - ms1958)) ⟨rfl, rfl, rfl, rfl, rfl, trivial⟩
          refine jr_if_ne K (tgt := 2003) dL_law_1988 (by decide) ?_ ?_
          · exact jr_weak (hk2003) ⟨rfl, rfl, rfl, rfl, rfl, trivial⟩
          · refine jr_aload_n K dL_law_1991 rfl ?_
            refine jr_iconst K dL_law_1992 (v := (nI 0)) (by decide) ?_
            refine jr_lald K dL_law_1993 (fun v1993 => ?_)
            refine jr_iload K dL_law_1994 rfl ?_
            refine jr_i2l K dL_law_1996 ?_
            refine jr_lcmp K dL_law_1997 ?_
            refine jr_if_eq K (tgt := 2003) dL_law_1998 (by decide) ?_ ?_
            · exact jr_weak (hk2003) ⟨rfl, rfl, rfl, rfl, rfl, trivial⟩
            · refine jr_iconst K dL_law_2001 (v := (nI 0)) (by decide) ?_
              exact JR.imp (fun _ h => ⟨Or.inl rfl, h⟩) (hret _ _ _ _ _ dL_law_2002)
        · refine jr_iconst K dL_law_1984 (v := (nI 0)) (by decide) ?_
          exact JR.imp (fun _ h => ⟨Or.inl rfl, h⟩) (hret _ _ _ _ _ dL_law_1985)
      refine jr_sw (fun hsw30 => ?_) (fun hsw30 => ?_)
      · refine jr_tsIn K dL_law_40 hsw30 (off := 1966) (tgt := 2006) (by decide) (by decide) rfl (by decide) ?_
        refine jr_aload_n K dL_law_2006 rfl ?_
        refine jr_callv0 (jrun_V (As := []) (st := []) (ci := 1) K (metX1_image K.hG v0 _) mtX1_image mvX1_image q804 rfl rfl rfl (Nat.le_of_ble_eq_true rfl) (by decide) ⟨Nat.zero_le _, Nat.zero_le _⟩ dL_law_2007) ?_
        refine jr_aload_n K dL_law_2010 rfl ?_
        refine jr_callv0 (jrun_V (As := []) (st := []) (ci := 11) K (metX11_image K.hG v8 _) mtX11_image mvX11_image q1631 rfl rfl rfl (Nat.le_of_ble_eq_true rfl) (by decide) ⟨Nat.zero_le _, Nat.zero_le _⟩ dL_law_2011) ?_
        refine jr_goto K (tgt := 2055) dL_law_2014 (by decide) ?_
        exact jr_weak (hk2055 bc_23 bs_23) ⟨rfl, rfl, rfl, rfl, rfl, trivial⟩
      refine jr_sw (fun hsw31 => ?_) (fun hsw31 => ?_)
      · refine jr_tsIn K dL_law_40 hsw31 (off := 1977) (tgt := 2017) (by decide) (by decide) rfl (by decide) ?_
        refine jr_aload_n K dL_law_2017 rfl ?_
        refine jr_calli0 (jrun_V (As := []) (st := []) (ci := 1) K (metX1_back K.hG v0 _) mtX1_back mvX1_back q819 rfl rfl rfl (Nat.le_of_ble_eq_true rfl) (by decide) ⟨Nat.zero_le _, Nat.zero_le _⟩ dL_law_2018) (fun v2018 => ?_)
        refine jr_aload_n K dL_law_2021 rfl ?_
        refine jr_calli0 (jrun_V (As := []) (st := [.int v2018]) (ci := 11) K (metX11_back K.hG v8 _) mtX11_back mvX11_back q1635 rfl rfl rfl (Nat.le_of_ble_eq_true rfl) (by decide) ⟨Nat.zero_le _, Nat.zero_le _⟩ dL_law_2022) (fun v2022 => ?_)
        refine jr_icmp_eq K (tgt := 2055) dL_law_2025 (by decide) ?_ ?_
        · exact jr_weak (hk2055 bc_23 bs_23) ⟨rfl, rfl, rfl, rfl, rfl, trivial⟩
        · refine jr_iconst K dL_law_2028 (v := (nI 0)) (by decide) ?_
          exact JR.imp (fun _ h => ⟨Or.inl rfl, h⟩) (hret _ _ _ _ _ dL_law_2029)
      refine jr_sw (fun hsw32 => ?_) (fun hsw32 => ?_)
      · refine jr_tsIn K dL_law_40 hsw32 (off := 1990) (tgt := 2030) (by decide) (by decide) rfl (by decide) ?_
        refine jr_aload_n K dL_law_2030 rfl ?_
        refine jr_aload_n K dL_law_2031 rfl ?_
        refine jr_iload K dL_law_2032 rfl ?_
        refine jr_iconst K dL_law_2034 (v := (nI 1)) (by decide) ?_
        refine jr_iadd K dL_law_2035 ?_
        refine jr_scr K hX dL_law_2036 (fun v2036 => ?_)
        refine jr_calli0 (jrun_V (As := [.int v2036]) (st := []) (ci := 1) K (metX1_count K.hG v0 v2036 _) mtX1_count mvX1_count q823 rfl rfl rfl (Nat.le_of_ble_eq_true rfl) (by decide) ⟨Nat.zero_le _, Nat.zero_le _⟩ dL_law_2037) (fun v2037 => ?_)
        refine jr_aload_n K dL_law_2040 rfl ?_
        refine jr_aload_n K dL_law_2041 rfl ?_
        refine jr_iload K dL_law_2042 rfl ?_
        refine jr_iconst K dL_law_2044 (v := (nI 1)) (by decide) ?_
        refine jr_iadd K dL_law_2045 ?_
        refine jr_scr K hX dL_law_2046 (fun v2046 => ?_)
        refine jr_calli0 (jrun_V (As := [.int v2046]) (st := [.int v2037]) (ci := 11) K (metX11_count K.hG v8 v2046 _) mtX11_count mvX11_count q2068 rfl rfl rfl (Nat.le_of_ble_eq_true rfl) (by decide) ⟨Nat.zero_le _, Nat.zero_le _⟩ dL_law_2047) (fun v2047 => ?_)
        refine jr_icmp_eq K (tgt := 2055) dL_law_2050 (by decide) ?_ ?_
        · exact jr_weak (hk2055 bc_23 bs_23) ⟨rfl, rfl, rfl, rfl, rfl, trivial⟩
        · refine jr_iconst K dL_law_2053 (v := (nI 0)) (by decide) ?_
          exact JR.imp (fun _ h => ⟨Or.inl rfl, h⟩) (hret _ _ _ _ _ dL_law_2054)
      refine jr_tsOut K dL_law_40 (tgt := 2055) (jsw_out (n := 33) [(nI 0), (nI 1), (nI 2), (nI 3), (nI 4), (nI 5), (nI 6), (nI 7), (nI 8), (nI 9), (nI 10), (nI 11), (nI 12), (nI 13), (nI 14), (nI 15), (nI 16), (nI 17), (nI 18), (nI 19), (nI 20), (nI 21), (nI 22), (nI 23), (nI 24), (nI 25), (nI 26), (nI 27), (nI 28), (nI 29), (nI 30), (nI 31), (nI 32)] (by decide) (by decide) (by decide) ⟨hsw0, hsw1, hsw2, hsw3, hsw4, hsw5, hsw6, hsw7, hsw8, hsw9, hsw10, hsw11, hsw12, hsw13, hsw14, hsw15, hsw16, hsw17, hsw18, hsw19, hsw20, hsw21, hsw22, hsw23, hsw24, hsw25, hsw26, hsw27, hsw28, hsw29, hsw30, hsw31, hsw32, trivial⟩) (by decide) ?_
      exact jr_weak (hk2055 bc_23 bs_23) ⟨rfl, rfl, rfl, rfl, rfl, trivial⟩
theorem wL_law (K : JK p l R s m args meth c D S0 A0 8 cL_law "MoveNotesLaw" 103) (sK : Nat → Nat) (bc : Nat) (bs : Nat) (p0 : Nat) (xs : Nat → Int32) (Ln : Nat) (Qj : Int32 → JP) (hS : jSt S0 sK) (hX : va_X p0 Ln xs s s.heap ∧ p0 < S0.heap.size ∧ S0.heap.size ≤ s.heap.size) (hret : jRetZ p l e R s m args below meth c Q D S0 8 cL_law Qj) : JR p l e R s m args below meth c Q D S0 8 bc bs (JL_law sK bc bs p0 xs Ln Qj) 0 [some (.ref p0), none, none, none, none, none, none, none] [] := by
  unfold JL_law
  refine jr_new K in_X1 rfl tyX1_ok dfo1 q138 q139 q99 dL_law_0 (fun v0 => ?_)
  refine jr_dup K dL_law_3 rfl ?_
  refine jr_bud (fun mc4 ms4 hmc4 hms4 => ?_)
  refine jr_callv ⟨hmc4, hms4⟩ (jrun_I (As := []) (st := [.ref v0]) K (metX1_init K.hG hS mc4 ms4 v0 _) mtX1_init q141 rfl q140 rfl rfl (Nat.le_of_ble_eq_true rfl) (by decide) ⟨hmc4, hms4⟩ dL_law_4) ?_
  refine jr_astore_n K (L' := [some (.ref p0), some (.ref v0), none, none, none, none, none, none]) dL_law_7 (by decide) rfl rfl ?_
  refine jr_new K in_X11 rfl tyX11_ok dfo11 q1467 q1468 q112 dL_law_8 (fun v8 => ?_)
  refine jr_dup K dL_law_11 rfl ?_
  refine jr_bud (fun mc12 ms12 hmc12 hms12 => ?_)
  refine jr_callv ⟨hmc12, hms12⟩ (jrun_I (As := []) (st := [.ref v8]) K (metX11_init K.hG mc12 ms12 v8 _) mtX11_init q1470 rfl q1469 rfl rfl (Nat.le_of_ble_eq_true rfl) (by decide) ⟨hmc12, hms12⟩ dL_law_12) ?_
  refine jr_astore_n K (L' := [some (.ref p0), some (.ref v0), some (.ref v8), none, none, none, none, none]) dL_law_15 (by decide) rfl rfl ?_
  refine jr_iconst K dL_law_16 (v := (nI 1)) (by decide) ?_
  refine jr_newL K dL_law_17 (fun v17 => ?_)
  refine jr_astore_n K (L' := [some (.ref p0), some (.ref v0), some (.ref v8), some (.ref v17), none, none, none, none]) dL_law_19 (by decide) rfl rfl ?_
  refine jr_iconst K dL_law_20 (v := (nI 0)) (by decide) ?_
  refine jr_istore K (L' := [some (.ref p0), some (.ref v0), some (.ref v8), some (.ref v17), some (.int (nI 0)), none, none, none]) dL_law_21 (by decide) rfl rfl ?_
  refine jr_ex (fun n23 => ?_)
  refine jr_weak (wL_law_23 K sK bc bs p0 xs Ln Qj v0 v8 v17 hS hX hret n23 (nI 0) (((((bc - 1) - mc4) - 1) - mc12) - 1) (((((bs - 18) - ms4) - 52) - ms12) - (nI 1).toNatClampNeg)) ⟨rfl, rfl, rfl, rfl, rfl, trivial⟩
end JW
