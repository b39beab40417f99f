/-! printed by gen/walk.py -/
set_option maxRecDepth 100000
set_option maxHeartbeats 4000000

noncomputable def s_L_law_b2832 (b n : Nat) (xs : Nat → Int32) (a0 : Nat) (a1 : Nat) (a2 : Nat) (a3 : Nat) (x4 : Int)  (μ : Me) : Option ((Int × Me) ⊕ (Int × Me)) :=
  some (.inl ((x4 + 6), μ))
theorem w_L_law_b2832 {Z : Zt} {nm : String} {Qf : State → Prop} {b n : Nat} {xs : Nat → Int32} {fin : Int × Me} {w : ((Int × Me) ⊕ (Int × Me))} (C : CX Z ⟨RX0, nm, ""⟩ cL_law (some .boolean) 213 8) (G : LX Z Qf b n xs) (h1 : fin.1 = 1) {a0 : Nat} {a1 : Nat} {a2 : Nat} {a3 : Nat} {x4 : Int}  {μ : Me} (h : s_L_law_b2832 b n xs a0 a1 a2 a3 x4 μ = some w) (hK : (Sum.elim (fun s : Int × Me => WL Z (Qf) s.2 23 [(0, vO a0), (1, vO a1), (2, vO a2), (3, vO a3), (4, vI s.1)] []) (fun r : Int × Me => r = fin)) w) : WL Z (Qf) μ 2832 [(0, vO a0), (1, vO a1), (2, vO a2), (3, vO a3), (4, vI x4)] [] := by
  unfold s_L_law_b2832 at h
  refine r_iinc C 4 [(4, vI (x4 + 6)), (0, vO a0), (1, vO a1), (2, vO a2), (3, vO a3)] dL_law_2832 rfl (by decide) rfl ?_
  refine r_goto C dL_law_2835 (tgt := 23) (by decide) ?_
  cases h
  refine r_sub [1, 2, 3, 4, 0] rfl ?_
  exact hK
noncomputable def s_L_law_b224 (b n : Nat) (xs : Nat → Int32) (a0 : Nat) (a1 : Nat) (a2 : Nat) (a3 : Nat) (x4 : Int)  (μ : Me) : Option ((Int × Me) ⊕ (Int × Me)) :=
  (gX b n xs a0 (x4 + 1)).bind fun v9 =>
  (gX b n xs a0 (x4 + 2)).bind fun v10 =>
  (gX b n xs a0 (x4 + 3)).bind fun v11 =>
  (gX b n xs a0 (x4 + 4)).bind fun v12 =>
  (gX b n xs a0 (x4 + 5)).bind fun v13 =>
  (ck μ 0 a1).bind fun _ =>
  (s_X1_feed a1 v9 v10 v11 v12 v13 μ).bind fun q14 =>
  (gX b n xs a0 (x4 + 1)).bind fun v16 =>
  (gX b n xs a0 (x4 + 2)).bind fun v17 =>
  (gX b n xs a0 (x4 + 3)).bind fun v18 =>
  (gX b n xs a0 (x4 + 4)).bind fun v19 =>
  (gX b n xs a0 (x4 + 5)).bind fun v20 =>
  (ck q14.2 9 a2).bind fun _ =>
  (s_X11_feed a2 v16 v17 v18 v19 v20 q14.2).bind fun q21 =>
  (if w32 q14.1 = w32 q21.1 then
  s_L_law_b2832 b n xs a0 a1 a2 a3 x4 q21.2
  else
  some (.inr (0, q21.2)))
theorem w_L_law_b224 {Z : Zt} {nm : String} {Qf : State → Prop} {b n : Nat} {xs : Nat → Int32} {fin : Int × Me} {w : ((Int × Me) ⊕ (Int × Me))} (C : CX Z ⟨RX0, nm, ""⟩ cL_law (some .boolean) 213 8) (G : LX Z Qf b n xs) (h1 : fin.1 = 1) {a0 : Nat} {a1 : Nat} {a2 : Nat} {a3 : Nat} {x4 : Int}  {μ : Me} (h : s_L_law_b224 b n xs a0 a1 a2 a3 x4 μ = some w) (hK : (Sum.elim (fun s : Int × Me => WL Z (Qf) s.2 23 [(0, vO a0), (1, vO a1), (2, vO a2), (3, vO a3), (4, vI s.1)] []) (fun r : Int × Me => r = fin)) w) : WL Z (Qf) μ 224 [(0, vO a0), (1, vO a1), (2, vO a2), (3, vO a3), (4, vI x4)] [] := by
  unfold s_L_law_b224 at h
  refine r_aload_n C 1 dL_law_224 rfl rfl ?_
  refine r_aload_n C 0 dL_law_225 rfl rfl ?_
  refine r_iload C 4 dL_law_226 rfl ?_
  refine r_iconst C dL_law_228 ?_
  refine r_iadd C dL_law_229 ?_
  obtain ⟨v9, ev9, h⟩ := bs h
  refine r_xld C G ev9 dL_law_230 ?_
  refine r_aload_n C 0 dL_law_231 rfl rfl ?_
  refine r_iload C 4 dL_law_232 rfl ?_
  refine r_iconst C dL_law_234 ?_
  refine r_iadd C dL_law_235 ?_
  obtain ⟨v10, ev10, h⟩ := bs h
  refine r_xld C G ev10 dL_law_236 ?_
  refine r_aload_n C 0 dL_law_237 rfl rfl ?_
  refine r_iload C 4 dL_law_238 rfl ?_
  refine r_iconst C dL_law_240 ?_
  refine r_iadd C dL_law_241 ?_
  obtain ⟨v11, ev11, h⟩ := bs h
  refine r_xld C G ev11 dL_law_242 ?_
  refine r_aload_n C 0 dL_law_243 rfl rfl ?_
  refine r_iload C 4 dL_law_244 rfl ?_
  refine r_iconst C dL_law_246 ?_
  refine r_iadd C dL_law_247 ?_
  obtain ⟨v12, ev12, h⟩ := bs h
  refine r_xld C G ev12 dL_law_248 ?_
  refine r_aload_n C 0 dL_law_249 rfl rfl ?_
  refine r_iload C 4 dL_law_250 rfl ?_
  refine r_iconst C dL_law_252 ?_
  refine r_iadd C dL_law_253 ?_
  obtain ⟨v13, ev13, h⟩ := bs h
  refine r_xld C G ev13 dL_law_254 ?_
  obtain ⟨u15, eu15, h⟩ := bs h
  obtain ⟨q14, eq14, h⟩ := bs h
  refine r_callV C (As := [vI v9, vI v10, vI v11, vI v12, vI v13]) (b := a1) (rest := []) (st1 := [vI q14.1]) (v := some (vI q14.1)) (r := (RX1, TX1, 19)) (ci := 0) rfl eu15 (m_X1_feed C.tr eq14) (lw_V q487 q488 q489 q120 q490) rfl hdX1_feed rfl rfl (Nat.le_of_ble_eq_true rfl) ⟨by decide, by decide⟩ dL_law_255 rfl ?_
  refine r_aload_n C 2 dL_law_258 rfl rfl ?_
  refine r_aload_n C 0 dL_law_259 rfl rfl ?_
  refine r_iload C 4 dL_law_260 rfl ?_
  refine r_iconst C dL_law_262 ?_
  refine r_iadd C dL_law_263 ?_
  obtain ⟨v16, ev16, h⟩ := bs h
  refine r_xld C G ev16 dL_law_264 ?_
  refine r_aload_n C 0 dL_law_265 rfl rfl ?_
  refine r_iload C 4 dL_law_266 rfl ?_
  refine r_iconst C dL_law_268 ?_
  refine r_iadd C dL_law_269 ?_
  obtain ⟨v17, ev17, h⟩ := bs h
  refine r_xld C G ev17 dL_law_270 ?_
  refine r_aload_n C 0 dL_law_271 rfl rfl ?_
  refine r_iload C 4 dL_law_272 rfl ?_
  refine r_iconst C dL_law_274 ?_
  refine r_iadd C dL_law_275 ?_
  obtain ⟨v18, ev18, h⟩ := bs h
  refine r_xld C G ev18 dL_law_276 ?_
  refine r_aload_n C 0 dL_law_277 rfl rfl ?_
  refine r_iload C 4 dL_law_278 rfl ?_
  refine r_iconst C dL_law_280 ?_
  refine r_iadd C dL_law_281 ?_
  obtain ⟨v19, ev19, h⟩ := bs h
  refine r_xld C G ev19 dL_law_282 ?_
  refine r_aload_n C 0 dL_law_283 rfl rfl ?_
  refine r_iload C 4 dL_law_284 rfl ?_
  refine r_iconst C dL_law_286 ?_
  refine r_iadd C dL_law_287 ?_
  obtain ⟨v20, ev20, h⟩ := bs h
  refine r_xld C G ev20 dL_law_288 ?_
  obtain ⟨u22, eu22, h⟩ := bs h
  obtain ⟨q21, eq21, h⟩ := bs h
  refine r_callV C (As := [vI v16, vI v17, vI v18, vI v19, vI v20]) (b := a2) (rest := [vI q14.1]) (st1 := [vI q21.1, vI q14.1]) (v := some (vI q21.1)) (r := (RX11, TX11, 38)) (ci := 9) rfl eu22 (m_X11_feed C.tr eq21) (lw_V q1436 q1437 q1438 q133 q1439) rfl hdX11_feed rfl rfl (Nat.le_of_ble_eq_true rfl) ⟨by decide, by decide⟩ dL_law_289 rfl ?_
  refine r_icmp_eq C dL_law_292 (tgt := 2832) (by decide) (fun c23 => ?_) (fun c23 => ?_)
  · have h := it_ h c23
    exact w_L_law_b2832 (fin := fin) C G h1 h hK
  · have h := ie_ h c23
    refine r_iconst C dL_law_295 ?_
    cases h
    have hK : (0, q21.2) = fin := hK
    subst hK
    exact absurd (show (0 : Int) = 1 from h1) (by decide)
noncomputable def s_L_law_b297 (b n : Nat) (xs : Nat → Int32) (a0 : Nat) (a1 : Nat) (a2 : Nat) (a3 : Nat) (x4 : Int)  (μ : Me) : Option ((Int × Me) ⊕ (Int × Me)) :=
  (gX b n xs a0 (x4 + 1)).bind fun v25 =>
  (ck μ 0 a1).bind fun _ =>
  (s_X1_end a1 v25 μ).bind fun q26 =>
  (gX b n xs a0 (x4 + 1)).bind fun v28 =>
  (ck q26.2 9 a2).bind fun _ =>
  (s_X11_end a2 v28 q26.2).bind fun q29 =>
  (if w32 q26.1 = w32 q29.1 then
  s_L_law_b2832 b n xs a0 a1 a2 a3 x4 q29.2
  else
  some (.inr (0, q29.2)))
theorem w_L_law_b297 {Z : Zt} {nm : String} {Qf : State → Prop} {b n : Nat} {xs : Nat → Int32} {fin : Int × Me} {w : ((Int × Me) ⊕ (Int × Me))} (C : CX Z ⟨RX0, nm, ""⟩ cL_law (some .boolean) 213 8) (G : LX Z Qf b n xs) (h1 : fin.1 = 1) {a0 : Nat} {a1 : Nat} {a2 : Nat} {a3 : Nat} {x4 : Int}  {μ : Me} (h : s_L_law_b297 b n xs a0 a1 a2 a3 x4 μ = some w) (hK : (Sum.elim (fun s : Int × Me => WL Z (Qf) s.2 23 [(0, vO a0), (1, vO a1), (2, vO a2), (3, vO a3), (4, vI s.1)] []) (fun r : Int × Me => r = fin)) w) : WL Z (Qf) μ 297 [(0, vO a0), (1, vO a1), (2, vO a2), (3, vO a3), (4, vI x4)] [] := by
  unfold s_L_law_b297 at h
  refine r_aload_n C 1 dL_law_297 rfl rfl ?_
  refine r_aload_n C 0 dL_law_298 rfl rfl ?_
  refine r_iload C 4 dL_law_299 rfl ?_
  refine r_iconst C dL_law_301 ?_
  refine r_iadd C dL_law_302 ?_
  obtain ⟨v25, ev25, h⟩ := bs h
  refine r_xld C G ev25 dL_law_303 ?_
  obtain ⟨u27, eu27, h⟩ := bs h
  obtain ⟨q26, eq26, h⟩ := bs h
  refine r_callV C (As := [vI v25]) (b := a1) (rest := []) (st1 := [vI q26.1]) (v := some (vI q26.1)) (r := (RX1, TX1, 19)) (ci := 0) rfl eu27 (m_X1_end C.tr eq26) (lw_V q495 q496 q497 q120 q498) rfl hdX1_end rfl rfl (Nat.le_of_ble_eq_true rfl) ⟨by decide, by decide⟩ dL_law_304 rfl ?_
  refine r_aload_n C 2 dL_law_307 rfl rfl ?_
  refine r_aload_n C 0 dL_law_308 rfl rfl ?_
  refine r_iload C 4 dL_law_309 rfl ?_
  refine r_iconst C dL_law_311 ?_
  refine r_iadd C dL_law_312 ?_
  obtain ⟨v28, ev28, h⟩ := bs h
  refine r_xld C G ev28 dL_law_313 ?_
  obtain ⟨u30, eu30, h⟩ := bs h
  obtain ⟨q29, eq29, h⟩ := bs h
  refine r_callV C (As := [vI v28]) (b := a2) (rest := [vI q26.1]) (st1 := [vI q29.1, vI q26.1]) (v := some (vI q29.1)) (r := (RX11, TX11, 38)) (ci := 9) rfl eu30 (m_X11_end C.tr eq29) (lw_V q1440 q1441 q1442 q133 q1443) rfl hdX11_end rfl rfl (Nat.le_of_ble_eq_true rfl) ⟨by decide, by decide⟩ dL_law_314 rfl ?_
  refine r_icmp_eq C dL_law_317 (tgt := 2832) (by decide) (fun c31 => ?_) (fun c31 => ?_)
  · have h := it_ h c31
    exact w_L_law_b2832 (fin := fin) C G h1 h hK
  · have h := ie_ h c31
    refine r_iconst C dL_law_320 ?_
    cases h
    have hK : (0, q29.2) = fin := hK
    subst hK
    exact absurd (show (0 : Int) = 1 from h1) (by decide)
noncomputable def s_L_law_b322 (b n : Nat) (xs : Nat → Int32) (a0 : Nat) (a1 : Nat) (a2 : Nat) (a3 : Nat) (x4 : Int)  (μ : Me) : Option ((Int × Me) ⊕ (Int × Me)) :=
  (gX b n xs a0 (x4 + 1)).bind fun v33 =>
  xb (s_X0_field a1 v33 μ) (fun e35 => none) fun q34 =>
  (gX b n xs a0 (x4 + 1)).bind fun v36 =>
  (ck q34.2 9 a2).bind fun _ =>
  (s_X11_field a2 v36 q34.2).bind fun q37 =>
  (ck q37 9 a2).bind fun _ =>
  (s_X11_thrown a2 q37).bind fun q39 =>
  (if w32 q39.1 = w32 q34.1 then
  s_L_law_b2832 b n xs a0 a1 a2 a3 x4 q39.2
  else
  some (.inr (0, q39.2)))
theorem w_L_law_b322 {Z : Zt} {nm : String} {Qf : State → Prop} {b n : Nat} {xs : Nat → Int32} {fin : Int × Me} {w : ((Int × Me) ⊕ (Int × Me))} (C : CX Z ⟨RX0, nm, ""⟩ cL_law (some .boolean) 213 8) (G : LX Z Qf b n xs) (h1 : fin.1 = 1) {a0 : Nat} {a1 : Nat} {a2 : Nat} {a3 : Nat} {x4 : Int}  {μ : Me} (h : s_L_law_b322 b n xs a0 a1 a2 a3 x4 μ = some w) (hK : (Sum.elim (fun s : Int × Me => WL Z (Qf) s.2 23 [(0, vO a0), (1, vO a1), (2, vO a2), (3, vO a3), (4, vI s.1)] []) (fun r : Int × Me => r = fin)) w) : WL Z (Qf) μ 322 [(0, vO a0), (1, vO a1), (2, vO a2), (3, vO a3), (4, vI x4)] [] := by
  unfold s_L_law_b322 at h
  refine r_aload_n C 1 dL_law_322 rfl rfl ?_
  refine r_aload_n C 0 dL_law_323 rfl rfl ?_
  refine r_iload C 4 dL_law_324 rfl ?_
  refine r_iconst C dL_law_326 ?_
  refine r_iadd C dL_law_327 ?_
  obtain ⟨v33, ev33, h⟩ := bs h
  refine r_xld C G ev33 dL_law_328 ?_
  rcases xbs h with ⟨e35, eq34, h⟩ | ⟨q34, eq34, h⟩
  · cases h
  · refine r_xSH C (As := [vO a1, vI v33]) (rest := []) (st1 := [vI q34.1]) (v := some (vI q34.1)) (μ1 := q34.2) (m_X0_field C.tr eq34) (lw_SW q548 q549 q119 q550) hdX0_field rfl rfl (Nat.le_of_ble_eq_true rfl) ⟨by decide, by decide⟩ dL_law_329 rfl ?_
    refine r_istore C [(5, vI q34.1), (0, vO a0), (1, vO a1), (2, vO a2), (3, vO a3), (4, vI x4)] dL_law_332 (by decide) rfl ?_
    refine r_aload_n C 3 dL_law_334 rfl rfl ?_
    refine r_aload_n C 1 dL_law_335 rfl rfl ?_
    refine r_iload C 5 dL_law_336 rfl ?_
    refine r_iconst C dL_law_338 ?_
    refine r_iadd C dL_law_339 ?_
    obtain ⟨v36, ev36, h⟩ := bs h
    refine r_xld C G ev36 dL_law_340 ?_
    obtain ⟨u38, eu38, h⟩ := bs h
    obtain ⟨q37, eq37, h⟩ := bs h
    refine r_callV C (As := [vI v36]) (b := a2) (rest := []) (st1 := []) (v := none) (r := (RX11, TX11, 38)) (ci := 9) rfl eu38 (m_X11_field C.tr eq37) (lw_V q1504 q1505 q1506 q133 q1507) rfl hdX11_field rfl rfl (Nat.le_of_ble_eq_true rfl) ⟨by decide, by decide⟩ dL_law_341 rfl ?_
    refine r_aload_n C 3 dL_law_344 rfl rfl ?_
    obtain ⟨u40, eu40, h⟩ := bs h
    obtain ⟨q39, eq39, h⟩ := bs h
    refine r_callV C (As := []) (b := a2) (rest := []) (st1 := [vI q39.1]) (v := some (vI q39.1)) (r := (RX11, TX11, 38)) (ci := 9) rfl eu40 (m_X11_thrown C.tr eq39) (lw_V q1303 q1304 q1305 q133 q1306) rfl hdX11_thrown rfl rfl (Nat.le_of_ble_eq_true rfl) ⟨by decide, by decide⟩ dL_law_345 rfl ?_
    refine r_iload C 0 dL_law_348 rfl ?_
    refine r_icmp_eq C dL_law_350 (tgt := 355) (by decide) (fun c41 => ?_) (fun c41 => ?_)
    · have h := it_ h c41
      refine r_goto C dL_law_355 (tgt := 2832) (by decide) ?_
      refine r_sub [1, 2, 3, 4, 5] rfl ?_
      exact w_L_law_b2832 (fin := fin) C G h1 h hK
    · have h := ie_ h c41
      refine r_iconst C dL_law_353 ?_
      cases h
      have hK : (0, q39.2) = fin := hK
      subst hK
      exact absurd (show (0 : Int) = 1 from h1) (by decide)
noncomputable def s_L_law_b358 (b n : Nat) (xs : Nat → Int32) (a0 : Nat) (a1 : Nat) (a2 : Nat) (a3 : Nat) (x4 : Int)  (μ : Me) : Option ((Int × Me) ⊕ (Int × Me)) :=
  xb (s_X0_form a1 a3 μ) (fun e44 => none) fun q43 =>
  (ck q43.2 9 a2).bind fun _ =>
  (s_X11_form a2 q43.2).bind fun q45 =>
  (ck q45.2 9 a2).bind fun _ =>
  (s_X11_thrown a2 q45.2).bind fun q47 =>
  (if w32 q47.1 = w32 q43.1 then
  (if w32 q43.1 = 0 then
  (aJ q47.2 103 a3 0).bind fun v51 =>
  (if w64 v51 = w64 (w32 q45.1) then
  s_L_law_b2832 b n xs a0 a1 a2 a3 x4 q47.2
  else
  some (.inr (0, q47.2)))
  else
  s_L_law_b2832 b n xs a0 a1 a2 a3 x4 q47.2)
  else
  some (.inr (0, q47.2)))
theorem w_L_law_b358 {Z : Zt} {nm : String} {Qf : State → Prop} {b n : Nat} {xs : Nat → Int32} {fin : Int × Me} {w : ((Int × Me) ⊕ (Int × Me))} (C : CX Z ⟨RX0, nm, ""⟩ cL_law (some .boolean) 213 8) (G : LX Z Qf b n xs) (h1 : fin.1 = 1) {a0 : Nat} {a1 : Nat} {a2 : Nat} {a3 : Nat} {x4 : Int}  {μ : Me} (h : s_L_law_b358 b n xs a0 a1 a2 a3 x4 μ = some w) (hK : (Sum.elim (fun s : Int × Me => WL Z (Qf) s.2 23 [(0, vO a0), (1, vO a1), (2, vO a2), (3, vO a3), (4, vI s.1)] []) (fun r : Int × Me => r = fin)) w) : WL Z (Qf) μ 358 [(0, vO a0), (1, vO a1), (2, vO a2), (3, vO a3), (4, vI x4)] [] := by
  unfold s_L_law_b358 at h
  refine r_aload_n C 1 dL_law_358 rfl rfl ?_
  refine r_aload_n C 3 dL_law_359 rfl rfl ?_
  rcases xbs h with ⟨e44, eq43, h⟩ | ⟨q43, eq43, h⟩
  · cases h
  · refine r_xSH C (As := [vO a1, vO a3]) (rest := []) (st1 := [vI q43.1]) (v := some (vI q43.1)) (μ1 := q43.2) (m_X0_form C.tr eq43) (lw_SW q596 q597 q119 q598) hdX0_form rfl rfl (Nat.le_of_ble_eq_true rfl) ⟨by decide, by decide⟩ dL_law_360 rfl ?_
    refine r_istore C [(5, vI q43.1), (0, vO a0), (1, vO a1), (2, vO a2), (3, vO a3), (4, vI x4)] dL_law_363 (by decide) rfl ?_
    refine r_aload_n C 3 dL_law_365 rfl rfl ?_
    obtain ⟨u46, eu46, h⟩ := bs h
    obtain ⟨q45, eq45, h⟩ := bs h
    refine r_callV C (As := []) (b := a2) (rest := []) (st1 := [vI q45.1]) (v := some (vI q45.1)) (r := (RX11, TX11, 38)) (ci := 9) rfl eu46 (m_X11_form C.tr eq45) (lw_V q1508 q1509 q1510 q133 q1511) rfl hdX11_form rfl rfl (Nat.le_of_ble_eq_true rfl) ⟨by decide, by decide⟩ dL_law_366 rfl ?_
    refine r_istore C [(6, vI q45.1), (5, vI q43.1), (0, vO a0), (1, vO a1), (2, vO a2), (3, vO a3), (4, vI x4)] dL_law_369 (by decide) rfl ?_
    refine r_aload_n C 4 dL_law_371 rfl rfl ?_
    obtain ⟨u48, eu48, h⟩ := bs h
    obtain ⟨q47, eq47, h⟩ := bs h
    refine r_callV C (As := []) (b := a2) (rest := []) (st1 := [vI q47.1]) (v := some (vI q47.1)) (r := (RX11, TX11, 38)) (ci := 9) rfl eu48 (m_X11_thrown C.tr eq47) (lw_V q1303 q1304 q1305 q133 q1306) rfl hdX11_thrown rfl rfl (Nat.le_of_ble_eq_true rfl) ⟨by decide, by decide⟩ dL_law_372 rfl ?_
    refine r_iload C 1 dL_law_375 rfl ?_
    refine r_icmp_eq C dL_law_377 (tgt := 382) (by decide) (fun c49 => ?_) (fun c49 => ?_)
    · have h := it_ h c49
      refine r_iload C 1 dL_law_382 rfl ?_
      refine r_if_ne C dL_law_384 (tgt := 399) (by decide) (fun c50 => ?_) (fun c50 => ?_)
      · have h := ie_ h c50
        refine r_goto C dL_law_399 (tgt := 2832) (by decide) ?_
        refine r_sub [2, 3, 4, 5, 6] rfl ?_
        exact w_L_law_b2832 (fin := fin) C G h1 h hK
      · have h := it_ h c50
        refine r_aload_n C 5 dL_law_387 rfl rfl ?_
        refine r_iconst C dL_law_388 ?_
        obtain ⟨v51, ev51, h⟩ := bs h
        refine r_lald C ev51 dL_law_389 ?_
        refine r_iload C 0 dL_law_390 rfl ?_
        refine r_i2l C dL_law_392 ?_
        refine r_lcmp_eq C dL_law_393 dL_law_394 (tgt := 399) (by decide) (fun c52 => ?_) (fun c52 => ?_)
        · have h := it_ h c52
          refine r_goto C dL_law_399 (tgt := 2832) (by decide) ?_
          refine r_sub [2, 3, 4, 5, 6] rfl ?_
          exact w_L_law_b2832 (fin := fin) C G h1 h hK
        · have h := ie_ h c52
          refine r_iconst C dL_law_397 ?_
          cases h
          have hK : (0, q47.2) = fin := hK
          subst hK
          exact absurd (show (0 : Int) = 1 from h1) (by decide)
    · have h := ie_ h c49
      refine r_iconst C dL_law_380 ?_
      cases h
      have hK : (0, q47.2) = fin := hK
      subst hK
      exact absurd (show (0 : Int) = 1 from h1) (by decide)
noncomputable def s_L_law_b402 (b n : Nat) (xs : Nat → Int32) (a0 : Nat) (a1 : Nat) (a2 : Nat) (a3 : Nat) (x4 : Int)  (μ : Me) : Option ((Int × Me) ⊕ (Int × Me)) :=
  (gX b n xs a0 (x4 + 1)).bind fun v54 =>
  (gX b n xs a0 (x4 + 2)).bind fun v55 =>
  (gX b n xs a0 (x4 + 3)).bind fun v56 =>
  (gX b n xs a0 (x4 + 4)).bind fun v57 =>
  xb (s_X0_table a1 v54 v55 v56 v57 a3 μ) (fun e59 => none) fun q58 =>
  (gX b n xs a0 (x4 + 1)).bind fun v60 =>
  (gX b n xs a0 (x4 + 2)).bind fun v61 =>
  (gX b n xs a0 (x4 + 3)).bind fun v62 =>
  (gX b n xs a0 (x4 + 4)).bind fun v63 =>
  (ck q58.2 9 a2).bind fun _ =>
  (s_X11_table a2 v60 v61 v62 v63 q58.2).bind fun q64 =>
  (ck q64.2 9 a2).bind fun _ =>
  (s_X11_thrown a2 q64.2).bind fun q66 =>
  (if w32 q66.1 = w32 q58.1 then
  (if w32 q58.1 = 0 then
  (aJ q66.2 103 a3 0).bind fun v70 =>
  (if w64 v70 = w64 (w32 q64.1) then
  s_L_law_b2832 b n xs a0 a1 a2 a3 x4 q66.2
  else
  some (.inr (0, q66.2)))
  else
  s_L_law_b2832 b n xs a0 a1 a2 a3 x4 q66.2)
  else
  some (.inr (0, q66.2)))
theorem w_L_law_b402 {Z : Zt} {nm : String} {Qf : State → Prop} {b n : Nat} {xs : Nat → Int32} {fin : Int × Me} {w : ((Int × Me) ⊕ (Int × Me))} (C : CX Z ⟨RX0, nm, ""⟩ cL_law (some .boolean) 213 8) (G : LX Z Qf b n xs) (h1 : fin.1 = 1) {a0 : Nat} {a1 : Nat} {a2 : Nat} {a3 : Nat} {x4 : Int}  {μ : Me} (h : s_L_law_b402 b n xs a0 a1 a2 a3 x4 μ = some w) (hK : (Sum.elim (fun s : Int × Me => WL Z (Qf) s.2 23 [(0, vO a0), (1, vO a1), (2, vO a2), (3, vO a3), (4, vI s.1)] []) (fun r : Int × Me => r = fin)) w) : WL Z (Qf) μ 402 [(0, vO a0), (1, vO a1), (2, vO a2), (3, vO a3), (4, vI x4)] [] := by
  unfold s_L_law_b402 at h
  refine r_aload_n C 1 dL_law_402 rfl rfl ?_
  refine r_aload_n C 0 dL_law_403 rfl rfl ?_
  refine r_iload C 4 dL_law_404 rfl ?_
  refine r_iconst C dL_law_406 ?_
  refine r_iadd C dL_law_407 ?_
  obtain ⟨v54, ev54, h⟩ := bs h
  refine r_xld C G ev54 dL_law_408 ?_
  refine r_aload_n C 0 dL_law_409 rfl rfl ?_
  refine r_iload C 4 dL_law_410 rfl ?_
  refine r_iconst C dL_law_412 ?_
  refine r_iadd C dL_law_413 ?_
  obtain ⟨v55, ev55, h⟩ := bs h
  refine r_xld C G ev55 dL_law_414 ?_
  refine r_aload_n C 0 dL_law_415 rfl rfl ?_
  refine r_iload C 4 dL_law_416 rfl ?_
  refine r_iconst C dL_law_418 ?_
  refine r_iadd C dL_law_419 ?_
  obtain ⟨v56, ev56, h⟩ := bs h
  refine r_xld C G ev56 dL_law_420 ?_
  refine r_aload_n C 0 dL_law_421 rfl rfl ?_
  refine r_iload C 4 dL_law_422 rfl ?_
  refine r_iconst C dL_law_424 ?_
  refine r_iadd C dL_law_425 ?_
  obtain ⟨v57, ev57, h⟩ := bs h
  refine r_xld C G ev57 dL_law_426 ?_
  refine r_aload_n C 3 dL_law_427 rfl rfl ?_
  rcases xbs h with ⟨e59, eq58, h⟩ | ⟨q58, eq58, h⟩
  · cases h
  · refine r_xSH C (As := [vO a1, vI v54, vI v55, vI v56, vI v57, vO a3]) (rest := []) (st1 := [vI q58.1]) (v := some (vI q58.1)) (μ1 := q58.2) (m_X0_table C.tr eq58) (lw_SW q635 q636 q119 q637) hdX0_table rfl rfl (Nat.le_of_ble_eq_true rfl) ⟨by decide, by decide⟩ dL_law_428 rfl ?_
    refine r_istore C [(5, vI q58.1), (0, vO a0), (1, vO a1), (2, vO a2), (3, vO a3), (4, vI x4)] dL_law_431 (by decide) rfl ?_
    refine r_aload_n C 3 dL_law_433 rfl rfl ?_
    refine r_aload_n C 1 dL_law_434 rfl rfl ?_
    refine r_iload C 5 dL_law_435 rfl ?_
    refine r_iconst C dL_law_437 ?_
    refine r_iadd C dL_law_438 ?_
    obtain ⟨v60, ev60, h⟩ := bs h
    refine r_xld C G ev60 dL_law_439 ?_
    refine r_aload_n C 1 dL_law_440 rfl rfl ?_
    refine r_iload C 5 dL_law_441 rfl ?_
    refine r_iconst C dL_law_443 ?_
    refine r_iadd C dL_law_444 ?_
    obtain ⟨v61, ev61, h⟩ := bs h
    refine r_xld C G ev61 dL_law_445 ?_
    refine r_aload_n C 1 dL_law_446 rfl rfl ?_
    refine r_iload C 5 dL_law_447 rfl ?_
    refine r_iconst C dL_law_449 ?_
    refine r_iadd C dL_law_450 ?_
    obtain ⟨v62, ev62, h⟩ := bs h
    refine r_xld C G ev62 dL_law_451 ?_
    refine r_aload_n C 1 dL_law_452 rfl rfl ?_
    refine r_iload C 5 dL_law_453 rfl ?_
    refine r_iconst C dL_law_455 ?_
    refine r_iadd C dL_law_456 ?_
    obtain ⟨v63, ev63, h⟩ := bs h
    refine r_xld C G ev63 dL_law_457 ?_
    obtain ⟨u65, eu65, h⟩ := bs h
    obtain ⟨q64, eq64, h⟩ := bs h
    refine r_callV C (As := [vI v60, vI v61, vI v62, vI v63]) (b := a2) (rest := []) (st1 := [vI q64.1]) (v := some (vI q64.1)) (r := (RX11, TX11, 38)) (ci := 9) rfl eu65 (m_X11_table C.tr eq64) (lw_V q1529 q1530 q1531 q133 q1532) rfl hdX11_table rfl rfl (Nat.le_of_ble_eq_true rfl) ⟨by decide, by decide⟩ dL_law_458 rfl ?_
    refine r_istore C [(6, vI q64.1), (5, vI q58.1), (0, vO a0), (1, vO a1), (2, vO a2), (3, vO a3), (4, vI x4)] dL_law_461 (by decide) rfl ?_
    refine r_aload_n C 4 dL_law_463 rfl rfl ?_
    obtain ⟨u67, eu67, h⟩ := bs h
    obtain ⟨q66, eq66, h⟩ := bs h
    refine r_callV C (As := []) (b := a2) (rest := []) (st1 := [vI q66.1]) (v := some (vI q66.1)) (r := (RX11, TX11, 38)) (ci := 9) rfl eu67 (m_X11_thrown C.tr eq66) (lw_V q1303 q1304 q1305 q133 q1306) rfl hdX11_thrown rfl rfl (Nat.le_of_ble_eq_true rfl) ⟨by decide, by decide⟩ dL_law_464 rfl ?_
    refine r_iload C 1 dL_law_467 rfl ?_
    refine r_icmp_eq C dL_law_469 (tgt := 474) (by decide) (fun c68 => ?_) (fun c68 => ?_)
    · have h := it_ h c68
      refine r_iload C 1 dL_law_474 rfl ?_
      refine r_if_ne C dL_law_476 (tgt := 491) (by decide) (fun c69 => ?_) (fun c69 => ?_)
      · have h := ie_ h c69
        refine r_goto C dL_law_491 (tgt := 2832) (by decide) ?_
        refine r_sub [2, 3, 4, 5, 6] rfl ?_
        exact w_L_law_b2832 (fin := fin) C G h1 h hK
      · have h := it_ h c69
        refine r_aload_n C 5 dL_law_479 rfl rfl ?_
        refine r_iconst C dL_law_480 ?_
        obtain ⟨v70, ev70, h⟩ := bs h
        refine r_lald C ev70 dL_law_481 ?_
        refine r_iload C 0 dL_law_482 rfl ?_
        refine r_i2l C dL_law_484 ?_
        refine r_lcmp_eq C dL_law_485 dL_law_486 (tgt := 491) (by decide) (fun c71 => ?_) (fun c71 => ?_)
        · have h := it_ h c71
          refine r_goto C dL_law_491 (tgt := 2832) (by decide) ?_
          refine r_sub [2, 3, 4, 5, 6] rfl ?_
          exact w_L_law_b2832 (fin := fin) C G h1 h hK
        · have h := ie_ h c71
          refine r_iconst C dL_law_489 ?_
          cases h
          have hK : (0, q66.2) = fin := hK
          subst hK
          exact absurd (show (0 : Int) = 1 from h1) (by decide)
    · have h := ie_ h c68
      refine r_iconst C dL_law_472 ?_
      cases h
      have hK : (0, q66.2) = fin := hK
      subst hK
      exact absurd (show (0 : Int) = 1 from h1) (by decide)
noncomputable def s_L_law_b494 (b n : Nat) (xs : Nat → Int32) (a0 : Nat) (a1 : Nat) (a2 : Nat) (a3 : Nat) (x4 : Int)  (μ : Me) : Option ((Int × Me) ⊕ (Int × Me)) :=
  xb (s_X0_signs a1 a3 μ) (fun e74 => none) fun q73 =>
  (ck q73.2 9 a2).bind fun _ =>
  (s_X11_signs a2 q73.2).bind fun q75 =>
  (ck q75.2 9 a2).bind fun _ =>
  (s_X11_thrown a2 q75.2).bind fun q77 =>
  (if w32 q77.1 = w32 q73.1 then
  (if w32 q73.1 = 0 then
  (aJ q77.2 103 a3 0).bind fun v81 =>
  (if w64 v81 = w64 (w32 q75.1) then
  s_L_law_b2832 b n xs a0 a1 a2 a3 x4 q77.2
  else
  some (.inr (0, q77.2)))
  else
  s_L_law_b2832 b n xs a0 a1 a2 a3 x4 q77.2)
  else
  some (.inr (0, q77.2)))
theorem w_L_law_b494 {Z : Zt} {nm : String} {Qf : State → Prop} {b n : Nat} {xs : Nat → Int32} {fin : Int × Me} {w : ((Int × Me) ⊕ (Int × Me))} (C : CX Z ⟨RX0, nm, ""⟩ cL_law (some .boolean) 213 8) (G : LX Z Qf b n xs) (h1 : fin.1 = 1) {a0 : Nat} {a1 : Nat} {a2 : Nat} {a3 : Nat} {x4 : Int}  {μ : Me} (h : s_L_law_b494 b n xs a0 a1 a2 a3 x4 μ = some w) (hK : (Sum.elim (fun s : Int × Me => WL Z (Qf) s.2 23 [(0, vO a0), (1, vO a1), (2, vO a2), (3, vO a3), (4, vI s.1)] []) (fun r : Int × Me => r = fin)) w) : WL Z (Qf) μ 494 [(0, vO a0), (1, vO a1), (2, vO a2), (3, vO a3), (4, vI x4)] [] := by
  unfold s_L_law_b494 at h
  refine r_aload_n C 1 dL_law_494 rfl rfl ?_
  refine r_aload_n C 3 dL_law_495 rfl rfl ?_
  rcases xbs h with ⟨e74, eq73, h⟩ | ⟨q73, eq73, h⟩
  · cases h
  · refine r_xSH C (As := [vO a1, vO a3]) (rest := []) (st1 := [vI q73.1]) (v := some (vI q73.1)) (μ1 := q73.2) (m_X0_signs C.tr eq73) (lw_SW q647 q648 q119 q649) hdX0_signs rfl rfl (Nat.le_of_ble_eq_true rfl) ⟨by decide, by decide⟩ dL_law_496 rfl ?_
    refine r_istore C [(5, vI q73.1), (0, vO a0), (1, vO a1), (2, vO a2), (3, vO a3), (4, vI x4)] dL_law_499 (by decide) rfl ?_
    refine r_aload_n C 3 dL_law_501 rfl rfl ?_
    obtain ⟨u76, eu76, h⟩ := bs h
    obtain ⟨q75, eq75, h⟩ := bs h
    refine r_callV C (As := []) (b := a2) (rest := []) (st1 := [vI q75.1]) (v := some (vI q75.1)) (r := (RX11, TX11, 38)) (ci := 9) rfl eu76 (m_X11_signs C.tr eq75) (lw_V q1448 q1449 q1450 q133 q1451) rfl hdX11_signs rfl rfl (Nat.le_of_ble_eq_true rfl) ⟨by decide, by decide⟩ dL_law_502 rfl ?_
    refine r_istore C [(6, vI q75.1), (5, vI q73.1), (0, vO a0), (1, vO a1), (2, vO a2), (3, vO a3), (4, vI x4)] dL_law_505 (by decide) rfl ?_
    refine r_aload_n C 4 dL_law_507 rfl rfl ?_
    obtain ⟨u78, eu78, h⟩ := bs h
    obtain ⟨q77, eq77, h⟩ := bs h
    refine r_callV C (As := []) (b := a2) (rest := []) (st1 := [vI q77.1]) (v := some (vI q77.1)) (r := (RX11, TX11, 38)) (ci := 9) rfl eu78 (m_X11_thrown C.tr eq77) (lw_V q1303 q1304 q1305 q133 q1306) rfl hdX11_thrown rfl rfl (Nat.le_of_ble_eq_true rfl) ⟨by decide, by decide⟩ dL_law_508 rfl ?_
    refine r_iload C 1 dL_law_511 rfl ?_
    refine r_icmp_eq C dL_law_513 (tgt := 518) (by decide) (fun c79 => ?_) (fun c79 => ?_)
    · have h := it_ h c79
      refine r_iload C 1 dL_law_518 rfl ?_
      refine r_if_ne C dL_law_520 (tgt := 535) (by decide) (fun c80 => ?_) (fun c80 => ?_)
      · have h := ie_ h c80
        refine r_goto C dL_law_535 (tgt := 2832) (by decide) ?_
        refine r_sub [2, 3, 4, 5, 6] rfl ?_
        exact w_L_law_b2832 (fin := fin) C G h1 h hK
      · have h := it_ h c80
        refine r_aload_n C 5 dL_law_523 rfl rfl ?_
        refine r_iconst C dL_law_524 ?_
        obtain ⟨v81, ev81, h⟩ := bs h
        refine r_lald C ev81 dL_law_525 ?_
        refine r_iload C 0 dL_law_526 rfl ?_
        refine r_i2l C dL_law_528 ?_
        refine r_lcmp_eq C dL_law_529 dL_law_530 (tgt := 535) (by decide) (fun c82 => ?_) (fun c82 => ?_)
        · have h := it_ h c82
          refine r_goto C dL_law_535 (tgt := 2832) (by decide) ?_
          refine r_sub [2, 3, 4, 5, 6] rfl ?_
          exact w_L_law_b2832 (fin := fin) C G h1 h hK
        · have h := ie_ h c82
          refine r_iconst C dL_law_533 ?_
          cases h
          have hK : (0, q77.2) = fin := hK
          subst hK
          exact absurd (show (0 : Int) = 1 from h1) (by decide)
    · have h := ie_ h c79
      refine r_iconst C dL_law_516 ?_
      cases h
      have hK : (0, q77.2) = fin := hK
      subst hK
      exact absurd (show (0 : Int) = 1 from h1) (by decide)
noncomputable def s_L_law_b538 (b n : Nat) (xs : Nat → Int32) (a0 : Nat) (a1 : Nat) (a2 : Nat) (a3 : Nat) (x4 : Int)  (μ : Me) : Option ((Int × Me) ⊕ (Int × Me)) :=
  (ck μ 0 a1).bind fun _ =>
  (s_X1_fault a1 μ).bind fun q84 =>
  (ck q84.2 9 a2).bind fun _ =>
  (s_X11_fault a2 q84.2).bind fun q86 =>
  (if w32 q84.1 = w32 q86.1 then
  s_L_law_b2832 b n xs a0 a1 a2 a3 x4 q86.2
  else
  some (.inr (0, q86.2)))
theorem w_L_law_b538 {Z : Zt} {nm : String} {Qf : State → Prop} {b n : Nat} {xs : Nat → Int32} {fin : Int × Me} {w : ((Int × Me) ⊕ (Int × Me))} (C : CX Z ⟨RX0, nm, ""⟩ cL_law (some .boolean) 213 8) (G : LX Z Qf b n xs) (h1 : fin.1 = 1) {a0 : Nat} {a1 : Nat} {a2 : Nat} {a3 : Nat} {x4 : Int}  {μ : Me} (h : s_L_law_b538 b n xs a0 a1 a2 a3 x4 μ = some w) (hK : (Sum.elim (fun s : Int × Me => WL Z (Qf) s.2 23 [(0, vO a0), (1, vO a1), (2, vO a2), (3, vO a3), (4, vI s.1)] []) (fun r : Int × Me => r = fin)) w) : WL Z (Qf) μ 538 [(0, vO a0), (1, vO a1), (2, vO a2), (3, vO a3), (4, vI x4)] [] := by
  unfold s_L_law_b538 at h
  refine r_aload_n C 1 dL_law_538 rfl rfl ?_
  obtain ⟨u85, eu85, h⟩ := bs h
  obtain ⟨q84, eq84, h⟩ := bs h
  refine r_callV C (As := []) (b := a1) (rest := []) (st1 := [vI q84.1]) (v := some (vI q84.1)) (r := (RX1, TX1, 19)) (ci := 0) rfl eu85 (m_X1_fault C.tr eq84) (lw_V q502 q503 q504 q120 q505) rfl hdX1_fault rfl rfl (Nat.le_of_ble_eq_true rfl) ⟨by decide, by decide⟩ dL_law_539 rfl ?_
  refine r_aload_n C 2 dL_law_542 rfl rfl ?_
  obtain ⟨u87, eu87, h⟩ := bs h
  obtain ⟨q86, eq86, h⟩ := bs h
  refine r_callV C (As := []) (b := a2) (rest := [vI q84.1]) (st1 := [vI q86.1, vI q84.1]) (v := some (vI q86.1)) (r := (RX11, TX11, 38)) (ci := 9) rfl eu87 (m_X11_fault C.tr eq86) (lw_V q1444 q1445 q1446 q133 q1447) rfl hdX11_fault rfl rfl (Nat.le_of_ble_eq_true rfl) ⟨by decide, by decide⟩ dL_law_543 rfl ?_
  refine r_icmp_eq C dL_law_546 (tgt := 2832) (by decide) (fun c88 => ?_) (fun c88 => ?_)
  · have h := it_ h c88
    exact w_L_law_b2832 (fin := fin) C G h1 h hK
  · have h := ie_ h c88
    refine r_iconst C dL_law_549 ?_
    cases h
    have hK : (0, q86.2) = fin := hK
    subst hK
    exact absurd (show (0 : Int) = 1 from h1) (by decide)
noncomputable def s_L_law_b551 (b n : Nat) (xs : Nat → Int32) (a0 : Nat) (a1 : Nat) (a2 : Nat) (a3 : Nat) (x4 : Int)  (μ : Me) : Option ((Int × Me) ⊕ (Int × Me)) :=
  (gX b n xs a0 (x4 + 1)).bind fun v90 =>
  (gX b n xs a0 (x4 + 2)).bind fun v91 =>
  xb (s_X0_look a1 v90 v91 a3 μ) (fun e93 => none) fun q92 =>
  (gX b n xs a0 (x4 + 1)).bind fun v94 =>
  (gX b n xs a0 (x4 + 2)).bind fun v95 =>
  (ck q92.2 9 a2).bind fun _ =>
  (s_X11_look a2 v94 v95 q92.2).bind fun q96 =>
  (ck q96.2 9 a2).bind fun _ =>
  (s_X11_thrown a2 q96.2).bind fun q98 =>
  (if w32 q98.1 = w32 q92.1 then
  (if w32 q92.1 = 0 then
  (aJ q98.2 103 a3 0).bind fun v102 =>
  (if w64 v102 = w64 (w32 q96.1) then
  s_L_law_b2832 b n xs a0 a1 a2 a3 x4 q98.2
  else
  some (.inr (0, q98.2)))
  else
  s_L_law_b2832 b n xs a0 a1 a2 a3 x4 q98.2)
  else
  some (.inr (0, q98.2)))
theorem w_L_law_b551 {Z : Zt} {nm : String} {Qf : State → Prop} {b n : Nat} {xs : Nat → Int32} {fin : Int × Me} {w : ((Int × Me) ⊕ (Int × Me))} (C : CX Z ⟨RX0, nm, ""⟩ cL_law (some .boolean) 213 8) (G : LX Z Qf b n xs) (h1 : fin.1 = 1) {a0 : Nat} {a1 : Nat} {a2 : Nat} {a3 : Nat} {x4 : Int}  {μ : Me} (h : s_L_law_b551 b n xs a0 a1 a2 a3 x4 μ = some w) (hK : (Sum.elim (fun s : Int × Me => WL Z (Qf) s.2 23 [(0, vO a0), (1, vO a1), (2, vO a2), (3, vO a3), (4, vI s.1)] []) (fun r : Int × Me => r = fin)) w) : WL Z (Qf) μ 551 [(0, vO a0), (1, vO a1), (2, vO a2), (3, vO a3), (4, vI x4)] [] := by
  unfold s_L_law_b551 at h
  refine r_aload_n C 1 dL_law_551 rfl rfl ?_
  refine r_aload_n C 0 dL_law_552 rfl rfl ?_
  refine r_iload C 4 dL_law_553 rfl ?_
  refine r_iconst C dL_law_555 ?_
  refine r_iadd C dL_law_556 ?_
  obtain ⟨v90, ev90, h⟩ := bs h
  refine r_xld C G ev90 dL_law_557 ?_
  refine r_aload_n C 0 dL_law_558 rfl rfl ?_
  refine r_iload C 4 dL_law_559 rfl ?_
  refine r_iconst C dL_law_561 ?_
  refine r_iadd C dL_law_562 ?_
  obtain ⟨v91, ev91, h⟩ := bs h
  refine r_xld C G ev91 dL_law_563 ?_
  refine r_aload_n C 3 dL_law_564 rfl rfl ?_
  rcases xbs h with ⟨e93, eq92, h⟩ | ⟨q92, eq92, h⟩
  · cases h
  · refine r_xSH C (As := [vO a1, vI v90, vI v91, vO a3]) (rest := []) (st1 := [vI q92.1]) (v := some (vI q92.1)) (μ1 := q92.2) (m_X0_look C.tr eq92) (lw_SW q760 q761 q119 q762) hdX0_look rfl rfl (Nat.le_of_ble_eq_true rfl) ⟨by decide, by decide⟩ dL_law_565 rfl ?_
    refine r_istore C [(5, vI q92.1), (0, vO a0), (1, vO a1), (2, vO a2), (3, vO a3), (4, vI x4)] dL_law_568 (by decide) rfl ?_
    refine r_aload_n C 3 dL_law_570 rfl rfl ?_
    refine r_aload_n C 1 dL_law_571 rfl rfl ?_
    refine r_iload C 5 dL_law_572 rfl ?_
    refine r_iconst C dL_law_574 ?_
    refine r_iadd C dL_law_575 ?_
    obtain ⟨v94, ev94, h⟩ := bs h
    refine r_xld C G ev94 dL_law_576 ?_
    refine r_aload_n C 1 dL_law_577 rfl rfl ?_
    refine r_iload C 5 dL_law_578 rfl ?_
    refine r_iconst C dL_law_580 ?_
    refine r_iadd C dL_law_581 ?_
    obtain ⟨v95, ev95, h⟩ := bs h
    refine r_xld C G ev95 dL_law_582 ?_
    obtain ⟨u97, eu97, h⟩ := bs h
    obtain ⟨q96, eq96, h⟩ := bs h
    refine r_callV C (As := [vI v94, vI v95]) (b := a2) (rest := []) (st1 := [vI q96.1]) (v := some (vI q96.1)) (r := (RX11, TX11, 38)) (ci := 9) rfl eu97 (m_X11_look C.tr eq96) (lw_V q1597 q1598 q1599 q133 q1600) rfl hdX11_look rfl rfl (Nat.le_of_ble_eq_true rfl) ⟨by decide, by decide⟩ dL_law_583 rfl ?_
    refine r_istore C [(6, vI q96.1), (5, vI q92.1), (0, vO a0), (1, vO a1), (2, vO a2), (3, vO a3), (4, vI x4)] dL_law_586 (by decide) rfl ?_
    refine r_aload_n C 4 dL_law_588 rfl rfl ?_
    obtain ⟨u99, eu99, h⟩ := bs h
    obtain ⟨q98, eq98, h⟩ := bs h
    refine r_callV C (As := []) (b := a2) (rest := []) (st1 := [vI q98.1]) (v := some (vI q98.1)) (r := (RX11, TX11, 38)) (ci := 9) rfl eu99 (m_X11_thrown C.tr eq98) (lw_V q1303 q1304 q1305 q133 q1306) rfl hdX11_thrown rfl rfl (Nat.le_of_ble_eq_true rfl) ⟨by decide, by decide⟩ dL_law_589 rfl ?_
    refine r_iload C 1 dL_law_592 rfl ?_
    refine r_icmp_eq C dL_law_594 (tgt := 599) (by decide) (fun c100 => ?_) (fun c100 => ?_)
    · have h := it_ h c100
      refine r_iload C 1 dL_law_599 rfl ?_
      refine r_if_ne C dL_law_601 (tgt := 616) (by decide) (fun c101 => ?_) (fun c101 => ?_)
      · have h := ie_ h c101
        refine r_goto C dL_law_616 (tgt := 2832) (by decide) ?_
        refine r_sub [2, 3, 4, 5, 6] rfl ?_
        exact w_L_law_b2832 (fin := fin) C G h1 h hK
      · have h := it_ h c101
        refine r_aload_n C 5 dL_law_604 rfl rfl ?_
        refine r_iconst C dL_law_605 ?_
        obtain ⟨v102, ev102, h⟩ := bs h
        refine r_lald C ev102 dL_law_606 ?_
        refine r_iload C 0 dL_law_607 rfl ?_
        refine r_i2l C dL_law_609 ?_
        refine r_lcmp_eq C dL_law_610 dL_law_611 (tgt := 616) (by decide) (fun c103 => ?_) (fun c103 => ?_)
        · have h := it_ h c103
          refine r_goto C dL_law_616 (tgt := 2832) (by decide) ?_
          refine r_sub [2, 3, 4, 5, 6] rfl ?_
          exact w_L_law_b2832 (fin := fin) C G h1 h hK
        · have h := ie_ h c103
          refine r_iconst C dL_law_614 ?_
          cases h
          have hK : (0, q98.2) = fin := hK
          subst hK
          exact absurd (show (0 : Int) = 1 from h1) (by decide)
    · have h := ie_ h c100
      refine r_iconst C dL_law_597 ?_
      cases h
      have hK : (0, q98.2) = fin := hK
      subst hK
      exact absurd (show (0 : Int) = 1 from h1) (by decide)
noncomputable def s_L_law_b619 (b n : Nat) (xs : Nat → Int32) (a0 : Nat) (a1 : Nat) (a2 : Nat) (a3 : Nat) (x4 : Int)  (μ : Me) : Option ((Int × Me) ⊕ (Int × Me)) :=
  (gX b n xs a0 (x4 + 1)).bind fun v105 =>
  (gX b n xs a0 (x4 + 2)).bind fun v106 =>
  (gX b n xs a0 (x4 + 3)).bind fun v107 =>
  xb (s_X0_at a1 v105 v106 v107 a3 μ) (fun e109 => none) fun q108 =>
  (gX b n xs a0 (x4 + 1)).bind fun v110 =>
  (gX b n xs a0 (x4 + 2)).bind fun v111 =>
  (gX b n xs a0 (x4 + 3)).bind fun v112 =>
  (ck q108.2 9 a2).bind fun _ =>
  (s_X11_at a2 v110 v111 v112 q108.2).bind fun q113 =>
  (ck q113.2 9 a2).bind fun _ =>
  (s_X11_thrown a2 q113.2).bind fun q115 =>
  (if w32 q115.1 = w32 q108.1 then
  (if w32 q108.1 = 0 then
  (aJ q115.2 103 a3 0).bind fun v119 =>
  (if w64 v119 = w64 (w32 q113.1) then
  s_L_law_b2832 b n xs a0 a1 a2 a3 x4 q115.2
  else
  some (.inr (0, q115.2)))
  else
  s_L_law_b2832 b n xs a0 a1 a2 a3 x4 q115.2)
  else
  some (.inr (0, q115.2)))
theorem w_L_law_b619 {Z : Zt} {nm : String} {Qf : State → Prop} {b n : Nat} {xs : Nat → Int32} {fin : Int × Me} {w : ((Int × Me) ⊕ (Int × Me))} (C : CX Z ⟨RX0, nm, ""⟩ cL_law (some .boolean) 213 8) (G : LX Z Qf b n xs) (h1 : fin.1 = 1) {a0 : Nat} {a1 : Nat} {a2 : Nat} {a3 : Nat} {x4 : Int}  {μ : Me} (h : s_L_law_b619 b n xs a0 a1 a2 a3 x4 μ = some w) (hK : (Sum.elim (fun s : Int × Me => WL Z (Qf) s.2 23 [(0, vO a0), (1, vO a1), (2, vO a2), (3, vO a3), (4, vI s.1)] []) (fun r : Int × Me => r = fin)) w) : WL Z (Qf) μ 619 [(0, vO a0), (1, vO a1), (2, vO a2), (3, vO a3), (4, vI x4)] [] := by
  unfold s_L_law_b619 at h
  refine r_aload_n C 1 dL_law_619 rfl rfl ?_
  refine r_aload_n C 0 dL_law_620 rfl rfl ?_
  refine r_iload C 4 dL_law_621 rfl ?_
  refine r_iconst C dL_law_623 ?_
  refine r_iadd C dL_law_624 ?_
  obtain ⟨v105, ev105, h⟩ := bs h
  refine r_xld C G ev105 dL_law_625 ?_
  refine r_aload_n C 0 dL_law_626 rfl rfl ?_
  refine r_iload C 4 dL_law_627 rfl ?_
  refine r_iconst C dL_law_629 ?_
  refine r_iadd C dL_law_630 ?_
  obtain ⟨v106, ev106, h⟩ := bs h
  refine r_xld C G ev106 dL_law_631 ?_
  refine r_aload_n C 0 dL_law_632 rfl rfl ?_
  refine r_iload C 4 dL_law_633 rfl ?_
  refine r_iconst C dL_law_635 ?_
  refine r_iadd C dL_law_636 ?_
  obtain ⟨v107, ev107, h⟩ := bs h
  refine r_xld C G ev107 dL_law_637 ?_
  refine r_aload_n C 3 dL_law_638 rfl rfl ?_
  rcases xbs h with ⟨e109, eq108, h⟩ | ⟨q108, eq108, h⟩
  · cases h
  · refine r_xSH C (As := [vO a1, vI v105, vI v106, vI v107, vO a3]) (rest := []) (st1 := [vI q108.1]) (v := some (vI q108.1)) (μ1 := q108.2) (m_X0_at C.tr eq108) (lw_SW q824 q825 q119 q826) hdX0_at rfl rfl (Nat.le_of_ble_eq_true rfl) ⟨by decide, by decide⟩ dL_law_639 rfl ?_
    refine r_istore C [(5, vI q108.1), (0, vO a0), (1, vO a1), (2, vO a2), (3, vO a3), (4, vI x4)] dL_law_642 (by decide) rfl ?_
    refine r_aload_n C 3 dL_law_644 rfl rfl ?_
    refine r_aload_n C 1 dL_law_645 rfl rfl ?_
    refine r_iload C 5 dL_law_646 rfl ?_
    refine r_iconst C dL_law_648 ?_
    refine r_iadd C dL_law_649 ?_
    obtain ⟨v110, ev110, h⟩ := bs h
    refine r_xld C G ev110 dL_law_650 ?_
    refine r_aload_n C 1 dL_law_651 rfl rfl ?_
    refine r_iload C 5 dL_law_652 rfl ?_
    refine r_iconst C dL_law_654 ?_
    refine r_iadd C dL_law_655 ?_
    obtain ⟨v111, ev111, h⟩ := bs h
    refine r_xld C G ev111 dL_law_656 ?_
    refine r_aload_n C 1 dL_law_657 rfl rfl ?_
    refine r_iload C 5 dL_law_658 rfl ?_
    refine r_iconst C dL_law_660 ?_
    refine r_iadd C dL_law_661 ?_
    obtain ⟨v112, ev112, h⟩ := bs h
    refine r_xld C G ev112 dL_law_662 ?_
    obtain ⟨u114, eu114, h⟩ := bs h
    obtain ⟨q113, eq113, h⟩ := bs h
    refine r_callV C (As := [vI v110, vI v111, vI v112]) (b := a2) (rest := []) (st1 := [vI q113.1]) (v := some (vI q113.1)) (r := (RX11, TX11, 38)) (ci := 9) rfl eu114 (m_X11_at C.tr eq113) (lw_V q1613 q1614 q1615 q133 q1616) rfl hdX11_at rfl rfl (Nat.le_of_ble_eq_true rfl) ⟨by decide, by decide⟩ dL_law_663 rfl ?_
    refine r_istore C [(6, vI q113.1), (5, vI q108.1), (0, vO a0), (1, vO a1), (2, vO a2), (3, vO a3), (4, vI x4)] dL_law_666 (by decide) rfl ?_
    refine r_aload_n C 4 dL_law_668 rfl rfl ?_
    obtain ⟨u116, eu116, h⟩ := bs h
    obtain ⟨q115, eq115, h⟩ := bs h
    refine r_callV C (As := []) (b := a2) (rest := []) (st1 := [vI q115.1]) (v := some (vI q115.1)) (r := (RX11, TX11, 38)) (ci := 9) rfl eu116 (m_X11_thrown C.tr eq115) (lw_V q1303 q1304 q1305 q133 q1306) rfl hdX11_thrown rfl rfl (Nat.le_of_ble_eq_true rfl) ⟨by decide, by decide⟩ dL_law_669 rfl ?_
    refine r_iload C 1 dL_law_672 rfl ?_
    refine r_icmp_eq C dL_law_674 (tgt := 679) (by decide) (fun c117 => ?_) (fun c117 => ?_)
    · have h := it_ h c117
      refine r_iload C 1 dL_law_679 rfl ?_
      refine r_if_ne C dL_law_681 (tgt := 696) (by decide) (fun c118 => ?_) (fun c118 => ?_)
      · have h := ie_ h c118
        refine r_goto C dL_law_696 (tgt := 2832) (by decide) ?_
        refine r_sub [2, 3, 4, 5, 6] rfl ?_
        exact w_L_law_b2832 (fin := fin) C G h1 h hK
      · have h := it_ h c118
        refine r_aload_n C 5 dL_law_684 rfl rfl ?_
        refine r_iconst C dL_law_685 ?_
        obtain ⟨v119, ev119, h⟩ := bs h
        refine r_lald C ev119 dL_law_686 ?_
        refine r_iload C 0 dL_law_687 rfl ?_
        refine r_i2l C dL_law_689 ?_
        refine r_lcmp_eq C dL_law_690 dL_law_691 (tgt := 696) (by decide) (fun c120 => ?_) (fun c120 => ?_)
        · have h := it_ h c120
          refine r_goto C dL_law_696 (tgt := 2832) (by decide) ?_
          refine r_sub [2, 3, 4, 5, 6] rfl ?_
          exact w_L_law_b2832 (fin := fin) C G h1 h hK
        · have h := ie_ h c120
          refine r_iconst C dL_law_694 ?_
          cases h
          have hK : (0, q115.2) = fin := hK
          subst hK
          exact absurd (show (0 : Int) = 1 from h1) (by decide)
    · have h := ie_ h c117
      refine r_iconst C dL_law_677 ?_
      cases h
      have hK : (0, q115.2) = fin := hK
      subst hK
      exact absurd (show (0 : Int) = 1 from h1) (by decide)
noncomputable def s_L_law_b699 (b n : Nat) (xs : Nat → Int32) (a0 : Nat) (a1 : Nat) (a2 : Nat) (a3 : Nat) (x4 : Int)  (μ : Me) : Option ((Int × Me) ⊕ (Int × Me)) :=
  (gX b n xs a0 (x4 + 1)).bind fun v122 =>
  xb (s_X0_det a1 v122 a3 μ) (fun e124 => none) fun q123 =>
  (gX b n xs a0 (x4 + 1)).bind fun v125 =>
  (ck q123.2 9 a2).bind fun _ =>
  (s_X11_det a2 v125 q123.2).bind fun q126 =>
  (ck q126.2 9 a2).bind fun _ =>
  (s_X11_thrown a2 q126.2).bind fun q128 =>
  (if w32 q128.1 = w32 q123.1 then
  (if w32 q123.1 = 0 then
  (aJ q128.2 103 a3 0).bind fun v132 =>
  (if w64 v132 = w64 (w32 q126.1) then
  s_L_law_b2832 b n xs a0 a1 a2 a3 x4 q128.2
  else
  some (.inr (0, q128.2)))
  else
  s_L_law_b2832 b n xs a0 a1 a2 a3 x4 q128.2)
  else
  some (.inr (0, q128.2)))
theorem w_L_law_b699 {Z : Zt} {nm : String} {Qf : State → Prop} {b n : Nat} {xs : Nat → Int32} {fin : Int × Me} {w : ((Int × Me) ⊕ (Int × Me))} (C : CX Z ⟨RX0, nm, ""⟩ cL_law (some .boolean) 213 8) (G : LX Z Qf b n xs) (h1 : fin.1 = 1) {a0 : Nat} {a1 : Nat} {a2 : Nat} {a3 : Nat} {x4 : Int}  {μ : Me} (h : s_L_law_b699 b n xs a0 a1 a2 a3 x4 μ = some w) (hK : (Sum.elim (fun s : Int × Me => WL Z (Qf) s.2 23 [(0, vO a0), (1, vO a1), (2, vO a2), (3, vO a3), (4, vI s.1)] []) (fun r : Int × Me => r = fin)) w) : WL Z (Qf) μ 699 [(0, vO a0), (1, vO a1), (2, vO a2), (3, vO a3), (4, vI x4)] [] := by
  unfold s_L_law_b699 at h
  refine r_aload_n C 1 dL_law_699 rfl rfl ?_
  refine r_aload_n C 0 dL_law_700 rfl rfl ?_
  refine r_iload C 4 dL_law_701 rfl ?_
  refine r_iconst C dL_law_703 ?_
  refine r_iadd C dL_law_704 ?_
  obtain ⟨v122, ev122, h⟩ := bs h
  refine r_xld C G ev122 dL_law_705 ?_
  refine r_aload_n C 3 dL_law_706 rfl rfl ?_
  rcases xbs h with ⟨e124, eq123, h⟩ | ⟨q123, eq123, h⟩
  · cases h
  · refine r_xSH C (As := [vO a1, vI v122, vO a3]) (rest := []) (st1 := [vI q123.1]) (v := some (vI q123.1)) (μ1 := q123.2) (m_X0_det C.tr eq123) (lw_SW q841 q842 q119 q843) hdX0_det rfl rfl (Nat.le_of_ble_eq_true rfl) ⟨by decide, by decide⟩ dL_law_707 rfl ?_
    refine r_istore C [(5, vI q123.1), (0, vO a0), (1, vO a1), (2, vO a2), (3, vO a3), (4, vI x4)] dL_law_710 (by decide) rfl ?_
    refine r_aload_n C 3 dL_law_712 rfl rfl ?_
    refine r_aload_n C 1 dL_law_713 rfl rfl ?_
    refine r_iload C 5 dL_law_714 rfl ?_
    refine r_iconst C dL_law_716 ?_
    refine r_iadd C dL_law_717 ?_
    obtain ⟨v125, ev125, h⟩ := bs h
    refine r_xld C G ev125 dL_law_718 ?_
    obtain ⟨u127, eu127, h⟩ := bs h
    obtain ⟨q126, eq126, h⟩ := bs h
    refine r_callV C (As := [vI v125]) (b := a2) (rest := []) (st1 := [vI q126.1]) (v := some (vI q126.1)) (r := (RX11, TX11, 38)) (ci := 9) rfl eu127 (m_X11_det C.tr eq126) (lw_V q1593 q1594 q1595 q133 q1596) rfl hdX11_det rfl rfl (Nat.le_of_ble_eq_true rfl) ⟨by decide, by decide⟩ dL_law_719 rfl ?_
    refine r_istore C [(6, vI q126.1), (5, vI q123.1), (0, vO a0), (1, vO a1), (2, vO a2), (3, vO a3), (4, vI x4)] dL_law_722 (by decide) rfl ?_
    refine r_aload_n C 4 dL_law_724 rfl rfl ?_
    obtain ⟨u129, eu129, h⟩ := bs h
    obtain ⟨q128, eq128, h⟩ := bs h
    refine r_callV C (As := []) (b := a2) (rest := []) (st1 := [vI q128.1]) (v := some (vI q128.1)) (r := (RX11, TX11, 38)) (ci := 9) rfl eu129 (m_X11_thrown C.tr eq128) (lw_V q1303 q1304 q1305 q133 q1306) rfl hdX11_thrown rfl rfl (Nat.le_of_ble_eq_true rfl) ⟨by decide, by decide⟩ dL_law_725 rfl ?_
    refine r_iload C 1 dL_law_728 rfl ?_
    refine r_icmp_eq C dL_law_730 (tgt := 735) (by decide) (fun c130 => ?_) (fun c130 => ?_)
    · have h := it_ h c130
      refine r_iload C 1 dL_law_735 rfl ?_
      refine r_if_ne C dL_law_737 (tgt := 752) (by decide) (fun c131 => ?_) (fun c131 => ?_)
      · have h := ie_ h c131
        refine r_goto C dL_law_752 (tgt := 2832) (by decide) ?_
        refine r_sub [2, 3, 4, 5, 6] rfl ?_
        exact w_L_law_b2832 (fin := fin) C G h1 h hK
      · have h := it_ h c131
        refine r_aload_n C 5 dL_law_740 rfl rfl ?_
        refine r_iconst C dL_law_741 ?_
        obtain ⟨v132, ev132, h⟩ := bs h
        refine r_lald C ev132 dL_law_742 ?_
        refine r_iload C 0 dL_law_743 rfl ?_
        refine r_i2l C dL_law_745 ?_
        refine r_lcmp_eq C dL_law_746 dL_law_747 (tgt := 752) (by decide) (fun c133 => ?_) (fun c133 => ?_)
        · have h := it_ h c133
          refine r_goto C dL_law_752 (tgt := 2832) (by decide) ?_
          refine r_sub [2, 3, 4, 5, 6] rfl ?_
          exact w_L_law_b2832 (fin := fin) C G h1 h hK
        · have h := ie_ h c133
          refine r_iconst C dL_law_750 ?_
          cases h
          have hK : (0, q128.2) = fin := hK
          subst hK
          exact absurd (show (0 : Int) = 1 from h1) (by decide)
    · have h := ie_ h c130
      refine r_iconst C dL_law_733 ?_
      cases h
      have hK : (0, q128.2) = fin := hK
      subst hK
      exact absurd (show (0 : Int) = 1 from h1) (by decide)
noncomputable def s_L_law_b755 (b n : Nat) (xs : Nat → Int32) (a0 : Nat) (a1 : Nat) (a2 : Nat) (a3 : Nat) (x4 : Int)  (μ : Me) : Option ((Int × Me) ⊕ (Int × Me)) :=
  (gX b n xs a0 (x4 + 1)).bind fun v135 =>
  (gX b n xs a0 (x4 + 2)).bind fun v136 =>
  xb (s_X0_mix a1 v135 v136 a3 μ) (fun e138 => none) fun q137 =>
  (gX b n xs a0 (x4 + 1)).bind fun v139 =>
  (gX b n xs a0 (x4 + 2)).bind fun v140 =>
  (ck q137.2 9 a2).bind fun _ =>
  (s_X11_mix a2 v139 v140 q137.2).bind fun q141 =>
  (ck q141.2 9 a2).bind fun _ =>
  (s_X11_thrown a2 q141.2).bind fun q143 =>
  (if w32 q143.1 = w32 q137.1 then
  (if w32 q137.1 = 0 then
  (aJ q143.2 103 a3 0).bind fun v147 =>
  (if w32 q141.1 = 0 then
  (if w64 v147 = w64 0 then
  s_L_law_b2832 b n xs a0 a1 a2 a3 x4 q143.2
  else
  some (.inr (0, q143.2)))
  else
  (if w64 v147 = w64 1 then
  s_L_law_b2832 b n xs a0 a1 a2 a3 x4 q143.2
  else
  some (.inr (0, q143.2))))
  else
  s_L_law_b2832 b n xs a0 a1 a2 a3 x4 q143.2)
  else
  some (.inr (0, q143.2)))
theorem w_L_law_b755 {Z : Zt} {nm : String} {Qf : State → Prop} {b n : Nat} {xs : Nat → Int32} {fin : Int × Me} {w : ((Int × Me) ⊕ (Int × Me))} (C : CX Z ⟨RX0, nm, ""⟩ cL_law (some .boolean) 213 8) (G : LX Z Qf b n xs) (h1 : fin.1 = 1) {a0 : Nat} {a1 : Nat} {a2 : Nat} {a3 : Nat} {x4 : Int}  {μ : Me} (h : s_L_law_b755 b n xs a0 a1 a2 a3 x4 μ = some w) (hK : (Sum.elim (fun s : Int × Me => WL Z (Qf) s.2 23 [(0, vO a0), (1, vO a1), (2, vO a2), (3, vO a3), (4, vI s.1)] []) (fun r : Int × Me => r = fin)) w) : WL Z (Qf) μ 755 [(0, vO a0), (1, vO a1), (2, vO a2), (3, vO a3), (4, vI x4)] [] := by
  unfold s_L_law_b755 at h
  refine r_aload_n C 1 dL_law_755 rfl rfl ?_
  refine r_aload_n C 0 dL_law_756 rfl rfl ?_
  refine r_iload C 4 dL_law_757 rfl ?_
  refine r_iconst C dL_law_759 ?_
  refine r_iadd C dL_law_760 ?_
  obtain ⟨v135, ev135, h⟩ := bs h
  refine r_xld C G ev135 dL_law_761 ?_
  refine r_aload_n C 0 dL_law_762 rfl rfl ?_
  refine r_iload C 4 dL_law_763 rfl ?_
  refine r_iconst C dL_law_765 ?_
  refine r_iadd C dL_law_766 ?_
  obtain ⟨v136, ev136, h⟩ := bs h
  refine r_xld C G ev136 dL_law_767 ?_
  refine r_aload_n C 3 dL_law_768 rfl rfl ?_
  rcases xbs h with ⟨e138, eq137, h⟩ | ⟨q137, eq137, h⟩
  · cases h
  · refine r_xSH C (As := [vO a1, vI v135, vI v136, vO a3]) (rest := []) (st1 := [vI q137.1]) (v := some (vI q137.1)) (μ1 := q137.2) (m_X0_mix C.tr eq137) (lw_SW q852 q853 q119 q854) hdX0_mix rfl rfl (Nat.le_of_ble_eq_true rfl) ⟨by decide, by decide⟩ dL_law_769 rfl ?_
    refine r_istore C [(5, vI q137.1), (0, vO a0), (1, vO a1), (2, vO a2), (3, vO a3), (4, vI x4)] dL_law_772 (by decide) rfl ?_
    refine r_aload_n C 3 dL_law_774 rfl rfl ?_
    refine r_aload_n C 1 dL_law_775 rfl rfl ?_
    refine r_iload C 5 dL_law_776 rfl ?_
    refine r_iconst C dL_law_778 ?_
    refine r_iadd C dL_law_779 ?_
    obtain ⟨v139, ev139, h⟩ := bs h
    refine r_xld C G ev139 dL_law_780 ?_
    refine r_aload_n C 1 dL_law_781 rfl rfl ?_
    refine r_iload C 5 dL_law_782 rfl ?_
    refine r_iconst C dL_law_784 ?_
    refine r_iadd C dL_law_785 ?_
    obtain ⟨v140, ev140, h⟩ := bs h
    refine r_xld C G ev140 dL_law_786 ?_
    obtain ⟨u142, eu142, h⟩ := bs h
    obtain ⟨q141, eq141, h⟩ := bs h
    refine r_callV C (As := [vI v139, vI v140]) (b := a2) (rest := []) (st1 := [vI q141.1]) (v := some (vI q141.1)) (r := (RX11, TX11, 38)) (ci := 9) rfl eu142 (m_X11_mix C.tr eq141) (lw_V q1633 q1634 q1635 q133 q1636) rfl hdX11_mix rfl rfl (Nat.le_of_ble_eq_true rfl) ⟨by decide, by decide⟩ dL_law_787 rfl ?_
    refine r_istore C [(6, vI q141.1), (5, vI q137.1), (0, vO a0), (1, vO a1), (2, vO a2), (3, vO a3), (4, vI x4)] dL_law_790 (by decide) rfl ?_
    refine r_aload_n C 4 dL_law_792 rfl rfl ?_
    obtain ⟨u144, eu144, h⟩ := bs h
    obtain ⟨q143, eq143, h⟩ := bs h
    refine r_callV C (As := []) (b := a2) (rest := []) (st1 := [vI q143.1]) (v := some (vI q143.1)) (r := (RX11, TX11, 38)) (ci := 9) rfl eu144 (m_X11_thrown C.tr eq143) (lw_V q1303 q1304 q1305 q133 q1306) rfl hdX11_thrown rfl rfl (Nat.le_of_ble_eq_true rfl) ⟨by decide, by decide⟩ dL_law_793 rfl ?_
    refine r_iload C 1 dL_law_796 rfl ?_
    refine r_icmp_eq C dL_law_798 (tgt := 803) (by decide) (fun c145 => ?_) (fun c145 => ?_)
    · have h := it_ h c145
      refine r_iload C 1 dL_law_803 rfl ?_
      refine r_if_ne C dL_law_805 (tgt := 827) (by decide) (fun c146 => ?_) (fun c146 => ?_)
      · have h := ie_ h c146
        refine r_goto C dL_law_827 (tgt := 2832) (by decide) ?_
        refine r_sub [2, 3, 4, 5, 6] rfl ?_
        exact w_L_law_b2832 (fin := fin) C G h1 h hK
      · have h := it_ h c146
        refine r_aload_n C 5 dL_law_808 rfl rfl ?_
        refine r_iconst C dL_law_809 ?_
        obtain ⟨v147, ev147, h⟩ := bs h
        refine r_lald C ev147 dL_law_810 ?_
        refine r_iload C 0 dL_law_811 rfl ?_
        refine r_if_eq C dL_law_813 (tgt := 820) (by decide) (fun c148 => ?_) (fun c148 => ?_)
        · have h := it_ h c148
          refine r_lconst (v := 0) C dL_law_820 (by decide) ?_
          refine r_lcmp_eq C dL_law_821 dL_law_822 (tgt := 827) (by decide) (fun c149 => ?_) (fun c149 => ?_)
          · have h := it_ h c149
            refine r_goto C dL_law_827 (tgt := 2832) (by decide) ?_
            refine r_sub [2, 3, 4, 5, 6] rfl ?_
            exact w_L_law_b2832 (fin := fin) C G h1 h hK
          · have h := ie_ h c149
            refine r_iconst C dL_law_825 ?_
            cases h
            have hK : (0, q143.2) = fin := hK
            subst hK
            exact absurd (show (0 : Int) = 1 from h1) (by decide)
        · have h := ie_ h c148
          refine r_lconst (v := 1) C dL_law_816 (by decide) ?_
          refine r_goto C dL_law_817 (tgt := 821) (by decide) ?_
          refine r_lcmp_eq C dL_law_821 dL_law_822 (tgt := 827) (by decide) (fun c150 => ?_) (fun c150 => ?_)
          · have h := it_ h c150
            refine r_goto C dL_law_827 (tgt := 2832) (by decide) ?_
            refine r_sub [2, 3, 4, 5, 6] rfl ?_
            exact w_L_law_b2832 (fin := fin) C G h1 h hK
          · have h := ie_ h c150
            refine r_iconst C dL_law_825 ?_
            cases h
            have hK : (0, q143.2) = fin := hK
            subst hK
            exact absurd (show (0 : Int) = 1 from h1) (by decide)
    · have h := ie_ h c145
      refine r_iconst C dL_law_801 ?_
      cases h
      have hK : (0, q143.2) = fin := hK
      subst hK
      exact absurd (show (0 : Int) = 1 from h1) (by decide)
noncomputable def s_L_law_b830 (b n : Nat) (xs : Nat → Int32) (a0 : Nat) (a1 : Nat) (a2 : Nat) (a3 : Nat) (x4 : Int)  (μ : Me) : Option ((Int × Me) ⊕ (Int × Me)) :=
  (ck μ 0 a1).bind fun _ =>
  (s_X1_undo a1 μ).bind fun q152 =>
  (ck q152.2 9 a2).bind fun _ =>
  (s_X11_undo a2 q152.2).bind fun q154 =>
  (if w32 q152.1 = w32 q154.1 then
  s_L_law_b2832 b n xs a0 a1 a2 a3 x4 q154.2
  else
  some (.inr (0, q154.2)))
theorem w_L_law_b830 {Z : Zt} {nm : String} {Qf : State → Prop} {b n : Nat} {xs : Nat → Int32} {fin : Int × Me} {w : ((Int × Me) ⊕ (Int × Me))} (C : CX Z ⟨RX0, nm, ""⟩ cL_law (some .boolean) 213 8) (G : LX Z Qf b n xs) (h1 : fin.1 = 1) {a0 : Nat} {a1 : Nat} {a2 : Nat} {a3 : Nat} {x4 : Int}  {μ : Me} (h : s_L_law_b830 b n xs a0 a1 a2 a3 x4 μ = some w) (hK : (Sum.elim (fun s : Int × Me => WL Z (Qf) s.2 23 [(0, vO a0), (1, vO a1), (2, vO a2), (3, vO a3), (4, vI s.1)] []) (fun r : Int × Me => r = fin)) w) : WL Z (Qf) μ 830 [(0, vO a0), (1, vO a1), (2, vO a2), (3, vO a3), (4, vI x4)] [] := by
  unfold s_L_law_b830 at h
  refine r_aload_n C 1 dL_law_830 rfl rfl ?_
  obtain ⟨u153, eu153, h⟩ := bs h
  obtain ⟨q152, eq152, h⟩ := bs h
  refine r_callV C (As := []) (b := a1) (rest := []) (st1 := [vI q152.1]) (v := some (vI q152.1)) (r := (RX1, TX1, 19)) (ci := 0) rfl eu153 (m_X1_undo C.tr eq152) (lw_V q506 q507 q508 q120 q509) rfl hdX1_undo rfl rfl (Nat.le_of_ble_eq_true rfl) ⟨by decide, by decide⟩ dL_law_831 rfl ?_
  refine r_aload_n C 2 dL_law_834 rfl rfl ?_
  obtain ⟨u155, eu155, h⟩ := bs h
  obtain ⟨q154, eq154, h⟩ := bs h
  refine r_callV C (As := []) (b := a2) (rest := [vI q152.1]) (st1 := [vI q154.1, vI q152.1]) (v := some (vI q154.1)) (r := (RX11, TX11, 38)) (ci := 9) rfl eu155 (m_X11_undo C.tr eq154) (lw_V q1657 q1658 q1659 q133 q1660) rfl hdX11_undo rfl rfl (Nat.le_of_ble_eq_true rfl) ⟨by decide, by decide⟩ dL_law_835 rfl ?_
  refine r_icmp_eq C dL_law_838 (tgt := 2832) (by decide) (fun c156 => ?_) (fun c156 => ?_)
  · have h := it_ h c156
    exact w_L_law_b2832 (fin := fin) C G h1 h hK
  · have h := ie_ h c156
    refine r_iconst C dL_law_841 ?_
    cases h
    have hK : (0, q154.2) = fin := hK
    subst hK
    exact absurd (show (0 : Int) = 1 from h1) (by decide)
noncomputable def s_L_law_b843 (b n : Nat) (xs : Nat → Int32) (a0 : Nat) (a1 : Nat) (a2 : Nat) (a3 : Nat) (x4 : Int)  (μ : Me) : Option ((Int × Me) ⊕ (Int × Me)) :=
  (ck μ 0 a1).bind fun _ =>
  (s_X1_redo a1 μ).bind fun q158 =>
  (ck q158.2 9 a2).bind fun _ =>
  (s_X11_redo a2 q158.2).bind fun q160 =>
  (if w32 q158.1 = w32 q160.1 then
  s_L_law_b2832 b n xs a0 a1 a2 a3 x4 q160.2
  else
  some (.inr (0, q160.2)))
theorem w_L_law_b843 {Z : Zt} {nm : String} {Qf : State → Prop} {b n : Nat} {xs : Nat → Int32} {fin : Int × Me} {w : ((Int × Me) ⊕ (Int × Me))} (C : CX Z ⟨RX0, nm, ""⟩ cL_law (some .boolean) 213 8) (G : LX Z Qf b n xs) (h1 : fin.1 = 1) {a0 : Nat} {a1 : Nat} {a2 : Nat} {a3 : Nat} {x4 : Int}  {μ : Me} (h : s_L_law_b843 b n xs a0 a1 a2 a3 x4 μ = some w) (hK : (Sum.elim (fun s : Int × Me => WL Z (Qf) s.2 23 [(0, vO a0), (1, vO a1), (2, vO a2), (3, vO a3), (4, vI s.1)] []) (fun r : Int × Me => r = fin)) w) : WL Z (Qf) μ 843 [(0, vO a0), (1, vO a1), (2, vO a2), (3, vO a3), (4, vI x4)] [] := by
  unfold s_L_law_b843 at h
  refine r_aload_n C 1 dL_law_843 rfl rfl ?_
  obtain ⟨u159, eu159, h⟩ := bs h
  obtain ⟨q158, eq158, h⟩ := bs h
  refine r_callV C (As := []) (b := a1) (rest := []) (st1 := [vI q158.1]) (v := some (vI q158.1)) (r := (RX1, TX1, 19)) (ci := 0) rfl eu159 (m_X1_redo C.tr eq158) (lw_V q517 q518 q519 q120 q520) rfl hdX1_redo rfl rfl (Nat.le_of_ble_eq_true rfl) ⟨by decide, by decide⟩ dL_law_844 rfl ?_
  refine r_aload_n C 2 dL_law_847 rfl rfl ?_
  obtain ⟨u161, eu161, h⟩ := bs h
  obtain ⟨q160, eq160, h⟩ := bs h
  refine r_callV C (As := []) (b := a2) (rest := [vI q158.1]) (st1 := [vI q160.1, vI q158.1]) (v := some (vI q160.1)) (r := (RX11, TX11, 38)) (ci := 9) rfl eu161 (m_X11_redo C.tr eq160) (lw_V q1665 q1666 q1667 q133 q1668) rfl hdX11_redo rfl rfl (Nat.le_of_ble_eq_true rfl) ⟨by decide, by decide⟩ dL_law_848 rfl ?_
  refine r_icmp_eq C dL_law_851 (tgt := 2832) (by decide) (fun c162 => ?_) (fun c162 => ?_)
  · have h := it_ h c162
    exact w_L_law_b2832 (fin := fin) C G h1 h hK
  · have h := ie_ h c162
    refine r_iconst C dL_law_854 ?_
    cases h
    have hK : (0, q160.2) = fin := hK
    subst hK
    exact absurd (show (0 : Int) = 1 from h1) (by decide)
noncomputable def s_L_law_b856 (b n : Nat) (xs : Nat → Int32) (a0 : Nat) (a1 : Nat) (a2 : Nat) (a3 : Nat) (x4 : Int)  (μ : Me) : Option ((Int × Me) ⊕ (Int × Me)) :=
  (gX b n xs a0 (x4 + 1)).bind fun v164 =>
  (gX b n xs a0 (x4 + 2)).bind fun v165 =>
  (gX b n xs a0 (x4 + 3)).bind fun v166 =>
  xb (s_X0_value a1 v164 v165 v166 a3 μ) (fun e168 => none) fun q167 =>
  (gX b n xs a0 (x4 + 1)).bind fun v169 =>
  (gX b n xs a0 (x4 + 2)).bind fun v170 =>
  (gX b n xs a0 (x4 + 3)).bind fun v171 =>
  (ck q167.2 9 a2).bind fun _ =>
  (s_X11_value a2 v169 v170 v171 q167.2).bind fun q172 =>
  (ck q172.2 9 a2).bind fun _ =>
  (s_X11_thrown a2 q172.2).bind fun q174 =>
  (if w32 q174.1 = w32 q167.1 then
  (if w32 q167.1 = 0 then
  (aJ q174.2 103 a3 0).bind fun v178 =>
  (if w64 v178 = w64 (w32 q172.1) then
  s_L_law_b2832 b n xs a0 a1 a2 a3 x4 q174.2
  else
  some (.inr (0, q174.2)))
  else
  s_L_law_b2832 b n xs a0 a1 a2 a3 x4 q174.2)
  else
  some (.inr (0, q174.2)))
theorem w_L_law_b856 {Z : Zt} {nm : String} {Qf : State → Prop} {b n : Nat} {xs : Nat → Int32} {fin : Int × Me} {w : ((Int × Me) ⊕ (Int × Me))} (C : CX Z ⟨RX0, nm, ""⟩ cL_law (some .boolean) 213 8) (G : LX Z Qf b n xs) (h1 : fin.1 = 1) {a0 : Nat} {a1 : Nat} {a2 : Nat} {a3 : Nat} {x4 : Int}  {μ : Me} (h : s_L_law_b856 b n xs a0 a1 a2 a3 x4 μ = some w) (hK : (Sum.elim (fun s : Int × Me => WL Z (Qf) s.2 23 [(0, vO a0), (1, vO a1), (2, vO a2), (3, vO a3), (4, vI s.1)] []) (fun r : Int × Me => r = fin)) w) : WL Z (Qf) μ 856 [(0, vO a0), (1, vO a1), (2, vO a2), (3, vO a3), (4, vI x4)] [] := by
  unfold s_L_law_b856 at h
  refine r_aload_n C 1 dL_law_856 rfl rfl ?_
  refine r_aload_n C 0 dL_law_857 rfl rfl ?_
  refine r_iload C 4 dL_law_858 rfl ?_
  refine r_iconst C dL_law_860 ?_
  refine r_iadd C dL_law_861 ?_
  obtain ⟨v164, ev164, h⟩ := bs h
  refine r_xld C G ev164 dL_law_862 ?_
  refine r_aload_n C 0 dL_law_863 rfl rfl ?_
  refine r_iload C 4 dL_law_864 rfl ?_
  refine r_iconst C dL_law_866 ?_
  refine r_iadd C dL_law_867 ?_
  obtain ⟨v165, ev165, h⟩ := bs h
  refine r_xld C G ev165 dL_law_868 ?_
  refine r_aload_n C 0 dL_law_869 rfl rfl ?_
  refine r_iload C 4 dL_law_870 rfl ?_
  refine r_iconst C dL_law_872 ?_
  refine r_iadd C dL_law_873 ?_
  obtain ⟨v166, ev166, h⟩ := bs h
  refine r_xld C G ev166 dL_law_874 ?_
  refine r_aload_n C 3 dL_law_875 rfl rfl ?_
  rcases xbs h with ⟨e168, eq167, h⟩ | ⟨q167, eq167, h⟩
  · cases h
  · refine r_xSH C (As := [vO a1, vI v164, vI v165, vI v166, vO a3]) (rest := []) (st1 := [vI q167.1]) (v := some (vI q167.1)) (μ1 := q167.2) (m_X0_value C.tr eq167) (lw_SW q877 q878 q119 q879) hdX0_value rfl rfl (Nat.le_of_ble_eq_true rfl) ⟨by decide, by decide⟩ dL_law_876 rfl ?_
    refine r_istore C [(5, vI q167.1), (0, vO a0), (1, vO a1), (2, vO a2), (3, vO a3), (4, vI x4)] dL_law_879 (by decide) rfl ?_
    refine r_aload_n C 3 dL_law_881 rfl rfl ?_
    refine r_aload_n C 1 dL_law_882 rfl rfl ?_
    refine r_iload C 5 dL_law_883 rfl ?_
    refine r_iconst C dL_law_885 ?_
    refine r_iadd C dL_law_886 ?_
    obtain ⟨v169, ev169, h⟩ := bs h
    refine r_xld C G ev169 dL_law_887 ?_
    refine r_aload_n C 1 dL_law_888 rfl rfl ?_
    refine r_iload C 5 dL_law_889 rfl ?_
    refine r_iconst C dL_law_891 ?_
    refine r_iadd C dL_law_892 ?_
    obtain ⟨v170, ev170, h⟩ := bs h
    refine r_xld C G ev170 dL_law_893 ?_
    refine r_aload_n C 1 dL_law_894 rfl rfl ?_
    refine r_iload C 5 dL_law_895 rfl ?_
    refine r_iconst C dL_law_897 ?_
    refine r_iadd C dL_law_898 ?_
    obtain ⟨v171, ev171, h⟩ := bs h
    refine r_xld C G ev171 dL_law_899 ?_
    obtain ⟨u173, eu173, h⟩ := bs h
    obtain ⟨q172, eq172, h⟩ := bs h
    refine r_callV C (As := [vI v169, vI v170, vI v171]) (b := a2) (rest := []) (st1 := [vI q172.1]) (v := some (vI q172.1)) (r := (RX11, TX11, 38)) (ci := 9) rfl eu173 (m_X11_value C.tr eq172) (lw_V q1669 q1670 q1671 q133 q1672) rfl hdX11_value rfl rfl (Nat.le_of_ble_eq_true rfl) ⟨by decide, by decide⟩ dL_law_900 rfl ?_
    refine r_istore C [(6, vI q172.1), (5, vI q167.1), (0, vO a0), (1, vO a1), (2, vO a2), (3, vO a3), (4, vI x4)] dL_law_903 (by decide) rfl ?_
    refine r_aload_n C 4 dL_law_905 rfl rfl ?_
    obtain ⟨u175, eu175, h⟩ := bs h
    obtain ⟨q174, eq174, h⟩ := bs h
    refine r_callV C (As := []) (b := a2) (rest := []) (st1 := [vI q174.1]) (v := some (vI q174.1)) (r := (RX11, TX11, 38)) (ci := 9) rfl eu175 (m_X11_thrown C.tr eq174) (lw_V q1303 q1304 q1305 q133 q1306) rfl hdX11_thrown rfl rfl (Nat.le_of_ble_eq_true rfl) ⟨by decide, by decide⟩ dL_law_906 rfl ?_
    refine r_iload C 1 dL_law_909 rfl ?_
    refine r_icmp_eq C dL_law_911 (tgt := 916) (by decide) (fun c176 => ?_) (fun c176 => ?_)
    · have h := it_ h c176
      refine r_iload C 1 dL_law_916 rfl ?_
      refine r_if_ne C dL_law_918 (tgt := 933) (by decide) (fun c177 => ?_) (fun c177 => ?_)
      · have h := ie_ h c177
        refine r_goto C dL_law_933 (tgt := 2832) (by decide) ?_
        refine r_sub [2, 3, 4, 5, 6] rfl ?_
        exact w_L_law_b2832 (fin := fin) C G h1 h hK
      · have h := it_ h c177
        refine r_aload_n C 5 dL_law_921 rfl rfl ?_
        refine r_iconst C dL_law_922 ?_
        obtain ⟨v178, ev178, h⟩ := bs h
        refine r_lald C ev178 dL_law_923 ?_
        refine r_iload C 0 dL_law_924 rfl ?_
        refine r_i2l C dL_law_926 ?_
        refine r_lcmp_eq C dL_law_927 dL_law_928 (tgt := 933) (by decide) (fun c179 => ?_) (fun c179 => ?_)
        · have h := it_ h c179
          refine r_goto C dL_law_933 (tgt := 2832) (by decide) ?_
          refine r_sub [2, 3, 4, 5, 6] rfl ?_
          exact w_L_law_b2832 (fin := fin) C G h1 h hK
        · have h := ie_ h c179
          refine r_iconst C dL_law_931 ?_
          cases h
          have hK : (0, q174.2) = fin := hK
          subst hK
          exact absurd (show (0 : Int) = 1 from h1) (by decide)
    · have h := ie_ h c176
      refine r_iconst C dL_law_914 ?_
      cases h
      have hK : (0, q174.2) = fin := hK
      subst hK
      exact absurd (show (0 : Int) = 1 from h1) (by decide)
noncomputable def s_L_law_b984 (b n : Nat) (xs : Nat → Int32) (a0 : Nat) (a1 : Nat) (a2 : Nat) (a3 : Nat) (x4 : Int) (x5 : Int) (t0 : Int) (t1 : Int) (t2 : Nat) (μ : Me) : Option ((Int × Me) ⊕ (Int × Me)) :=
  (ck μ 9 t2).bind fun _ =>
  (s_X11_rank t2 t1 t0 μ).bind fun q189 =>
  (ck q189.2 9 a2).bind fun _ =>
  (s_X11_thrown a2 q189.2).bind fun q191 =>
  (if w32 q191.1 = w32 x5 then
  (if w32 x5 = 0 then
  (aJ q191.2 103 a3 0).bind fun v195 =>
  (if w64 v195 = w64 (w32 q189.1) then
  s_L_law_b2832 b n xs a0 a1 a2 a3 x4 q191.2
  else
  some (.inr (0, q191.2)))
  else
  s_L_law_b2832 b n xs a0 a1 a2 a3 x4 q191.2)
  else
  some (.inr (0, q191.2)))
theorem w_L_law_b984 {Z : Zt} {nm : String} {Qf : State → Prop} {b n : Nat} {xs : Nat → Int32} {fin : Int × Me} {w : ((Int × Me) ⊕ (Int × Me))} (C : CX Z ⟨RX0, nm, ""⟩ cL_law (some .boolean) 213 8) (G : LX Z Qf b n xs) (h1 : fin.1 = 1) {a0 : Nat} {a1 : Nat} {a2 : Nat} {a3 : Nat} {x4 : Int} {x5 : Int} {t0 : Int} {t1 : Int} {t2 : Nat} {μ : Me} (h : s_L_law_b984 b n xs a0 a1 a2 a3 x4 x5 t0 t1 t2 μ = some w) (hK : (Sum.elim (fun s : Int × Me => WL Z (Qf) s.2 23 [(0, vO a0), (1, vO a1), (2, vO a2), (3, vO a3), (4, vI s.1)] []) (fun r : Int × Me => r = fin)) w) : WL Z (Qf) μ 984 [(0, vO a0), (1, vO a1), (2, vO a2), (3, vO a3), (4, vI x4), (5, vI x5)] [vI t0, vI t1, vO t2] := by
  unfold s_L_law_b984 at h
  obtain ⟨u190, eu190, h⟩ := bs h
  obtain ⟨q189, eq189, h⟩ := bs h
  refine r_callV C (As := [vI t1, vI t0]) (b := t2) (rest := []) (st1 := [vI q189.1]) (v := some (vI q189.1)) (r := (RX11, TX11, 38)) (ci := 9) rfl eu190 (m_X11_rank C.tr eq189) (lw_V q1720 q1721 q1722 q133 q1723) rfl hdX11_rank rfl rfl (Nat.le_of_ble_eq_true rfl) ⟨by decide, by decide⟩ dL_law_984 rfl ?_
  refine r_istore C [(6, vI q189.1), (0, vO a0), (1, vO a1), (2, vO a2), (3, vO a3), (4, vI x4), (5, vI x5)] dL_law_987 (by decide) rfl ?_
  refine r_aload_n C 3 dL_law_989 rfl rfl ?_
  obtain ⟨u192, eu192, h⟩ := bs h
  obtain ⟨q191, eq191, h⟩ := bs h
  refine r_callV C (As := []) (b := a2) (rest := []) (st1 := [vI q191.1]) (v := some (vI q191.1)) (r := (RX11, TX11, 38)) (ci := 9) rfl eu192 (m_X11_thrown C.tr eq191) (lw_V q1303 q1304 q1305 q133 q1306) rfl hdX11_thrown rfl rfl (Nat.le_of_ble_eq_true rfl) ⟨by decide, by decide⟩ dL_law_990 rfl ?_
  refine r_iload C 6 dL_law_993 rfl ?_
  refine r_icmp_eq C dL_law_995 (tgt := 1000) (by decide) (fun c193 => ?_) (fun c193 => ?_)
  · have h := it_ h c193
    refine r_iload C 6 dL_law_1000 rfl ?_
    refine r_if_ne C dL_law_1002 (tgt := 1017) (by decide) (fun c194 => ?_) (fun c194 => ?_)
    · have h := ie_ h c194
      refine r_goto C dL_law_1017 (tgt := 2832) (by decide) ?_
      refine r_sub [1, 2, 3, 4, 5] rfl ?_
      exact w_L_law_b2832 (fin := fin) C G h1 h hK
    · have h := it_ h c194
      refine r_aload_n C 4 dL_law_1005 rfl rfl ?_
      refine r_iconst C dL_law_1006 ?_
      obtain ⟨v195, ev195, h⟩ := bs h
      refine r_lald C ev195 dL_law_1007 ?_
      refine r_iload C 0 dL_law_1008 rfl ?_
      refine r_i2l C dL_law_1010 ?_
      refine r_lcmp_eq C dL_law_1011 dL_law_1012 (tgt := 1017) (by decide) (fun c196 => ?_) (fun c196 => ?_)
      · have h := it_ h c196
        refine r_goto C dL_law_1017 (tgt := 2832) (by decide) ?_
        refine r_sub [1, 2, 3, 4, 5] rfl ?_
        exact w_L_law_b2832 (fin := fin) C G h1 h hK
      · have h := ie_ h c196
        refine r_iconst C dL_law_1015 ?_
        cases h
        have hK : (0, q191.2) = fin := hK
        subst hK
        exact absurd (show (0 : Int) = 1 from h1) (by decide)
  · have h := ie_ h c193
    refine r_iconst C dL_law_998 ?_
    cases h
    have hK : (0, q191.2) = fin := hK
    subst hK
    exact absurd (show (0 : Int) = 1 from h1) (by decide)
noncomputable def s_L_law_b957 (b n : Nat) (xs : Nat → Int32) (a0 : Nat) (a1 : Nat) (a2 : Nat) (a3 : Nat) (x4 : Int) (t0 : Int) (t1 : Int) (t2 : Nat) (μ : Me) : Option ((Int × Me) ⊕ (Int × Me)) :=
  xb (s_X0_rank t2 t1 t0 a3 μ) (fun e185 => none) fun q184 =>
  (gX b n xs a0 (x4 + 1)).bind fun v186 =>
  (gX b n xs a0 (x4 + 2)).bind fun v187 =>
  (if w32 v187 = 0 then
  s_L_law_b984 b n xs a0 a1 a2 a3 x4 q184.1 0 v186 a2 q184.2
  else
  s_L_law_b984 b n xs a0 a1 a2 a3 x4 q184.1 1 v186 a2 q184.2)
theorem w_L_law_b957 {Z : Zt} {nm : String} {Qf : State → Prop} {b n : Nat} {xs : Nat → Int32} {fin : Int × Me} {w : ((Int × Me) ⊕ (Int × Me))} (C : CX Z ⟨RX0, nm, ""⟩ cL_law (some .boolean) 213 8) (G : LX Z Qf b n xs) (h1 : fin.1 = 1) {a0 : Nat} {a1 : Nat} {a2 : Nat} {a3 : Nat} {x4 : Int} {t0 : Int} {t1 : Int} {t2 : Nat} {μ : Me} (h : s_L_law_b957 b n xs a0 a1 a2 a3 x4 t0 t1 t2 μ = some w) (hK : (Sum.elim (fun s : Int × Me => WL Z (Qf) s.2 23 [(0, vO a0), (1, vO a1), (2, vO a2), (3, vO a3), (4, vI s.1)] []) (fun r : Int × Me => r = fin)) w) : WL Z (Qf) μ 957 [(0, vO a0), (1, vO a1), (2, vO a2), (3, vO a3), (4, vI x4)] [vI t0, vI t1, vO t2] := by
  unfold s_L_law_b957 at h
  refine r_aload_n C 3 dL_law_957 rfl rfl ?_
  rcases xbs h with ⟨e185, eq184, h⟩ | ⟨q184, eq184, h⟩
  · cases h
  · refine r_xSH C (As := [vO t2, vI t1, vI t0, vO a3]) (rest := []) (st1 := [vI q184.1]) (v := some (vI q184.1)) (μ1 := q184.2) (m_X0_rank C.tr eq184) (lw_SW q956 q957 q119 q958) hdX0_rank rfl rfl (Nat.le_of_ble_eq_true rfl) ⟨by decide, by decide⟩ dL_law_958 rfl ?_
    refine r_istore C [(5, vI q184.1), (0, vO a0), (1, vO a1), (2, vO a2), (3, vO a3), (4, vI x4)] dL_law_961 (by decide) rfl ?_
    refine r_aload_n C 3 dL_law_963 rfl rfl ?_
    refine r_aload_n C 1 dL_law_964 rfl rfl ?_
    refine r_iload C 5 dL_law_965 rfl ?_
    refine r_iconst C dL_law_967 ?_
    refine r_iadd C dL_law_968 ?_
    obtain ⟨v186, ev186, h⟩ := bs h
    refine r_xld C G ev186 dL_law_969 ?_
    refine r_aload_n C 1 dL_law_970 rfl rfl ?_
    refine r_iload C 5 dL_law_971 rfl ?_
    refine r_iconst C dL_law_973 ?_
    refine r_iadd C dL_law_974 ?_
    obtain ⟨v187, ev187, h⟩ := bs h
    refine r_xld C G ev187 dL_law_975 ?_
    refine r_if_eq C dL_law_976 (tgt := 983) (by decide) (fun c188 => ?_) (fun c188 => ?_)
    · have h := it_ h c188
      refine r_iconst C dL_law_983 ?_
      refine r_sub [1, 2, 3, 4, 5, 0] rfl ?_
      exact w_L_law_b984 (fin := fin) C G h1 h hK
    · have h := ie_ h c188
      refine r_iconst C dL_law_979 ?_
      refine r_goto C dL_law_980 (tgt := 984) (by decide) ?_
      refine r_sub [1, 2, 3, 4, 5, 0] rfl ?_
      exact w_L_law_b984 (fin := fin) C G h1 h hK
noncomputable def s_L_law_b936 (b n : Nat) (xs : Nat → Int32) (a0 : Nat) (a1 : Nat) (a2 : Nat) (a3 : Nat) (x4 : Int)  (μ : Me) : Option ((Int × Me) ⊕ (Int × Me)) :=
  (gX b n xs a0 (x4 + 1)).bind fun v181 =>
  (gX b n xs a0 (x4 + 2)).bind fun v182 =>
  (if w32 v182 = 0 then
  s_L_law_b957 b n xs a0 a1 a2 a3 x4 0 v181 a1 μ
  else
  s_L_law_b957 b n xs a0 a1 a2 a3 x4 1 v181 a1 μ)
theorem w_L_law_b936 {Z : Zt} {nm : String} {Qf : State → Prop} {b n : Nat} {xs : Nat → Int32} {fin : Int × Me} {w : ((Int × Me) ⊕ (Int × Me))} (C : CX Z ⟨RX0, nm, ""⟩ cL_law (some .boolean) 213 8) (G : LX Z Qf b n xs) (h1 : fin.1 = 1) {a0 : Nat} {a1 : Nat} {a2 : Nat} {a3 : Nat} {x4 : Int}  {μ : Me} (h : s_L_law_b936 b n xs a0 a1 a2 a3 x4 μ = some w) (hK : (Sum.elim (fun s : Int × Me => WL Z (Qf) s.2 23 [(0, vO a0), (1, vO a1), (2, vO a2), (3, vO a3), (4, vI s.1)] []) (fun r : Int × Me => r = fin)) w) : WL Z (Qf) μ 936 [(0, vO a0), (1, vO a1), (2, vO a2), (3, vO a3), (4, vI x4)] [] := by
  unfold s_L_law_b936 at h
  refine r_aload_n C 1 dL_law_936 rfl rfl ?_
  refine r_aload_n C 0 dL_law_937 rfl rfl ?_
  refine r_iload C 4 dL_law_938 rfl ?_
  refine r_iconst C dL_law_940 ?_
  refine r_iadd C dL_law_941 ?_
  obtain ⟨v181, ev181, h⟩ := bs h
  refine r_xld C G ev181 dL_law_942 ?_
  refine r_aload_n C 0 dL_law_943 rfl rfl ?_
  refine r_iload C 4 dL_law_944 rfl ?_
  refine r_iconst C dL_law_946 ?_
  refine r_iadd C dL_law_947 ?_
  obtain ⟨v182, ev182, h⟩ := bs h
  refine r_xld C G ev182 dL_law_948 ?_
  refine r_if_eq C dL_law_949 (tgt := 956) (by decide) (fun c183 => ?_) (fun c183 => ?_)
  · have h := it_ h c183
    refine r_iconst C dL_law_956 ?_
    exact w_L_law_b957 (fin := fin) C G h1 h hK
  · have h := ie_ h c183
    refine r_iconst C dL_law_952 ?_
    refine r_goto C dL_law_953 (tgt := 957) (by decide) ?_
    exact w_L_law_b957 (fin := fin) C G h1 h hK
noncomputable def s_L_law_b1020 (b n : Nat) (xs : Nat → Int32) (a0 : Nat) (a1 : Nat) (a2 : Nat) (a3 : Nat) (x4 : Int)  (μ : Me) : Option ((Int × Me) ⊕ (Int × Me)) :=
  (gX b n xs a0 (x4 + 1)).bind fun v198 =>
  (gX b n xs a0 (x4 + 2)).bind fun v199 =>
  (gX b n xs a0 (x4 + 3)).bind fun v200 =>
  xb (s_X0_stays a1 v198 v199 v200 a3 μ) (fun e202 => none) fun q201 =>
  (gX b n xs a0 (x4 + 1)).bind fun v203 =>
  (gX b n xs a0 (x4 + 2)).bind fun v204 =>
  (gX b n xs a0 (x4 + 3)).bind fun v205 =>
  (ck q201.2 9 a2).bind fun _ =>
  (s_X11_stays a2 v203 v204 v205 q201.2).bind fun q206 =>
  (ck q206.2 9 a2).bind fun _ =>
  (s_X11_thrown a2 q206.2).bind fun q208 =>
  (if w32 q208.1 = w32 q201.1 then
  (if w32 q201.1 = 0 then
  (aJ q208.2 103 a3 0).bind fun v212 =>
  (if w32 q206.1 = 0 then
  (if w64 v212 = w64 0 then
  s_L_law_b2832 b n xs a0 a1 a2 a3 x4 q208.2
  else
  some (.inr (0, q208.2)))
  else
  (if w64 v212 = w64 1 then
  s_L_law_b2832 b n xs a0 a1 a2 a3 x4 q208.2
  else
  some (.inr (0, q208.2))))
  else
  s_L_law_b2832 b n xs a0 a1 a2 a3 x4 q208.2)
  else
  some (.inr (0, q208.2)))
theorem w_L_law_b1020 {Z : Zt} {nm : String} {Qf : State → Prop} {b n : Nat} {xs : Nat → Int32} {fin : Int × Me} {w : ((Int × Me) ⊕ (Int × Me))} (C : CX Z ⟨RX0, nm, ""⟩ cL_law (some .boolean) 213 8) (G : LX Z Qf b n xs) (h1 : fin.1 = 1) {a0 : Nat} {a1 : Nat} {a2 : Nat} {a3 : Nat} {x4 : Int}  {μ : Me} (h : s_L_law_b1020 b n xs a0 a1 a2 a3 x4 μ = some w) (hK : (Sum.elim (fun s : Int × Me => WL Z (Qf) s.2 23 [(0, vO a0), (1, vO a1), (2, vO a2), (3, vO a3), (4, vI s.1)] []) (fun r : Int × Me => r = fin)) w) : WL Z (Qf) μ 1020 [(0, vO a0), (1, vO a1), (2, vO a2), (3, vO a3), (4, vI x4)] [] := by
  unfold s_L_law_b1020 at h
  refine r_aload_n C 1 dL_law_1020 rfl rfl ?_
  refine r_aload_n C 0 dL_law_1021 rfl rfl ?_
  refine r_iload C 4 dL_law_1022 rfl ?_
  refine r_iconst C dL_law_1024 ?_
  refine r_iadd C dL_law_1025 ?_
  obtain ⟨v198, ev198, h⟩ := bs h
  refine r_xld C G ev198 dL_law_1026 ?_
  refine r_aload_n C 0 dL_law_1027 rfl rfl ?_
  refine r_iload C 4 dL_law_1028 rfl ?_
  refine r_iconst C dL_law_1030 ?_
  refine r_iadd C dL_law_1031 ?_
  obtain ⟨v199, ev199, h⟩ := bs h
  refine r_xld C G ev199 dL_law_1032 ?_
  refine r_aload_n C 0 dL_law_1033 rfl rfl ?_
  refine r_iload C 4 dL_law_1034 rfl ?_
  refine r_iconst C dL_law_1036 ?_
  refine r_iadd C dL_law_1037 ?_
  obtain ⟨v200, ev200, h⟩ := bs h
  refine r_xld C G ev200 dL_law_1038 ?_
  refine r_aload_n C 3 dL_law_1039 rfl rfl ?_
  rcases xbs h with ⟨e202, eq201, h⟩ | ⟨q201, eq201, h⟩
  · cases h
  · refine r_xSH C (As := [vO a1, vI v198, vI v199, vI v200, vO a3]) (rest := []) (st1 := [vI q201.1]) (v := some (vI q201.1)) (μ1 := q201.2) (m_X0_stays C.tr eq201) (lw_SW q994 q995 q119 q996) hdX0_stays rfl rfl (Nat.le_of_ble_eq_true rfl) ⟨by decide, by decide⟩ dL_law_1040 rfl ?_
    refine r_istore C [(5, vI q201.1), (0, vO a0), (1, vO a1), (2, vO a2), (3, vO a3), (4, vI x4)] dL_law_1043 (by decide) rfl ?_
    refine r_aload_n C 3 dL_law_1045 rfl rfl ?_
    refine r_aload_n C 1 dL_law_1046 rfl rfl ?_
    refine r_iload C 5 dL_law_1047 rfl ?_
    refine r_iconst C dL_law_1049 ?_
    refine r_iadd C dL_law_1050 ?_
    obtain ⟨v203, ev203, h⟩ := bs h
    refine r_xld C G ev203 dL_law_1051 ?_
    refine r_aload_n C 1 dL_law_1052 rfl rfl ?_
    refine r_iload C 5 dL_law_1053 rfl ?_
    refine r_iconst C dL_law_1055 ?_
    refine r_iadd C dL_law_1056 ?_
    obtain ⟨v204, ev204, h⟩ := bs h
    refine r_xld C G ev204 dL_law_1057 ?_
    refine r_aload_n C 1 dL_law_1058 rfl rfl ?_
    refine r_iload C 5 dL_law_1059 rfl ?_
    refine r_iconst C dL_law_1061 ?_
    refine r_iadd C dL_law_1062 ?_
    obtain ⟨v205, ev205, h⟩ := bs h
    refine r_xld C G ev205 dL_law_1063 ?_
    obtain ⟨u207, eu207, h⟩ := bs h
    obtain ⟨q206, eq206, h⟩ := bs h
    refine r_callV C (As := [vI v203, vI v204, vI v205]) (b := a2) (rest := []) (st1 := [vI q206.1]) (v := some (vI q206.1)) (r := (RX11, TX11, 38)) (ci := 9) rfl eu207 (m_X11_stays C.tr eq206) (lw_V q1728 q1729 q1730 q133 q1731) rfl hdX11_stays rfl rfl (Nat.le_of_ble_eq_true rfl) ⟨by decide, by decide⟩ dL_law_1064 rfl ?_
    refine r_istore C [(6, vI q206.1), (5, vI q201.1), (0, vO a0), (1, vO a1), (2, vO a2), (3, vO a3), (4, vI x4)] dL_law_1067 (by decide) rfl ?_
    refine r_aload_n C 4 dL_law_1069 rfl rfl ?_
    obtain ⟨u209, eu209, h⟩ := bs h
    obtain ⟨q208, eq208, h⟩ := bs h
    refine r_callV C (As := []) (b := a2) (rest := []) (st1 := [vI q208.1]) (v := some (vI q208.1)) (r := (RX11, TX11, 38)) (ci := 9) rfl eu209 (m_X11_thrown C.tr eq208) (lw_V q1303 q1304 q1305 q133 q1306) rfl hdX11_thrown rfl rfl (Nat.le_of_ble_eq_true rfl) ⟨by decide, by decide⟩ dL_law_1070 rfl ?_
    refine r_iload C 1 dL_law_1073 rfl ?_
    refine r_icmp_eq C dL_law_1075 (tgt := 1080) (by decide) (fun c210 => ?_) (fun c210 => ?_)
    · have h := it_ h c210
      refine r_iload C 1 dL_law_1080 rfl ?_
      refine r_if_ne C dL_law_1082 (tgt := 1104) (by decide) (fun c211 => ?_) (fun c211 => ?_)
      · have h := ie_ h c211
        refine r_goto C dL_law_1104 (tgt := 2832) (by decide) ?_
        refine r_sub [2, 3, 4, 5, 6] rfl ?_
        exact w_L_law_b2832 (fin := fin) C G h1 h hK
      · have h := it_ h c211
        refine r_aload_n C 5 dL_law_1085 rfl rfl ?_
        refine r_iconst C dL_law_1086 ?_
        obtain ⟨v212, ev212, h⟩ := bs h
        refine r_lald C ev212 dL_law_1087 ?_
        refine r_iload C 0 dL_law_1088 rfl ?_
        refine r_if_eq C dL_law_1090 (tgt := 1097) (by decide) (fun c213 => ?_) (fun c213 => ?_)
        · have h := it_ h c213
          refine r_lconst (v := 0) C dL_law_1097 (by decide) ?_
          refine r_lcmp_eq C dL_law_1098 dL_law_1099 (tgt := 1104) (by decide) (fun c214 => ?_) (fun c214 => ?_)
          · have h := it_ h c214
            refine r_goto C dL_law_1104 (tgt := 2832) (by decide) ?_
            refine r_sub [2, 3, 4, 5, 6] rfl ?_
            exact w_L_law_b2832 (fin := fin) C G h1 h hK
          · have h := ie_ h c214
            refine r_iconst C dL_law_1102 ?_
            cases h
            have hK : (0, q208.2) = fin := hK
            subst hK
            exact absurd (show (0 : Int) = 1 from h1) (by decide)
        · have h := ie_ h c213
          refine r_lconst (v := 1) C dL_law_1093 (by decide) ?_
          refine r_goto C dL_law_1094 (tgt := 1098) (by decide) ?_
          refine r_lcmp_eq C dL_law_1098 dL_law_1099 (tgt := 1104) (by decide) (fun c215 => ?_) (fun c215 => ?_)
          · have h := it_ h c215
            refine r_goto C dL_law_1104 (tgt := 2832) (by decide) ?_
            refine r_sub [2, 3, 4, 5, 6] rfl ?_
            exact w_L_law_b2832 (fin := fin) C G h1 h hK
          · have h := ie_ h c215
            refine r_iconst C dL_law_1102 ?_
            cases h
            have hK : (0, q208.2) = fin := hK
            subst hK
            exact absurd (show (0 : Int) = 1 from h1) (by decide)
    · have h := ie_ h c210
      refine r_iconst C dL_law_1078 ?_
      cases h
      have hK : (0, q208.2) = fin := hK
      subst hK
      exact absurd (show (0 : Int) = 1 from h1) (by decide)
noncomputable def s_L_law_b1107 (b n : Nat) (xs : Nat → Int32) (a0 : Nat) (a1 : Nat) (a2 : Nat) (a3 : Nat) (x4 : Int)  (μ : Me) : Option ((Int × Me) ⊕ (Int × Me)) :=
  (gX b n xs a0 (x4 + 1)).bind fun v217 =>
  (gX b n xs a0 (x4 + 2)).bind fun v218 =>
  (gX b n xs a0 (x4 + 3)).bind fun v219 =>
  xb (s_X0_agree a1 v217 v218 v219 a3 μ) (fun e221 => none) fun q220 =>
  (gX b n xs a0 (x4 + 1)).bind fun v222 =>
  (gX b n xs a0 (x4 + 2)).bind fun v223 =>
  (gX b n xs a0 (x4 + 3)).bind fun v224 =>
  (ck q220.2 9 a2).bind fun _ =>
  (s_X11_agree a2 v222 v223 v224 q220.2).bind fun q225 =>
  (ck q225.2 9 a2).bind fun _ =>
  (s_X11_thrown a2 q225.2).bind fun q227 =>
  (if w32 q227.1 = w32 q220.1 then
  (if w32 q220.1 = 0 then
  (aJ q227.2 103 a3 0).bind fun v231 =>
  (if w64 v231 = w64 (w32 q225.1) then
  s_L_law_b2832 b n xs a0 a1 a2 a3 x4 q227.2
  else
  some (.inr (0, q227.2)))
  else
  s_L_law_b2832 b n xs a0 a1 a2 a3 x4 q227.2)
  else
  some (.inr (0, q227.2)))
theorem w_L_law_b1107 {Z : Zt} {nm : String} {Qf : State → Prop} {b n : Nat} {xs : Nat → Int32} {fin : Int × Me} {w : ((Int × Me) ⊕ (Int × Me))} (C : CX Z ⟨RX0, nm, ""⟩ cL_law (some .boolean) 213 8) (G : LX Z Qf b n xs) (h1 : fin.1 = 1) {a0 : Nat} {a1 : Nat} {a2 : Nat} {a3 : Nat} {x4 : Int}  {μ : Me} (h : s_L_law_b1107 b n xs a0 a1 a2 a3 x4 μ = some w) (hK : (Sum.elim (fun s : Int × Me => WL Z (Qf) s.2 23 [(0, vO a0), (1, vO a1), (2, vO a2), (3, vO a3), (4, vI s.1)] []) (fun r : Int × Me => r = fin)) w) : WL Z (Qf) μ 1107 [(0, vO a0), (1, vO a1), (2, vO a2), (3, vO a3), (4, vI x4)] [] := by
  unfold s_L_law_b1107 at h
  refine r_aload_n C 1 dL_law_1107 rfl rfl ?_
  refine r_aload_n C 0 dL_law_1108 rfl rfl ?_
  refine r_iload C 4 dL_law_1109 rfl ?_
  refine r_iconst C dL_law_1111 ?_
  refine r_iadd C dL_law_1112 ?_
  obtain ⟨v217, ev217, h⟩ := bs h
  refine r_xld C G ev217 dL_law_1113 ?_
  refine r_aload_n C 0 dL_law_1114 rfl rfl ?_
  refine r_iload C 4 dL_law_1115 rfl ?_
  refine r_iconst C dL_law_1117 ?_
  refine r_iadd C dL_law_1118 ?_
  obtain ⟨v218, ev218, h⟩ := bs h
  refine r_xld C G ev218 dL_law_1119 ?_
  refine r_aload_n C 0 dL_law_1120 rfl rfl ?_
  refine r_iload C 4 dL_law_1121 rfl ?_
  refine r_iconst C dL_law_1123 ?_
  refine r_iadd C dL_law_1124 ?_
  obtain ⟨v219, ev219, h⟩ := bs h
  refine r_xld C G ev219 dL_law_1125 ?_
  refine r_aload_n C 3 dL_law_1126 rfl rfl ?_
  rcases xbs h with ⟨e221, eq220, h⟩ | ⟨q220, eq220, h⟩
  · cases h
  · refine r_xSH C (As := [vO a1, vI v217, vI v218, vI v219, vO a3]) (rest := []) (st1 := [vI q220.1]) (v := some (vI q220.1)) (μ1 := q220.2) (m_X0_agree C.tr eq220) (lw_SW q1002 q1003 q119 q1004) hdX0_agree rfl rfl (Nat.le_of_ble_eq_true rfl) ⟨by decide, by decide⟩ dL_law_1127 rfl ?_
    refine r_istore C [(5, vI q220.1), (0, vO a0), (1, vO a1), (2, vO a2), (3, vO a3), (4, vI x4)] dL_law_1130 (by decide) rfl ?_
    refine r_aload_n C 3 dL_law_1132 rfl rfl ?_
    refine r_aload_n C 1 dL_law_1133 rfl rfl ?_
    refine r_iload C 5 dL_law_1134 rfl ?_
    refine r_iconst C dL_law_1136 ?_
    refine r_iadd C dL_law_1137 ?_
    obtain ⟨v222, ev222, h⟩ := bs h
    refine r_xld C G ev222 dL_law_1138 ?_
    refine r_aload_n C 1 dL_law_1139 rfl rfl ?_
    refine r_iload C 5 dL_law_1140 rfl ?_
    refine r_iconst C dL_law_1142 ?_
    refine r_iadd C dL_law_1143 ?_
    obtain ⟨v223, ev223, h⟩ := bs h
    refine r_xld C G ev223 dL_law_1144 ?_
    refine r_aload_n C 1 dL_law_1145 rfl rfl ?_
    refine r_iload C 5 dL_law_1146 rfl ?_
    refine r_iconst C dL_law_1148 ?_
    refine r_iadd C dL_law_1149 ?_
    obtain ⟨v224, ev224, h⟩ := bs h
    refine r_xld C G ev224 dL_law_1150 ?_
    obtain ⟨u226, eu226, h⟩ := bs h
    obtain ⟨q225, eq225, h⟩ := bs h
    refine r_callV C (As := [vI v222, vI v223, vI v224]) (b := a2) (rest := []) (st1 := [vI q225.1]) (v := some (vI q225.1)) (r := (RX11, TX11, 38)) (ci := 9) rfl eu226 (m_X11_agree C.tr eq225) (lw_V q1732 q1733 q1734 q133 q1735) rfl hdX11_agree rfl rfl (Nat.le_of_ble_eq_true rfl) ⟨by decide, by decide⟩ dL_law_1151 rfl ?_
    refine r_istore C [(6, vI q225.1), (5, vI q220.1), (0, vO a0), (1, vO a1), (2, vO a2), (3, vO a3), (4, vI x4)] dL_law_1154 (by decide) rfl ?_
    refine r_aload_n C 4 dL_law_1156 rfl rfl ?_
    obtain ⟨u228, eu228, h⟩ := bs h
    obtain ⟨q227, eq227, h⟩ := bs h
    refine r_callV C (As := []) (b := a2) (rest := []) (st1 := [vI q227.1]) (v := some (vI q227.1)) (r := (RX11, TX11, 38)) (ci := 9) rfl eu228 (m_X11_thrown C.tr eq227) (lw_V q1303 q1304 q1305 q133 q1306) rfl hdX11_thrown rfl rfl (Nat.le_of_ble_eq_true rfl) ⟨by decide, by decide⟩ dL_law_1157 rfl ?_
    refine r_iload C 1 dL_law_1160 rfl ?_
    refine r_icmp_eq C dL_law_1162 (tgt := 1167) (by decide) (fun c229 => ?_) (fun c229 => ?_)
    · have h := it_ h c229
      refine r_iload C 1 dL_law_1167 rfl ?_
      refine r_if_ne C dL_law_1169 (tgt := 1184) (by decide) (fun c230 => ?_) (fun c230 => ?_)
      · have h := ie_ h c230
        refine r_goto C dL_law_1184 (tgt := 2832) (by decide) ?_
        refine r_sub [2, 3, 4, 5, 6] rfl ?_
        exact w_L_law_b2832 (fin := fin) C G h1 h hK
      · have h := it_ h c230
        refine r_aload_n C 5 dL_law_1172 rfl rfl ?_
        refine r_iconst C dL_law_1173 ?_
        obtain ⟨v231, ev231, h⟩ := bs h
        refine r_lald C ev231 dL_law_1174 ?_
        refine r_iload C 0 dL_law_1175 rfl ?_
        refine r_i2l C dL_law_1177 ?_
        refine r_lcmp_eq C dL_law_1178 dL_law_1179 (tgt := 1184) (by decide) (fun c232 => ?_) (fun c232 => ?_)
        · have h := it_ h c232
          refine r_goto C dL_law_1184 (tgt := 2832) (by decide) ?_
          refine r_sub [2, 3, 4, 5, 6] rfl ?_
          exact w_L_law_b2832 (fin := fin) C G h1 h hK
        · have h := ie_ h c232
          refine r_iconst C dL_law_1182 ?_
          cases h
          have hK : (0, q227.2) = fin := hK
          subst hK
          exact absurd (show (0 : Int) = 1 from h1) (by decide)
    · have h := ie_ h c229
      refine r_iconst C dL_law_1165 ?_
      cases h
      have hK : (0, q227.2) = fin := hK
      subst hK
      exact absurd (show (0 : Int) = 1 from h1) (by decide)
noncomputable def s_L_law_b1187 (b n : Nat) (xs : Nat → Int32) (a0 : Nat) (a1 : Nat) (a2 : Nat) (a3 : Nat) (x4 : Int)  (μ : Me) : Option ((Int × Me) ⊕ (Int × Me)) :=
  (gX b n xs a0 (x4 + 1)).bind fun v234 =>
  (gX b n xs a0 (x4 + 2)).bind fun v235 =>
  (gX b n xs a0 (x4 + 3)).bind fun v236 =>
  xb (s_X0_count a1 v234 v235 v236 a3 μ) (fun e238 => none) fun q237 =>
  (gX b n xs a0 (x4 + 1)).bind fun v239 =>
  (gX b n xs a0 (x4 + 2)).bind fun v240 =>
  (gX b n xs a0 (x4 + 3)).bind fun v241 =>
  (ck q237.2 9 a2).bind fun _ =>
  (s_X11_count a2 v239 v240 v241 q237.2).bind fun q242 =>
  (ck q242.2 9 a2).bind fun _ =>
  (s_X11_thrown a2 q242.2).bind fun q244 =>
  (if w32 q244.1 = w32 q237.1 then
  (if w32 q237.1 = 0 then
  (aJ q244.2 103 a3 0).bind fun v248 =>
  (if w64 v248 = w64 q242.1 then
  s_L_law_b2832 b n xs a0 a1 a2 a3 x4 q244.2
  else
  some (.inr (0, q244.2)))
  else
  s_L_law_b2832 b n xs a0 a1 a2 a3 x4 q244.2)
  else
  some (.inr (0, q244.2)))
theorem w_L_law_b1187 {Z : Zt} {nm : String} {Qf : State → Prop} {b n : Nat} {xs : Nat → Int32} {fin : Int × Me} {w : ((Int × Me) ⊕ (Int × Me))} (C : CX Z ⟨RX0, nm, ""⟩ cL_law (some .boolean) 213 8) (G : LX Z Qf b n xs) (h1 : fin.1 = 1) {a0 : Nat} {a1 : Nat} {a2 : Nat} {a3 : Nat} {x4 : Int}  {μ : Me} (h : s_L_law_b1187 b n xs a0 a1 a2 a3 x4 μ = some w) (hK : (Sum.elim (fun s : Int × Me => WL Z (Qf) s.2 23 [(0, vO a0), (1, vO a1), (2, vO a2), (3, vO a3), (4, vI s.1)] []) (fun r : Int × Me => r = fin)) w) : WL Z (Qf) μ 1187 [(0, vO a0), (1, vO a1), (2, vO a2), (3, vO a3), (4, vI x4)] [] := by
  unfold s_L_law_b1187 at h
  refine r_aload_n C 1 dL_law_1187 rfl rfl ?_
  refine r_aload_n C 0 dL_law_1188 rfl rfl ?_
  refine r_iload C 4 dL_law_1189 rfl ?_
  refine r_iconst C dL_law_1191 ?_
  refine r_iadd C dL_law_1192 ?_
  obtain ⟨v234, ev234, h⟩ := bs h
  refine r_xld C G ev234 dL_law_1193 ?_
  refine r_aload_n C 0 dL_law_1194 rfl rfl ?_
  refine r_iload C 4 dL_law_1195 rfl ?_
  refine r_iconst C dL_law_1197 ?_
  refine r_iadd C dL_law_1198 ?_
  obtain ⟨v235, ev235, h⟩ := bs h
  refine r_xld C G ev235 dL_law_1199 ?_
  refine r_aload_n C 0 dL_law_1200 rfl rfl ?_
  refine r_iload C 4 dL_law_1201 rfl ?_
  refine r_iconst C dL_law_1203 ?_
  refine r_iadd C dL_law_1204 ?_
  obtain ⟨v236, ev236, h⟩ := bs h
  refine r_xld C G ev236 dL_law_1205 ?_
  refine r_aload_n C 3 dL_law_1206 rfl rfl ?_
  rcases xbs h with ⟨e238, eq237, h⟩ | ⟨q237, eq237, h⟩
  · cases h
  · refine r_xSH C (As := [vO a1, vI v234, vI v235, vI v236, vO a3]) (rest := []) (st1 := [vI q237.1]) (v := some (vI q237.1)) (μ1 := q237.2) (m_X0_count C.tr eq237) (lw_SW q1010 q1011 q119 q1012) hdX0_count rfl rfl (Nat.le_of_ble_eq_true rfl) ⟨by decide, by decide⟩ dL_law_1207 rfl ?_
    refine r_istore C [(5, vI q237.1), (0, vO a0), (1, vO a1), (2, vO a2), (3, vO a3), (4, vI x4)] dL_law_1210 (by decide) rfl ?_
    refine r_aload_n C 3 dL_law_1212 rfl rfl ?_
    refine r_aload_n C 1 dL_law_1213 rfl rfl ?_
    refine r_iload C 5 dL_law_1214 rfl ?_
    refine r_iconst C dL_law_1216 ?_
    refine r_iadd C dL_law_1217 ?_
    obtain ⟨v239, ev239, h⟩ := bs h
    refine r_xld C G ev239 dL_law_1218 ?_
    refine r_aload_n C 1 dL_law_1219 rfl rfl ?_
    refine r_iload C 5 dL_law_1220 rfl ?_
    refine r_iconst C dL_law_1222 ?_
    refine r_iadd C dL_law_1223 ?_
    obtain ⟨v240, ev240, h⟩ := bs h
    refine r_xld C G ev240 dL_law_1224 ?_
    refine r_aload_n C 1 dL_law_1225 rfl rfl ?_
    refine r_iload C 5 dL_law_1226 rfl ?_
    refine r_iconst C dL_law_1228 ?_
    refine r_iadd C dL_law_1229 ?_
    obtain ⟨v241, ev241, h⟩ := bs h
    refine r_xld C G ev241 dL_law_1230 ?_
    obtain ⟨u243, eu243, h⟩ := bs h
    obtain ⟨q242, eq242, h⟩ := bs h
    refine r_callV C (As := [vI v239, vI v240, vI v241]) (b := a2) (rest := []) (st1 := [vJ q242.1]) (v := some (vJ q242.1)) (r := (RX11, TX11, 38)) (ci := 9) rfl eu243 (m_X11_count C.tr eq242) (lw_V q1736 q1737 q1738 q133 q1739) rfl hdX11_count rfl rfl (Nat.le_of_ble_eq_true rfl) ⟨by decide, by decide⟩ dL_law_1231 rfl ?_
    refine r_lstore C [(6, vJ q242.1), (5, vI q237.1), (0, vO a0), (1, vO a1), (2, vO a2), (3, vO a3), (4, vI x4)] dL_law_1234 (by decide) rfl ?_
    refine r_aload_n C 4 dL_law_1236 rfl rfl ?_
    obtain ⟨u245, eu245, h⟩ := bs h
    obtain ⟨q244, eq244, h⟩ := bs h
    refine r_callV C (As := []) (b := a2) (rest := []) (st1 := [vI q244.1]) (v := some (vI q244.1)) (r := (RX11, TX11, 38)) (ci := 9) rfl eu245 (m_X11_thrown C.tr eq244) (lw_V q1303 q1304 q1305 q133 q1306) rfl hdX11_thrown rfl rfl (Nat.le_of_ble_eq_true rfl) ⟨by decide, by decide⟩ dL_law_1237 rfl ?_
    refine r_iload C 1 dL_law_1240 rfl ?_
    refine r_icmp_eq C dL_law_1242 (tgt := 1247) (by decide) (fun c246 => ?_) (fun c246 => ?_)
    · have h := it_ h c246
      refine r_iload C 1 dL_law_1247 rfl ?_
      refine r_if_ne C dL_law_1249 (tgt := 1263) (by decide) (fun c247 => ?_) (fun c247 => ?_)
      · have h := ie_ h c247
        refine r_goto C dL_law_1263 (tgt := 2832) (by decide) ?_
        refine r_sub [2, 3, 4, 5, 6] rfl ?_
        exact w_L_law_b2832 (fin := fin) C G h1 h hK
      · have h := it_ h c247
        refine r_aload_n C 5 dL_law_1252 rfl rfl ?_
        refine r_iconst C dL_law_1253 ?_
        obtain ⟨v248, ev248, h⟩ := bs h
        refine r_lald C ev248 dL_law_1254 ?_
        refine r_lload C 0 dL_law_1255 rfl ?_
        refine r_lcmp_eq C dL_law_1257 dL_law_1258 (tgt := 1263) (by decide) (fun c249 => ?_) (fun c249 => ?_)
        · have h := it_ h c249
          refine r_goto C dL_law_1263 (tgt := 2832) (by decide) ?_
          refine r_sub [2, 3, 4, 5, 6] rfl ?_
          exact w_L_law_b2832 (fin := fin) C G h1 h hK
        · have h := ie_ h c249
          refine r_iconst C dL_law_1261 ?_
          cases h
          have hK : (0, q244.2) = fin := hK
          subst hK
          exact absurd (show (0 : Int) = 1 from h1) (by decide)
    · have h := ie_ h c246
      refine r_iconst C dL_law_1245 ?_
      cases h
      have hK : (0, q244.2) = fin := hK
      subst hK
      exact absurd (show (0 : Int) = 1 from h1) (by decide)
noncomputable def s_L_law_b1266 (b n : Nat) (xs : Nat → Int32) (a0 : Nat) (a1 : Nat) (a2 : Nat) (a3 : Nat) (x4 : Int)  (μ : Me) : Option ((Int × Me) ⊕ (Int × Me)) :=
  (gX b n xs a0 (x4 + 1)).bind fun v251 =>
  (gX b n xs a0 (x4 + 2)).bind fun v252 =>
  (gX b n xs a0 (x4 + 3)).bind fun v253 =>
  xb (s_X0_span a1 v251 v252 v253 a3 μ) (fun e255 => none) fun q254 =>
  (gX b n xs a0 (x4 + 1)).bind fun v256 =>
  (gX b n xs a0 (x4 + 2)).bind fun v257 =>
  (gX b n xs a0 (x4 + 3)).bind fun v258 =>
  (ck q254.2 9 a2).bind fun _ =>
  (s_X11_span a2 v256 v257 v258 q254.2).bind fun q259 =>
  (ck q259.2 9 a2).bind fun _ =>
  (s_X11_thrown a2 q259.2).bind fun q261 =>
  (if w32 q261.1 = w32 q254.1 then
  (if w32 q254.1 = 0 then
  (aJ q261.2 103 a3 0).bind fun v265 =>
  (if w64 v265 = w64 (w32 q259.1) then
  s_L_law_b2832 b n xs a0 a1 a2 a3 x4 q261.2
  else
  some (.inr (0, q261.2)))
  else
  s_L_law_b2832 b n xs a0 a1 a2 a3 x4 q261.2)
  else
  some (.inr (0, q261.2)))
theorem w_L_law_b1266 {Z : Zt} {nm : String} {Qf : State → Prop} {b n : Nat} {xs : Nat → Int32} {fin : Int × Me} {w : ((Int × Me) ⊕ (Int × Me))} (C : CX Z ⟨RX0, nm, ""⟩ cL_law (some .boolean) 213 8) (G : LX Z Qf b n xs) (h1 : fin.1 = 1) {a0 : Nat} {a1 : Nat} {a2 : Nat} {a3 : Nat} {x4 : Int}  {μ : Me} (h : s_L_law_b1266 b n xs a0 a1 a2 a3 x4 μ = some w) (hK : (Sum.elim (fun s : Int × Me => WL Z (Qf) s.2 23 [(0, vO a0), (1, vO a1), (2, vO a2), (3, vO a3), (4, vI s.1)] []) (fun r : Int × Me => r = fin)) w) : WL Z (Qf) μ 1266 [(0, vO a0), (1, vO a1), (2, vO a2), (3, vO a3), (4, vI x4)] [] := by
  unfold s_L_law_b1266 at h
  refine r_aload_n C 1 dL_law_1266 rfl rfl ?_
  refine r_aload_n C 0 dL_law_1267 rfl rfl ?_
  refine r_iload C 4 dL_law_1268 rfl ?_
  refine r_iconst C dL_law_1270 ?_
  refine r_iadd C dL_law_1271 ?_
  obtain ⟨v251, ev251, h⟩ := bs h
  refine r_xld C G ev251 dL_law_1272 ?_
  refine r_aload_n C 0 dL_law_1273 rfl rfl ?_
  refine r_iload C 4 dL_law_1274 rfl ?_
  refine r_iconst C dL_law_1276 ?_
  refine r_iadd C dL_law_1277 ?_
  obtain ⟨v252, ev252, h⟩ := bs h
  refine r_xld C G ev252 dL_law_1278 ?_
  refine r_aload_n C 0 dL_law_1279 rfl rfl ?_
  refine r_iload C 4 dL_law_1280 rfl ?_
  refine r_iconst C dL_law_1282 ?_
  refine r_iadd C dL_law_1283 ?_
  obtain ⟨v253, ev253, h⟩ := bs h
  refine r_xld C G ev253 dL_law_1284 ?_
  refine r_aload_n C 3 dL_law_1285 rfl rfl ?_
  rcases xbs h with ⟨e255, eq254, h⟩ | ⟨q254, eq254, h⟩
  · cases h
  · refine r_xSH C (As := [vO a1, vI v251, vI v252, vI v253, vO a3]) (rest := []) (st1 := [vI q254.1]) (v := some (vI q254.1)) (μ1 := q254.2) (m_X0_span C.tr eq254) (lw_SW q1023 q1024 q119 q1025) hdX0_span rfl rfl (Nat.le_of_ble_eq_true rfl) ⟨by decide, by decide⟩ dL_law_1286 rfl ?_
    refine r_istore C [(5, vI q254.1), (0, vO a0), (1, vO a1), (2, vO a2), (3, vO a3), (4, vI x4)] dL_law_1289 (by decide) rfl ?_
    refine r_aload_n C 3 dL_law_1291 rfl rfl ?_
    refine r_aload_n C 1 dL_law_1292 rfl rfl ?_
    refine r_iload C 5 dL_law_1293 rfl ?_
    refine r_iconst C dL_law_1295 ?_
    refine r_iadd C dL_law_1296 ?_
    obtain ⟨v256, ev256, h⟩ := bs h
    refine r_xld C G ev256 dL_law_1297 ?_
    refine r_aload_n C 1 dL_law_1298 rfl rfl ?_
    refine r_iload C 5 dL_law_1299 rfl ?_
    refine r_iconst C dL_law_1301 ?_
    refine r_iadd C dL_law_1302 ?_
    obtain ⟨v257, ev257, h⟩ := bs h
    refine r_xld C G ev257 dL_law_1303 ?_
    refine r_aload_n C 1 dL_law_1304 rfl rfl ?_
    refine r_iload C 5 dL_law_1305 rfl ?_
    refine r_iconst C dL_law_1307 ?_
    refine r_iadd C dL_law_1308 ?_
    obtain ⟨v258, ev258, h⟩ := bs h
    refine r_xld C G ev258 dL_law_1309 ?_
    obtain ⟨u260, eu260, h⟩ := bs h
    obtain ⟨q259, eq259, h⟩ := bs h
    refine r_callV C (As := [vI v256, vI v257, vI v258]) (b := a2) (rest := []) (st1 := [vI q259.1]) (v := some (vI q259.1)) (r := (RX11, TX11, 38)) (ci := 9) rfl eu260 (m_X11_span C.tr eq259) (lw_V q1744 q1745 q1746 q133 q1747) rfl hdX11_span rfl rfl (Nat.le_of_ble_eq_true rfl) ⟨by decide, by decide⟩ dL_law_1310 rfl ?_
    refine r_istore C [(6, vI q259.1), (5, vI q254.1), (0, vO a0), (1, vO a1), (2, vO a2), (3, vO a3), (4, vI x4)] dL_law_1313 (by decide) rfl ?_
    refine r_aload_n C 4 dL_law_1315 rfl rfl ?_
    obtain ⟨u262, eu262, h⟩ := bs h
    obtain ⟨q261, eq261, h⟩ := bs h
    refine r_callV C (As := []) (b := a2) (rest := []) (st1 := [vI q261.1]) (v := some (vI q261.1)) (r := (RX11, TX11, 38)) (ci := 9) rfl eu262 (m_X11_thrown C.tr eq261) (lw_V q1303 q1304 q1305 q133 q1306) rfl hdX11_thrown rfl rfl (Nat.le_of_ble_eq_true rfl) ⟨by decide, by decide⟩ dL_law_1316 rfl ?_
    refine r_iload C 1 dL_law_1319 rfl ?_
    refine r_icmp_eq C dL_law_1321 (tgt := 1326) (by decide) (fun c263 => ?_) (fun c263 => ?_)
    · have h := it_ h c263
      refine r_iload C 1 dL_law_1326 rfl ?_
      refine r_if_ne C dL_law_1328 (tgt := 1343) (by decide) (fun c264 => ?_) (fun c264 => ?_)
      · have h := ie_ h c264
        refine r_goto C dL_law_1343 (tgt := 2832) (by decide) ?_
        refine r_sub [2, 3, 4, 5, 6] rfl ?_
        exact w_L_law_b2832 (fin := fin) C G h1 h hK
      · have h := it_ h c264
        refine r_aload_n C 5 dL_law_1331 rfl rfl ?_
        refine r_iconst C dL_law_1332 ?_
        obtain ⟨v265, ev265, h⟩ := bs h
        refine r_lald C ev265 dL_law_1333 ?_
        refine r_iload C 0 dL_law_1334 rfl ?_
        refine r_i2l C dL_law_1336 ?_
        refine r_lcmp_eq C dL_law_1337 dL_law_1338 (tgt := 1343) (by decide) (fun c266 => ?_) (fun c266 => ?_)
        · have h := it_ h c266
          refine r_goto C dL_law_1343 (tgt := 2832) (by decide) ?_
          refine r_sub [2, 3, 4, 5, 6] rfl ?_
          exact w_L_law_b2832 (fin := fin) C G h1 h hK
        · have h := ie_ h c266
          refine r_iconst C dL_law_1341 ?_
          cases h
          have hK : (0, q261.2) = fin := hK
          subst hK
          exact absurd (show (0 : Int) = 1 from h1) (by decide)
    · have h := ie_ h c263
      refine r_iconst C dL_law_1324 ?_
      cases h
      have hK : (0, q261.2) = fin := hK
      subst hK
      exact absurd (show (0 : Int) = 1 from h1) (by decide)
noncomputable def s_L_law_b1346 (b n : Nat) (xs : Nat → Int32) (a0 : Nat) (a1 : Nat) (a2 : Nat) (a3 : Nat) (x4 : Int)  (μ : Me) : Option ((Int × Me) ⊕ (Int × Me)) :=
  (gX b n xs a0 (x4 + 1)).bind fun v268 =>
  (gX b n xs a0 (x4 + 2)).bind fun v269 =>
  (gX b n xs a0 (x4 + 3)).bind fun v270 =>
  xb (s_X0_basis a1 v268 v269 v270 a3 μ) (fun e272 => none) fun q271 =>
  (gX b n xs a0 (x4 + 1)).bind fun v273 =>
  (gX b n xs a0 (x4 + 2)).bind fun v274 =>
  (gX b n xs a0 (x4 + 3)).bind fun v275 =>
  (ck q271.2 9 a2).bind fun _ =>
  (s_X11_basis a2 v273 v274 v275 q271.2).bind fun q276 =>
  (ck q276.2 9 a2).bind fun _ =>
  (s_X11_thrown a2 q276.2).bind fun q278 =>
  (if w32 q278.1 = w32 q271.1 then
  (if w32 q271.1 = 0 then
  (aJ q278.2 103 a3 0).bind fun v282 =>
  (if w64 v282 = w64 (w32 q276.1) then
  s_L_law_b2832 b n xs a0 a1 a2 a3 x4 q278.2
  else
  some (.inr (0, q278.2)))
  else
  s_L_law_b2832 b n xs a0 a1 a2 a3 x4 q278.2)
  else
  some (.inr (0, q278.2)))
theorem w_L_law_b1346 {Z : Zt} {nm : String} {Qf : State → Prop} {b n : Nat} {xs : Nat → Int32} {fin : Int × Me} {w : ((Int × Me) ⊕ (Int × Me))} (C : CX Z ⟨RX0, nm, ""⟩ cL_law (some .boolean) 213 8) (G : LX Z Qf b n xs) (h1 : fin.1 = 1) {a0 : Nat} {a1 : Nat} {a2 : Nat} {a3 : Nat} {x4 : Int}  {μ : Me} (h : s_L_law_b1346 b n xs a0 a1 a2 a3 x4 μ = some w) (hK : (Sum.elim (fun s : Int × Me => WL Z (Qf) s.2 23 [(0, vO a0), (1, vO a1), (2, vO a2), (3, vO a3), (4, vI s.1)] []) (fun r : Int × Me => r = fin)) w) : WL Z (Qf) μ 1346 [(0, vO a0), (1, vO a1), (2, vO a2), (3, vO a3), (4, vI x4)] [] := by
  unfold s_L_law_b1346 at h
  refine r_aload_n C 1 dL_law_1346 rfl rfl ?_
  refine r_aload_n C 0 dL_law_1347 rfl rfl ?_
  refine r_iload C 4 dL_law_1348 rfl ?_
  refine r_iconst C dL_law_1350 ?_
  refine r_iadd C dL_law_1351 ?_
  obtain ⟨v268, ev268, h⟩ := bs h
  refine r_xld C G ev268 dL_law_1352 ?_
  refine r_aload_n C 0 dL_law_1353 rfl rfl ?_
  refine r_iload C 4 dL_law_1354 rfl ?_
  refine r_iconst C dL_law_1356 ?_
  refine r_iadd C dL_law_1357 ?_
  obtain ⟨v269, ev269, h⟩ := bs h
  refine r_xld C G ev269 dL_law_1358 ?_
  refine r_aload_n C 0 dL_law_1359 rfl rfl ?_
  refine r_iload C 4 dL_law_1360 rfl ?_
  refine r_iconst C dL_law_1362 ?_
  refine r_iadd C dL_law_1363 ?_
  obtain ⟨v270, ev270, h⟩ := bs h
  refine r_xld C G ev270 dL_law_1364 ?_
  refine r_aload_n C 3 dL_law_1365 rfl rfl ?_
  rcases xbs h with ⟨e272, eq271, h⟩ | ⟨q271, eq271, h⟩
  · cases h
  · refine r_xSH C (As := [vO a1, vI v268, vI v269, vI v270, vO a3]) (rest := []) (st1 := [vI q271.1]) (v := some (vI q271.1)) (μ1 := q271.2) (m_X0_basis C.tr eq271) (lw_SW q1044 q1045 q119 q1046) hdX0_basis rfl rfl (Nat.le_of_ble_eq_true rfl) ⟨by decide, by decide⟩ dL_law_1366 rfl ?_
    refine r_istore C [(5, vI q271.1), (0, vO a0), (1, vO a1), (2, vO a2), (3, vO a3), (4, vI x4)] dL_law_1369 (by decide) rfl ?_
    refine r_aload_n C 3 dL_law_1371 rfl rfl ?_
    refine r_aload_n C 1 dL_law_1372 rfl rfl ?_
    refine r_iload C 5 dL_law_1373 rfl ?_
    refine r_iconst C dL_law_1375 ?_
    refine r_iadd C dL_law_1376 ?_
    obtain ⟨v273, ev273, h⟩ := bs h
    refine r_xld C G ev273 dL_law_1377 ?_
    refine r_aload_n C 1 dL_law_1378 rfl rfl ?_
    refine r_iload C 5 dL_law_1379 rfl ?_
    refine r_iconst C dL_law_1381 ?_
    refine r_iadd C dL_law_1382 ?_
    obtain ⟨v274, ev274, h⟩ := bs h
    refine r_xld C G ev274 dL_law_1383 ?_
    refine r_aload_n C 1 dL_law_1384 rfl rfl ?_
    refine r_iload C 5 dL_law_1385 rfl ?_
    refine r_iconst C dL_law_1387 ?_
    refine r_iadd C dL_law_1388 ?_
    obtain ⟨v275, ev275, h⟩ := bs h
    refine r_xld C G ev275 dL_law_1389 ?_
    obtain ⟨u277, eu277, h⟩ := bs h
    obtain ⟨q276, eq276, h⟩ := bs h
    refine r_callV C (As := [vI v273, vI v274, vI v275]) (b := a2) (rest := []) (st1 := [vI q276.1]) (v := some (vI q276.1)) (r := (RX11, TX11, 38)) (ci := 9) rfl eu277 (m_X11_basis C.tr eq276) (lw_V q1775 q1776 q1777 q133 q1778) rfl hdX11_basis rfl rfl (Nat.le_of_ble_eq_true rfl) ⟨by decide, by decide⟩ dL_law_1390 rfl ?_
    refine r_istore C [(6, vI q276.1), (5, vI q271.1), (0, vO a0), (1, vO a1), (2, vO a2), (3, vO a3), (4, vI x4)] dL_law_1393 (by decide) rfl ?_
    refine r_aload_n C 4 dL_law_1395 rfl rfl ?_
    obtain ⟨u279, eu279, h⟩ := bs h
    obtain ⟨q278, eq278, h⟩ := bs h
    refine r_callV C (As := []) (b := a2) (rest := []) (st1 := [vI q278.1]) (v := some (vI q278.1)) (r := (RX11, TX11, 38)) (ci := 9) rfl eu279 (m_X11_thrown C.tr eq278) (lw_V q1303 q1304 q1305 q133 q1306) rfl hdX11_thrown rfl rfl (Nat.le_of_ble_eq_true rfl) ⟨by decide, by decide⟩ dL_law_1396 rfl ?_
    refine r_iload C 1 dL_law_1399 rfl ?_
    refine r_icmp_eq C dL_law_1401 (tgt := 1406) (by decide) (fun c280 => ?_) (fun c280 => ?_)
    · have h := it_ h c280
      refine r_iload C 1 dL_law_1406 rfl ?_
      refine r_if_ne C dL_law_1408 (tgt := 1423) (by decide) (fun c281 => ?_) (fun c281 => ?_)
      · have h := ie_ h c281
        refine r_goto C dL_law_1423 (tgt := 2832) (by decide) ?_
        refine r_sub [2, 3, 4, 5, 6] rfl ?_
        exact w_L_law_b2832 (fin := fin) C G h1 h hK
      · have h := it_ h c281
        refine r_aload_n C 5 dL_law_1411 rfl rfl ?_
        refine r_iconst C dL_law_1412 ?_
        obtain ⟨v282, ev282, h⟩ := bs h
        refine r_lald C ev282 dL_law_1413 ?_
        refine r_iload C 0 dL_law_1414 rfl ?_
        refine r_i2l C dL_law_1416 ?_
        refine r_lcmp_eq C dL_law_1417 dL_law_1418 (tgt := 1423) (by decide) (fun c283 => ?_) (fun c283 => ?_)
        · have h := it_ h c283
          refine r_goto C dL_law_1423 (tgt := 2832) (by decide) ?_
          refine r_sub [2, 3, 4, 5, 6] rfl ?_
          exact w_L_law_b2832 (fin := fin) C G h1 h hK
        · have h := ie_ h c283
          refine r_iconst C dL_law_1421 ?_
          cases h
          have hK : (0, q278.2) = fin := hK
          subst hK
          exact absurd (show (0 : Int) = 1 from h1) (by decide)
    · have h := ie_ h c280
      refine r_iconst C dL_law_1404 ?_
      cases h
      have hK : (0, q278.2) = fin := hK
      subst hK
      exact absurd (show (0 : Int) = 1 from h1) (by decide)
noncomputable def s_L_law_b1426 (b n : Nat) (xs : Nat → Int32) (a0 : Nat) (a1 : Nat) (a2 : Nat) (a3 : Nat) (x4 : Int)  (μ : Me) : Option ((Int × Me) ⊕ (Int × Me)) :=
  (gX b n xs a0 (x4 + 1)).bind fun v285 =>
  xb (s_X0_kind a1 v285 a3 μ) (fun e287 => none) fun q286 =>
  (gX b n xs a0 (x4 + 1)).bind fun v288 =>
  (ck q286.2 9 a2).bind fun _ =>
  (s_X11_kind a2 v288 q286.2).bind fun q289 =>
  (ck q289.2 9 a2).bind fun _ =>
  (s_X11_thrown a2 q289.2).bind fun q291 =>
  (if w32 q291.1 = w32 q286.1 then
  (if w32 q286.1 = 0 then
  (aJ q291.2 103 a3 0).bind fun v295 =>
  (if w64 v295 = w64 (w32 q289.1) then
  s_L_law_b2832 b n xs a0 a1 a2 a3 x4 q291.2
  else
  some (.inr (0, q291.2)))
  else
  s_L_law_b2832 b n xs a0 a1 a2 a3 x4 q291.2)
  else
  some (.inr (0, q291.2)))
theorem w_L_law_b1426 {Z : Zt} {nm : String} {Qf : State → Prop} {b n : Nat} {xs : Nat → Int32} {fin : Int × Me} {w : ((Int × Me) ⊕ (Int × Me))} (C : CX Z ⟨RX0, nm, ""⟩ cL_law (some .boolean) 213 8) (G : LX Z Qf b n xs) (h1 : fin.1 = 1) {a0 : Nat} {a1 : Nat} {a2 : Nat} {a3 : Nat} {x4 : Int}  {μ : Me} (h : s_L_law_b1426 b n xs a0 a1 a2 a3 x4 μ = some w) (hK : (Sum.elim (fun s : Int × Me => WL Z (Qf) s.2 23 [(0, vO a0), (1, vO a1), (2, vO a2), (3, vO a3), (4, vI s.1)] []) (fun r : Int × Me => r = fin)) w) : WL Z (Qf) μ 1426 [(0, vO a0), (1, vO a1), (2, vO a2), (3, vO a3), (4, vI x4)] [] := by
  unfold s_L_law_b1426 at h
  refine r_aload_n C 1 dL_law_1426 rfl rfl ?_
  refine r_aload_n C 0 dL_law_1427 rfl rfl ?_
  refine r_iload C 4 dL_law_1428 rfl ?_
  refine r_iconst C dL_law_1430 ?_
  refine r_iadd C dL_law_1431 ?_
  obtain ⟨v285, ev285, h⟩ := bs h
  refine r_xld C G ev285 dL_law_1432 ?_
  refine r_aload_n C 3 dL_law_1433 rfl rfl ?_
  rcases xbs h with ⟨e287, eq286, h⟩ | ⟨q286, eq286, h⟩
  · cases h
  · refine r_xSH C (As := [vO a1, vI v285, vO a3]) (rest := []) (st1 := [vI q286.1]) (v := some (vI q286.1)) (μ1 := q286.2) (m_X0_kind C.tr eq286) (lw_SW q1051 q1052 q119 q1053) hdX0_kind rfl rfl (Nat.le_of_ble_eq_true rfl) ⟨by decide, by decide⟩ dL_law_1434 rfl ?_
    refine r_istore C [(5, vI q286.1), (0, vO a0), (1, vO a1), (2, vO a2), (3, vO a3), (4, vI x4)] dL_law_1437 (by decide) rfl ?_
    refine r_aload_n C 3 dL_law_1439 rfl rfl ?_
    refine r_aload_n C 1 dL_law_1440 rfl rfl ?_
    refine r_iload C 5 dL_law_1441 rfl ?_
    refine r_iconst C dL_law_1443 ?_
    refine r_iadd C dL_law_1444 ?_
    obtain ⟨v288, ev288, h⟩ := bs h
    refine r_xld C G ev288 dL_law_1445 ?_
    obtain ⟨u290, eu290, h⟩ := bs h
    obtain ⟨q289, eq289, h⟩ := bs h
    refine r_callV C (As := [vI v288]) (b := a2) (rest := []) (st1 := [vI q289.1]) (v := some (vI q289.1)) (r := (RX11, TX11, 38)) (ci := 9) rfl eu290 (m_X11_kind C.tr eq289) (lw_V q1835 q1836 q1837 q133 q1838) rfl hdX11_kind rfl rfl (Nat.le_of_ble_eq_true rfl) ⟨by decide, by decide⟩ dL_law_1446 rfl ?_
    refine r_istore C [(6, vI q289.1), (5, vI q286.1), (0, vO a0), (1, vO a1), (2, vO a2), (3, vO a3), (4, vI x4)] dL_law_1449 (by decide) rfl ?_
    refine r_aload_n C 4 dL_law_1451 rfl rfl ?_
    obtain ⟨u292, eu292, h⟩ := bs h
    obtain ⟨q291, eq291, h⟩ := bs h
    refine r_callV C (As := []) (b := a2) (rest := []) (st1 := [vI q291.1]) (v := some (vI q291.1)) (r := (RX11, TX11, 38)) (ci := 9) rfl eu292 (m_X11_thrown C.tr eq291) (lw_V q1303 q1304 q1305 q133 q1306) rfl hdX11_thrown rfl rfl (Nat.le_of_ble_eq_true rfl) ⟨by decide, by decide⟩ dL_law_1452 rfl ?_
    refine r_iload C 1 dL_law_1455 rfl ?_
    refine r_icmp_eq C dL_law_1457 (tgt := 1462) (by decide) (fun c293 => ?_) (fun c293 => ?_)
    · have h := it_ h c293
      refine r_iload C 1 dL_law_1462 rfl ?_
      refine r_if_ne C dL_law_1464 (tgt := 1479) (by decide) (fun c294 => ?_) (fun c294 => ?_)
      · have h := ie_ h c294
        refine r_goto C dL_law_1479 (tgt := 2832) (by decide) ?_
        refine r_sub [2, 3, 4, 5, 6] rfl ?_
        exact w_L_law_b2832 (fin := fin) C G h1 h hK
      · have h := it_ h c294
        refine r_aload_n C 5 dL_law_1467 rfl rfl ?_
        refine r_iconst C dL_law_1468 ?_
        obtain ⟨v295, ev295, h⟩ := bs h
        refine r_lald C ev295 dL_law_1469 ?_
        refine r_iload C 0 dL_law_1470 rfl ?_
        refine r_i2l C dL_law_1472 ?_
        refine r_lcmp_eq C dL_law_1473 dL_law_1474 (tgt := 1479) (by decide) (fun c296 => ?_) (fun c296 => ?_)
        · have h := it_ h c296
          refine r_goto C dL_law_1479 (tgt := 2832) (by decide) ?_
          refine r_sub [2, 3, 4, 5, 6] rfl ?_
          exact w_L_law_b2832 (fin := fin) C G h1 h hK
        · have h := ie_ h c296
          refine r_iconst C dL_law_1477 ?_
          cases h
          have hK : (0, q291.2) = fin := hK
          subst hK
          exact absurd (show (0 : Int) = 1 from h1) (by decide)
    · have h := ie_ h c293
      refine r_iconst C dL_law_1460 ?_
      cases h
      have hK : (0, q291.2) = fin := hK
      subst hK
      exact absurd (show (0 : Int) = 1 from h1) (by decide)
noncomputable def s_L_law_b1482 (b n : Nat) (xs : Nat → Int32) (a0 : Nat) (a1 : Nat) (a2 : Nat) (a3 : Nat) (x4 : Int)  (μ : Me) : Option ((Int × Me) ⊕ (Int × Me)) :=
  (gX b n xs a0 (x4 + 1)).bind fun v298 =>
  xb (s_X0_orbit a1 v298 a3 μ) (fun e300 => none) fun q299 =>
  (gX b n xs a0 (x4 + 1)).bind fun v301 =>
  (ck q299.2 9 a2).bind fun _ =>
  (s_X11_orbit a2 v301 q299.2).bind fun q302 =>
  (ck q302.2 9 a2).bind fun _ =>
  (s_X11_thrown a2 q302.2).bind fun q304 =>
  (if w32 q304.1 = w32 q299.1 then
  (if w32 q299.1 = 0 then
  (aJ q304.2 103 a3 0).bind fun v308 =>
  (if w64 v308 = w64 (w32 q302.1) then
  s_L_law_b2832 b n xs a0 a1 a2 a3 x4 q304.2
  else
  some (.inr (0, q304.2)))
  else
  s_L_law_b2832 b n xs a0 a1 a2 a3 x4 q304.2)
  else
  some (.inr (0, q304.2)))
theorem w_L_law_b1482 {Z : Zt} {nm : String} {Qf : State → Prop} {b n : Nat} {xs : Nat → Int32} {fin : Int × Me} {w : ((Int × Me) ⊕ (Int × Me))} (C : CX Z ⟨RX0, nm, ""⟩ cL_law (some .boolean) 213 8) (G : LX Z Qf b n xs) (h1 : fin.1 = 1) {a0 : Nat} {a1 : Nat} {a2 : Nat} {a3 : Nat} {x4 : Int}  {μ : Me} (h : s_L_law_b1482 b n xs a0 a1 a2 a3 x4 μ = some w) (hK : (Sum.elim (fun s : Int × Me => WL Z (Qf) s.2 23 [(0, vO a0), (1, vO a1), (2, vO a2), (3, vO a3), (4, vI s.1)] []) (fun r : Int × Me => r = fin)) w) : WL Z (Qf) μ 1482 [(0, vO a0), (1, vO a1), (2, vO a2), (3, vO a3), (4, vI x4)] [] := by
  unfold s_L_law_b1482 at h
  refine r_aload_n C 1 dL_law_1482 rfl rfl ?_
  refine r_aload_n C 0 dL_law_1483 rfl rfl ?_
  refine r_iload C 4 dL_law_1484 rfl ?_
  refine r_iconst C dL_law_1486 ?_
  refine r_iadd C dL_law_1487 ?_
  obtain ⟨v298, ev298, h⟩ := bs h
  refine r_xld C G ev298 dL_law_1488 ?_
  refine r_aload_n C 3 dL_law_1489 rfl rfl ?_
  rcases xbs h with ⟨e300, eq299, h⟩ | ⟨q299, eq299, h⟩
  · cases h
  · refine r_xSH C (As := [vO a1, vI v298, vO a3]) (rest := []) (st1 := [vI q299.1]) (v := some (vI q299.1)) (μ1 := q299.2) (m_X0_orbit C.tr eq299) (lw_SW q1062 q1063 q119 q1064) hdX0_orbit rfl rfl (Nat.le_of_ble_eq_true rfl) ⟨by decide, by decide⟩ dL_law_1490 rfl ?_
    refine r_istore C [(5, vI q299.1), (0, vO a0), (1, vO a1), (2, vO a2), (3, vO a3), (4, vI x4)] dL_law_1493 (by decide) rfl ?_
    refine r_aload_n C 3 dL_law_1495 rfl rfl ?_
    refine r_aload_n C 1 dL_law_1496 rfl rfl ?_
    refine r_iload C 5 dL_law_1497 rfl ?_
    refine r_iconst C dL_law_1499 ?_
    refine r_iadd C dL_law_1500 ?_
    obtain ⟨v301, ev301, h⟩ := bs h
    refine r_xld C G ev301 dL_law_1501 ?_
    obtain ⟨u303, eu303, h⟩ := bs h
    obtain ⟨q302, eq302, h⟩ := bs h
    refine r_callV C (As := [vI v301]) (b := a2) (rest := []) (st1 := [vI q302.1]) (v := some (vI q302.1)) (r := (RX11, TX11, 38)) (ci := 9) rfl eu303 (m_X11_orbit C.tr eq302) (lw_V q1831 q1832 q1833 q133 q1834) rfl hdX11_orbit rfl rfl (Nat.le_of_ble_eq_true rfl) ⟨by decide, by decide⟩ dL_law_1502 rfl ?_
    refine r_istore C [(6, vI q302.1), (5, vI q299.1), (0, vO a0), (1, vO a1), (2, vO a2), (3, vO a3), (4, vI x4)] dL_law_1505 (by decide) rfl ?_
    refine r_aload_n C 4 dL_law_1507 rfl rfl ?_
    obtain ⟨u305, eu305, h⟩ := bs h
    obtain ⟨q304, eq304, h⟩ := bs h
    refine r_callV C (As := []) (b := a2) (rest := []) (st1 := [vI q304.1]) (v := some (vI q304.1)) (r := (RX11, TX11, 38)) (ci := 9) rfl eu305 (m_X11_thrown C.tr eq304) (lw_V q1303 q1304 q1305 q133 q1306) rfl hdX11_thrown rfl rfl (Nat.le_of_ble_eq_true rfl) ⟨by decide, by decide⟩ dL_law_1508 rfl ?_
    refine r_iload C 1 dL_law_1511 rfl ?_
    refine r_icmp_eq C dL_law_1513 (tgt := 1518) (by decide) (fun c306 => ?_) (fun c306 => ?_)
    · have h := it_ h c306
      refine r_iload C 1 dL_law_1518 rfl ?_
      refine r_if_ne C dL_law_1520 (tgt := 1535) (by decide) (fun c307 => ?_) (fun c307 => ?_)
      · have h := ie_ h c307
        refine r_goto C dL_law_1535 (tgt := 2832) (by decide) ?_
        refine r_sub [2, 3, 4, 5, 6] rfl ?_
        exact w_L_law_b2832 (fin := fin) C G h1 h hK
      · have h := it_ h c307
        refine r_aload_n C 5 dL_law_1523 rfl rfl ?_
        refine r_iconst C dL_law_1524 ?_
        obtain ⟨v308, ev308, h⟩ := bs h
        refine r_lald C ev308 dL_law_1525 ?_
        refine r_iload C 0 dL_law_1526 rfl ?_
        refine r_i2l C dL_law_1528 ?_
        refine r_lcmp_eq C dL_law_1529 dL_law_1530 (tgt := 1535) (by decide) (fun c309 => ?_) (fun c309 => ?_)
        · have h := it_ h c309
          refine r_goto C dL_law_1535 (tgt := 2832) (by decide) ?_
          refine r_sub [2, 3, 4, 5, 6] rfl ?_
          exact w_L_law_b2832 (fin := fin) C G h1 h hK
        · have h := ie_ h c309
          refine r_iconst C dL_law_1533 ?_
          cases h
          have hK : (0, q304.2) = fin := hK
          subst hK
          exact absurd (show (0 : Int) = 1 from h1) (by decide)
    · have h := ie_ h c306
      refine r_iconst C dL_law_1516 ?_
      cases h
      have hK : (0, q304.2) = fin := hK
      subst hK
      exact absurd (show (0 : Int) = 1 from h1) (by decide)
noncomputable def s_L_law_b1538 (b n : Nat) (xs : Nat → Int32) (a0 : Nat) (a1 : Nat) (a2 : Nat) (a3 : Nat) (x4 : Int)  (μ : Me) : Option ((Int × Me) ⊕ (Int × Me)) :=
  (gX b n xs a0 (x4 + 1)).bind fun v311 =>
  (gX b n xs a0 (x4 + 2)).bind fun v312 =>
  xb (s_X0_join a1 v311 v312 a3 μ) (fun e314 => none) fun q313 =>
  (gX b n xs a0 (x4 + 1)).bind fun v315 =>
  (gX b n xs a0 (x4 + 2)).bind fun v316 =>
  (ck q313.2 9 a2).bind fun _ =>
  (s_X11_join a2 v315 v316 q313.2).bind fun q317 =>
  (ck q317.2 9 a2).bind fun _ =>
  (s_X11_thrown a2 q317.2).bind fun q319 =>
  (if w32 q319.1 = w32 q313.1 then
  (if w32 q313.1 = 0 then
  (aJ q319.2 103 a3 0).bind fun v323 =>
  (if w64 v323 = w64 (w32 q317.1) then
  s_L_law_b2832 b n xs a0 a1 a2 a3 x4 q319.2
  else
  some (.inr (0, q319.2)))
  else
  s_L_law_b2832 b n xs a0 a1 a2 a3 x4 q319.2)
  else
  some (.inr (0, q319.2)))
theorem w_L_law_b1538 {Z : Zt} {nm : String} {Qf : State → Prop} {b n : Nat} {xs : Nat → Int32} {fin : Int × Me} {w : ((Int × Me) ⊕ (Int × Me))} (C : CX Z ⟨RX0, nm, ""⟩ cL_law (some .boolean) 213 8) (G : LX Z Qf b n xs) (h1 : fin.1 = 1) {a0 : Nat} {a1 : Nat} {a2 : Nat} {a3 : Nat} {x4 : Int}  {μ : Me} (h : s_L_law_b1538 b n xs a0 a1 a2 a3 x4 μ = some w) (hK : (Sum.elim (fun s : Int × Me => WL Z (Qf) s.2 23 [(0, vO a0), (1, vO a1), (2, vO a2), (3, vO a3), (4, vI s.1)] []) (fun r : Int × Me => r = fin)) w) : WL Z (Qf) μ 1538 [(0, vO a0), (1, vO a1), (2, vO a2), (3, vO a3), (4, vI x4)] [] := by
  unfold s_L_law_b1538 at h
  refine r_aload_n C 1 dL_law_1538 rfl rfl ?_
  refine r_aload_n C 0 dL_law_1539 rfl rfl ?_
  refine r_iload C 4 dL_law_1540 rfl ?_
  refine r_iconst C dL_law_1542 ?_
  refine r_iadd C dL_law_1543 ?_
  obtain ⟨v311, ev311, h⟩ := bs h
  refine r_xld C G ev311 dL_law_1544 ?_
  refine r_aload_n C 0 dL_law_1545 rfl rfl ?_
  refine r_iload C 4 dL_law_1546 rfl ?_
  refine r_iconst C dL_law_1548 ?_
  refine r_iadd C dL_law_1549 ?_
  obtain ⟨v312, ev312, h⟩ := bs h
  refine r_xld C G ev312 dL_law_1550 ?_
  refine r_aload_n C 3 dL_law_1551 rfl rfl ?_
  rcases xbs h with ⟨e314, eq313, h⟩ | ⟨q313, eq313, h⟩
  · cases h
  · refine r_xSH C (As := [vO a1, vI v311, vI v312, vO a3]) (rest := []) (st1 := [vI q313.1]) (v := some (vI q313.1)) (μ1 := q313.2) (m_X0_join C.tr eq313) (lw_SW q1069 q1070 q119 q1071) hdX0_join rfl rfl (Nat.le_of_ble_eq_true rfl) ⟨by decide, by decide⟩ dL_law_1552 rfl ?_
    refine r_istore C [(5, vI q313.1), (0, vO a0), (1, vO a1), (2, vO a2), (3, vO a3), (4, vI x4)] dL_law_1555 (by decide) rfl ?_
    refine r_aload_n C 3 dL_law_1557 rfl rfl ?_
    refine r_aload_n C 1 dL_law_1558 rfl rfl ?_
    refine r_iload C 5 dL_law_1559 rfl ?_
    refine r_iconst C dL_law_1561 ?_
    refine r_iadd C dL_law_1562 ?_
    obtain ⟨v315, ev315, h⟩ := bs h
    refine r_xld C G ev315 dL_law_1563 ?_
    refine r_aload_n C 1 dL_law_1564 rfl rfl ?_
    refine r_iload C 5 dL_law_1565 rfl ?_
    refine r_iconst C dL_law_1567 ?_
    refine r_iadd C dL_law_1568 ?_
    obtain ⟨v316, ev316, h⟩ := bs h
    refine r_xld C G ev316 dL_law_1569 ?_
    obtain ⟨u318, eu318, h⟩ := bs h
    obtain ⟨q317, eq317, h⟩ := bs h
    refine r_callV C (As := [vI v315, vI v316]) (b := a2) (rest := []) (st1 := [vI q317.1]) (v := some (vI q317.1)) (r := (RX11, TX11, 38)) (ci := 9) rfl eu318 (m_X11_join C.tr eq317) (lw_V q1553 q1554 q1555 q133 q1556) rfl hdX11_join rfl rfl (Nat.le_of_ble_eq_true rfl) ⟨by decide, by decide⟩ dL_law_1570 rfl ?_
    refine r_istore C [(6, vI q317.1), (5, vI q313.1), (0, vO a0), (1, vO a1), (2, vO a2), (3, vO a3), (4, vI x4)] dL_law_1573 (by decide) rfl ?_
    refine r_aload_n C 4 dL_law_1575 rfl rfl ?_
    obtain ⟨u320, eu320, h⟩ := bs h
    obtain ⟨q319, eq319, h⟩ := bs h
    refine r_callV C (As := []) (b := a2) (rest := []) (st1 := [vI q319.1]) (v := some (vI q319.1)) (r := (RX11, TX11, 38)) (ci := 9) rfl eu320 (m_X11_thrown C.tr eq319) (lw_V q1303 q1304 q1305 q133 q1306) rfl hdX11_thrown rfl rfl (Nat.le_of_ble_eq_true rfl) ⟨by decide, by decide⟩ dL_law_1576 rfl ?_
    refine r_iload C 1 dL_law_1579 rfl ?_
    refine r_icmp_eq C dL_law_1581 (tgt := 1586) (by decide) (fun c321 => ?_) (fun c321 => ?_)
    · have h := it_ h c321
      refine r_iload C 1 dL_law_1586 rfl ?_
      refine r_if_ne C dL_law_1588 (tgt := 1603) (by decide) (fun c322 => ?_) (fun c322 => ?_)
      · have h := ie_ h c322
        refine r_goto C dL_law_1603 (tgt := 2832) (by decide) ?_
        refine r_sub [2, 3, 4, 5, 6] rfl ?_
        exact w_L_law_b2832 (fin := fin) C G h1 h hK
      · have h := it_ h c322
        refine r_aload_n C 5 dL_law_1591 rfl rfl ?_
        refine r_iconst C dL_law_1592 ?_
        obtain ⟨v323, ev323, h⟩ := bs h
        refine r_lald C ev323 dL_law_1593 ?_
        refine r_iload C 0 dL_law_1594 rfl ?_
        refine r_i2l C dL_law_1596 ?_
        refine r_lcmp_eq C dL_law_1597 dL_law_1598 (tgt := 1603) (by decide) (fun c324 => ?_) (fun c324 => ?_)
        · have h := it_ h c324
          refine r_goto C dL_law_1603 (tgt := 2832) (by decide) ?_
          refine r_sub [2, 3, 4, 5, 6] rfl ?_
          exact w_L_law_b2832 (fin := fin) C G h1 h hK
        · have h := ie_ h c324
          refine r_iconst C dL_law_1601 ?_
          cases h
          have hK : (0, q319.2) = fin := hK
          subst hK
          exact absurd (show (0 : Int) = 1 from h1) (by decide)
    · have h := ie_ h c321
      refine r_iconst C dL_law_1584 ?_
      cases h
      have hK : (0, q319.2) = fin := hK
      subst hK
      exact absurd (show (0 : Int) = 1 from h1) (by decide)
noncomputable def s_L_law_b1606 (b n : Nat) (xs : Nat → Int32) (a0 : Nat) (a1 : Nat) (a2 : Nat) (a3 : Nat) (x4 : Int)  (μ : Me) : Option ((Int × Me) ⊕ (Int × Me)) :=
  (gX b n xs a0 (x4 + 1)).bind fun v326 =>
  xb (s_X0_turn a1 v326 a3 μ) (fun e328 => none) fun q327 =>
  (gX b n xs a0 (x4 + 1)).bind fun v329 =>
  (ck q327.2 9 a2).bind fun _ =>
  (s_X11_turn a2 v329 q327.2).bind fun q330 =>
  (ck q330.2 9 a2).bind fun _ =>
  (s_X11_thrown a2 q330.2).bind fun q332 =>
  (if w32 q332.1 = w32 q327.1 then
  (if w32 q327.1 = 0 then
  (aJ q332.2 103 a3 0).bind fun v336 =>
  (if w64 v336 = w64 (w32 q330.1) then
  s_L_law_b2832 b n xs a0 a1 a2 a3 x4 q332.2
  else
  some (.inr (0, q332.2)))
  else
  s_L_law_b2832 b n xs a0 a1 a2 a3 x4 q332.2)
  else
  some (.inr (0, q332.2)))
theorem w_L_law_b1606 {Z : Zt} {nm : String} {Qf : State → Prop} {b n : Nat} {xs : Nat → Int32} {fin : Int × Me} {w : ((Int × Me) ⊕ (Int × Me))} (C : CX Z ⟨RX0, nm, ""⟩ cL_law (some .boolean) 213 8) (G : LX Z Qf b n xs) (h1 : fin.1 = 1) {a0 : Nat} {a1 : Nat} {a2 : Nat} {a3 : Nat} {x4 : Int}  {μ : Me} (h : s_L_law_b1606 b n xs a0 a1 a2 a3 x4 μ = some w) (hK : (Sum.elim (fun s : Int × Me => WL Z (Qf) s.2 23 [(0, vO a0), (1, vO a1), (2, vO a2), (3, vO a3), (4, vI s.1)] []) (fun r : Int × Me => r = fin)) w) : WL Z (Qf) μ 1606 [(0, vO a0), (1, vO a1), (2, vO a2), (3, vO a3), (4, vI x4)] [] := by
  unfold s_L_law_b1606 at h
  refine r_aload_n C 1 dL_law_1606 rfl rfl ?_
  refine r_aload_n C 0 dL_law_1607 rfl rfl ?_
  refine r_iload C 4 dL_law_1608 rfl ?_
  refine r_iconst C dL_law_1610 ?_
  refine r_iadd C dL_law_1611 ?_
  obtain ⟨v326, ev326, h⟩ := bs h
  refine r_xld C G ev326 dL_law_1612 ?_
  refine r_aload_n C 3 dL_law_1613 rfl rfl ?_
  rcases xbs h with ⟨e328, eq327, h⟩ | ⟨q327, eq327, h⟩
  · cases h
  · refine r_xSH C (As := [vO a1, vI v326, vO a3]) (rest := []) (st1 := [vI q327.1]) (v := some (vI q327.1)) (μ1 := q327.2) (m_X0_turn C.tr eq327) (lw_SW q1084 q1085 q119 q1086) hdX0_turn rfl rfl (Nat.le_of_ble_eq_true rfl) ⟨by decide, by decide⟩ dL_law_1614 rfl ?_
    refine r_istore C [(5, vI q327.1), (0, vO a0), (1, vO a1), (2, vO a2), (3, vO a3), (4, vI x4)] dL_law_1617 (by decide) rfl ?_
    refine r_aload_n C 3 dL_law_1619 rfl rfl ?_
    refine r_aload_n C 1 dL_law_1620 rfl rfl ?_
    refine r_iload C 5 dL_law_1621 rfl ?_
    refine r_iconst C dL_law_1623 ?_
    refine r_iadd C dL_law_1624 ?_
    obtain ⟨v329, ev329, h⟩ := bs h
    refine r_xld C G ev329 dL_law_1625 ?_
    obtain ⟨u331, eu331, h⟩ := bs h
    obtain ⟨q330, eq330, h⟩ := bs h
    refine r_callV C (As := [vI v329]) (b := a2) (rest := []) (st1 := [vI q330.1]) (v := some (vI q330.1)) (r := (RX11, TX11, 38)) (ci := 9) rfl eu331 (m_X11_turn C.tr eq330) (lw_V q1573 q1574 q1575 q133 q1576) rfl hdX11_turn rfl rfl (Nat.le_of_ble_eq_true rfl) ⟨by decide, by decide⟩ dL_law_1626 rfl ?_
    refine r_istore C [(6, vI q330.1), (5, vI q327.1), (0, vO a0), (1, vO a1), (2, vO a2), (3, vO a3), (4, vI x4)] dL_law_1629 (by decide) rfl ?_
    refine r_aload_n C 4 dL_law_1631 rfl rfl ?_
    obtain ⟨u333, eu333, h⟩ := bs h
    obtain ⟨q332, eq332, h⟩ := bs h
    refine r_callV C (As := []) (b := a2) (rest := []) (st1 := [vI q332.1]) (v := some (vI q332.1)) (r := (RX11, TX11, 38)) (ci := 9) rfl eu333 (m_X11_thrown C.tr eq332) (lw_V q1303 q1304 q1305 q133 q1306) rfl hdX11_thrown rfl rfl (Nat.le_of_ble_eq_true rfl) ⟨by decide, by decide⟩ dL_law_1632 rfl ?_
    refine r_iload C 1 dL_law_1635 rfl ?_
    refine r_icmp_eq C dL_law_1637 (tgt := 1642) (by decide) (fun c334 => ?_) (fun c334 => ?_)
    · have h := it_ h c334
      refine r_iload C 1 dL_law_1642 rfl ?_
      refine r_if_ne C dL_law_1644 (tgt := 1659) (by decide) (fun c335 => ?_) (fun c335 => ?_)
      · have h := ie_ h c335
        refine r_goto C dL_law_1659 (tgt := 2832) (by decide) ?_
        refine r_sub [2, 3, 4, 5, 6] rfl ?_
        exact w_L_law_b2832 (fin := fin) C G h1 h hK
      · have h := it_ h c335
        refine r_aload_n C 5 dL_law_1647 rfl rfl ?_
        refine r_iconst C dL_law_1648 ?_
        obtain ⟨v336, ev336, h⟩ := bs h
        refine r_lald C ev336 dL_law_1649 ?_
        refine r_iload C 0 dL_law_1650 rfl ?_
        refine r_i2l C dL_law_1652 ?_
        refine r_lcmp_eq C dL_law_1653 dL_law_1654 (tgt := 1659) (by decide) (fun c337 => ?_) (fun c337 => ?_)
        · have h := it_ h c337
          refine r_goto C dL_law_1659 (tgt := 2832) (by decide) ?_
          refine r_sub [2, 3, 4, 5, 6] rfl ?_
          exact w_L_law_b2832 (fin := fin) C G h1 h hK
        · have h := ie_ h c337
          refine r_iconst C dL_law_1657 ?_
          cases h
          have hK : (0, q332.2) = fin := hK
          subst hK
          exact absurd (show (0 : Int) = 1 from h1) (by decide)
    · have h := ie_ h c334
      refine r_iconst C dL_law_1640 ?_
      cases h
      have hK : (0, q332.2) = fin := hK
      subst hK
      exact absurd (show (0 : Int) = 1 from h1) (by decide)
noncomputable def s_L_law_b1662 (b n : Nat) (xs : Nat → Int32) (a0 : Nat) (a1 : Nat) (a2 : Nat) (a3 : Nat) (x4 : Int)  (μ : Me) : Option ((Int × Me) ⊕ (Int × Me)) :=
  (gX b n xs a0 (x4 + 1)).bind fun v339 =>
  (gX b n xs a0 (x4 + 2)).bind fun v340 =>
  xb (s_X0_told a1 v339 v340 a3 μ) (fun e342 => none) fun q341 =>
  (gX b n xs a0 (x4 + 1)).bind fun v343 =>
  (gX b n xs a0 (x4 + 2)).bind fun v344 =>
  (ck q341.2 9 a2).bind fun _ =>
  (s_X11_told a2 v343 v344 q341.2).bind fun q345 =>
  (ck q345.2 9 a2).bind fun _ =>
  (s_X11_thrown a2 q345.2).bind fun q347 =>
  (if w32 q347.1 = w32 q341.1 then
  (if w32 q341.1 = 0 then
  (aJ q347.2 103 a3 0).bind fun v351 =>
  (if w64 v351 = w64 (w32 q345.1) then
  s_L_law_b2832 b n xs a0 a1 a2 a3 x4 q347.2
  else
  some (.inr (0, q347.2)))
  else
  s_L_law_b2832 b n xs a0 a1 a2 a3 x4 q347.2)
  else
  some (.inr (0, q347.2)))
theorem w_L_law_b1662 {Z : Zt} {nm : String} {Qf : State → Prop} {b n : Nat} {xs : Nat → Int32} {fin : Int × Me} {w : ((Int × Me) ⊕ (Int × Me))} (C : CX Z ⟨RX0, nm, ""⟩ cL_law (some .boolean) 213 8) (G : LX Z Qf b n xs) (h1 : fin.1 = 1) {a0 : Nat} {a1 : Nat} {a2 : Nat} {a3 : Nat} {x4 : Int}  {μ : Me} (h : s_L_law_b1662 b n xs a0 a1 a2 a3 x4 μ = some w) (hK : (Sum.elim (fun s : Int × Me => WL Z (Qf) s.2 23 [(0, vO a0), (1, vO a1), (2, vO a2), (3, vO a3), (4, vI s.1)] []) (fun r : Int × Me => r = fin)) w) : WL Z (Qf) μ 1662 [(0, vO a0), (1, vO a1), (2, vO a2), (3, vO a3), (4, vI x4)] [] := by
  unfold s_L_law_b1662 at h
  refine r_aload_n C 1 dL_law_1662 rfl rfl ?_
  refine r_aload_n C 0 dL_law_1663 rfl rfl ?_
  refine r_iload C 4 dL_law_1664 rfl ?_
  refine r_iconst C dL_law_1666 ?_
  refine r_iadd C dL_law_1667 ?_
  obtain ⟨v339, ev339, h⟩ := bs h
  refine r_xld C G ev339 dL_law_1668 ?_
  refine r_aload_n C 0 dL_law_1669 rfl rfl ?_
  refine r_iload C 4 dL_law_1670 rfl ?_
  refine r_iconst C dL_law_1672 ?_
  refine r_iadd C dL_law_1673 ?_
  obtain ⟨v340, ev340, h⟩ := bs h
  refine r_xld C G ev340 dL_law_1674 ?_
  refine r_aload_n C 3 dL_law_1675 rfl rfl ?_
  rcases xbs h with ⟨e342, eq341, h⟩ | ⟨q341, eq341, h⟩
  · cases h
  · refine r_xSH C (As := [vO a1, vI v339, vI v340, vO a3]) (rest := []) (st1 := [vI q341.1]) (v := some (vI q341.1)) (μ1 := q341.2) (m_X0_told C.tr eq341) (lw_SW q1091 q1092 q119 q1093) hdX0_told rfl rfl (Nat.le_of_ble_eq_true rfl) ⟨by decide, by decide⟩ dL_law_1676 rfl ?_
    refine r_istore C [(5, vI q341.1), (0, vO a0), (1, vO a1), (2, vO a2), (3, vO a3), (4, vI x4)] dL_law_1679 (by decide) rfl ?_
    refine r_aload_n C 3 dL_law_1681 rfl rfl ?_
    refine r_aload_n C 1 dL_law_1682 rfl rfl ?_
    refine r_iload C 5 dL_law_1683 rfl ?_
    refine r_iconst C dL_law_1685 ?_
    refine r_iadd C dL_law_1686 ?_
    obtain ⟨v343, ev343, h⟩ := bs h
    refine r_xld C G ev343 dL_law_1687 ?_
    refine r_aload_n C 1 dL_law_1688 rfl rfl ?_
    refine r_iload C 5 dL_law_1689 rfl ?_
    refine r_iconst C dL_law_1691 ?_
    refine r_iadd C dL_law_1692 ?_
    obtain ⟨v344, ev344, h⟩ := bs h
    refine r_xld C G ev344 dL_law_1693 ?_
    obtain ⟨u346, eu346, h⟩ := bs h
    obtain ⟨q345, eq345, h⟩ := bs h
    refine r_callV C (As := [vI v343, vI v344]) (b := a2) (rest := []) (st1 := [vI q345.1]) (v := some (vI q345.1)) (r := (RX11, TX11, 38)) (ci := 9) rfl eu346 (m_X11_told C.tr eq345) (lw_V q1589 q1590 q1591 q133 q1592) rfl hdX11_told rfl rfl (Nat.le_of_ble_eq_true rfl) ⟨by decide, by decide⟩ dL_law_1694 rfl ?_
    refine r_istore C [(6, vI q345.1), (5, vI q341.1), (0, vO a0), (1, vO a1), (2, vO a2), (3, vO a3), (4, vI x4)] dL_law_1697 (by decide) rfl ?_
    refine r_aload_n C 4 dL_law_1699 rfl rfl ?_
    obtain ⟨u348, eu348, h⟩ := bs h
    obtain ⟨q347, eq347, h⟩ := bs h
    refine r_callV C (As := []) (b := a2) (rest := []) (st1 := [vI q347.1]) (v := some (vI q347.1)) (r := (RX11, TX11, 38)) (ci := 9) rfl eu348 (m_X11_thrown C.tr eq347) (lw_V q1303 q1304 q1305 q133 q1306) rfl hdX11_thrown rfl rfl (Nat.le_of_ble_eq_true rfl) ⟨by decide, by decide⟩ dL_law_1700 rfl ?_
    refine r_iload C 1 dL_law_1703 rfl ?_
    refine r_icmp_eq C dL_law_1705 (tgt := 1710) (by decide) (fun c349 => ?_) (fun c349 => ?_)
    · have h := it_ h c349
      refine r_iload C 1 dL_law_1710 rfl ?_
      refine r_if_ne C dL_law_1712 (tgt := 1727) (by decide) (fun c350 => ?_) (fun c350 => ?_)
      · have h := ie_ h c350
        refine r_goto C dL_law_1727 (tgt := 2832) (by decide) ?_
        refine r_sub [2, 3, 4, 5, 6] rfl ?_
        exact w_L_law_b2832 (fin := fin) C G h1 h hK
      · have h := it_ h c350
        refine r_aload_n C 5 dL_law_1715 rfl rfl ?_
        refine r_iconst C dL_law_1716 ?_
        obtain ⟨v351, ev351, h⟩ := bs h
        refine r_lald C ev351 dL_law_1717 ?_
        refine r_iload C 0 dL_law_1718 rfl ?_
        refine r_i2l C dL_law_1720 ?_
        refine r_lcmp_eq C dL_law_1721 dL_law_1722 (tgt := 1727) (by decide) (fun c352 => ?_) (fun c352 => ?_)
        · have h := it_ h c352
          refine r_goto C dL_law_1727 (tgt := 2832) (by decide) ?_
          refine r_sub [2, 3, 4, 5, 6] rfl ?_
          exact w_L_law_b2832 (fin := fin) C G h1 h hK
        · have h := ie_ h c352
          refine r_iconst C dL_law_1725 ?_
          cases h
          have hK : (0, q347.2) = fin := hK
          subst hK
          exact absurd (show (0 : Int) = 1 from h1) (by decide)
    · have h := ie_ h c349
      refine r_iconst C dL_law_1708 ?_
      cases h
      have hK : (0, q347.2) = fin := hK
      subst hK
      exact absurd (show (0 : Int) = 1 from h1) (by decide)
noncomputable def s_L_law_b1730 (b n : Nat) (xs : Nat → Int32) (a0 : Nat) (a1 : Nat) (a2 : Nat) (a3 : Nat) (x4 : Int)  (μ : Me) : Option ((Int × Me) ⊕ (Int × Me)) :=
  (gX b n xs a0 (x4 + 1)).bind fun v354 =>
  (gX b n xs a0 (x4 + 2)).bind fun v355 =>
  (gX b n xs a0 (x4 + 3)).bind fun v356 =>
  xb (s_X0_quotient a1 v354 v355 v356 a3 μ) (fun e358 => none) fun q357 =>
  (gX b n xs a0 (x4 + 1)).bind fun v359 =>
  (gX b n xs a0 (x4 + 2)).bind fun v360 =>
  (gX b n xs a0 (x4 + 3)).bind fun v361 =>
  (ck q357.2 9 a2).bind fun _ =>
  (s_X11_quotient a2 v359 v360 v361 q357.2).bind fun q362 =>
  (ck q362.2 9 a2).bind fun _ =>
  (s_X11_thrown a2 q362.2).bind fun q364 =>
  (if w32 q364.1 = w32 q357.1 then
  (if w32 q357.1 = 0 then
  (aJ q364.2 103 a3 0).bind fun v368 =>
  (if w64 v368 = w64 (w32 q362.1) then
  s_L_law_b2832 b n xs a0 a1 a2 a3 x4 q364.2
  else
  some (.inr (0, q364.2)))
  else
  s_L_law_b2832 b n xs a0 a1 a2 a3 x4 q364.2)
  else
  some (.inr (0, q364.2)))
theorem w_L_law_b1730 {Z : Zt} {nm : String} {Qf : State → Prop} {b n : Nat} {xs : Nat → Int32} {fin : Int × Me} {w : ((Int × Me) ⊕ (Int × Me))} (C : CX Z ⟨RX0, nm, ""⟩ cL_law (some .boolean) 213 8) (G : LX Z Qf b n xs) (h1 : fin.1 = 1) {a0 : Nat} {a1 : Nat} {a2 : Nat} {a3 : Nat} {x4 : Int}  {μ : Me} (h : s_L_law_b1730 b n xs a0 a1 a2 a3 x4 μ = some w) (hK : (Sum.elim (fun s : Int × Me => WL Z (Qf) s.2 23 [(0, vO a0), (1, vO a1), (2, vO a2), (3, vO a3), (4, vI s.1)] []) (fun r : Int × Me => r = fin)) w) : WL Z (Qf) μ 1730 [(0, vO a0), (1, vO a1), (2, vO a2), (3, vO a3), (4, vI x4)] [] := by
  unfold s_L_law_b1730 at h
  refine r_aload_n C 1 dL_law_1730 rfl rfl ?_
  refine r_aload_n C 0 dL_law_1731 rfl rfl ?_
  refine r_iload C 4 dL_law_1732 rfl ?_
  refine r_iconst C dL_law_1734 ?_
  refine r_iadd C dL_law_1735 ?_
  obtain ⟨v354, ev354, h⟩ := bs h
  refine r_xld C G ev354 dL_law_1736 ?_
  refine r_aload_n C 0 dL_law_1737 rfl rfl ?_
  refine r_iload C 4 dL_law_1738 rfl ?_
  refine r_iconst C dL_law_1740 ?_
  refine r_iadd C dL_law_1741 ?_
  obtain ⟨v355, ev355, h⟩ := bs h
  refine r_xld C G ev355 dL_law_1742 ?_
  refine r_aload_n C 0 dL_law_1743 rfl rfl ?_
  refine r_iload C 4 dL_law_1744 rfl ?_
  refine r_iconst C dL_law_1746 ?_
  refine r_iadd C dL_law_1747 ?_
  obtain ⟨v356, ev356, h⟩ := bs h
  refine r_xld C G ev356 dL_law_1748 ?_
  refine r_aload_n C 3 dL_law_1749 rfl rfl ?_
  rcases xbs h with ⟨e358, eq357, h⟩ | ⟨q357, eq357, h⟩
  · cases h
  · refine r_xSH C (As := [vO a1, vI v354, vI v355, vI v356, vO a3]) (rest := []) (st1 := [vI q357.1]) (v := some (vI q357.1)) (μ1 := q357.2) (m_X0_quotient C.tr eq357) (lw_SW q1099 q1100 q119 q1101) hdX0_quotient rfl rfl (Nat.le_of_ble_eq_true rfl) ⟨by decide, by decide⟩ dL_law_1750 rfl ?_
    refine r_istore C [(5, vI q357.1), (0, vO a0), (1, vO a1), (2, vO a2), (3, vO a3), (4, vI x4)] dL_law_1753 (by decide) rfl ?_
    refine r_aload_n C 3 dL_law_1755 rfl rfl ?_
    refine r_aload_n C 1 dL_law_1756 rfl rfl ?_
    refine r_iload C 5 dL_law_1757 rfl ?_
    refine r_iconst C dL_law_1759 ?_
    refine r_iadd C dL_law_1760 ?_
    obtain ⟨v359, ev359, h⟩ := bs h
    refine r_xld C G ev359 dL_law_1761 ?_
    refine r_aload_n C 1 dL_law_1762 rfl rfl ?_
    refine r_iload C 5 dL_law_1763 rfl ?_
    refine r_iconst C dL_law_1765 ?_
    refine r_iadd C dL_law_1766 ?_
    obtain ⟨v360, ev360, h⟩ := bs h
    refine r_xld C G ev360 dL_law_1767 ?_
    refine r_aload_n C 1 dL_law_1768 rfl rfl ?_
    refine r_iload C 5 dL_law_1769 rfl ?_
    refine r_iconst C dL_law_1771 ?_
    refine r_iadd C dL_law_1772 ?_
    obtain ⟨v361, ev361, h⟩ := bs h
    refine r_xld C G ev361 dL_law_1773 ?_
    obtain ⟨u363, eu363, h⟩ := bs h
    obtain ⟨q362, eq362, h⟩ := bs h
    refine r_callV C (As := [vI v359, vI v360, vI v361]) (b := a2) (rest := []) (st1 := [vI q362.1]) (v := some (vI q362.1)) (r := (RX11, TX11, 38)) (ci := 9) rfl eu363 (m_X11_quotient C.tr eq362) (lw_V q1888 q1889 q1890 q133 q1891) rfl hdX11_quotient rfl rfl (Nat.le_of_ble_eq_true rfl) ⟨by decide, by decide⟩ dL_law_1774 rfl ?_
    refine r_istore C [(6, vI q362.1), (5, vI q357.1), (0, vO a0), (1, vO a1), (2, vO a2), (3, vO a3), (4, vI x4)] dL_law_1777 (by decide) rfl ?_
    refine r_aload_n C 4 dL_law_1779 rfl rfl ?_
    obtain ⟨u365, eu365, h⟩ := bs h
    obtain ⟨q364, eq364, h⟩ := bs h
    refine r_callV C (As := []) (b := a2) (rest := []) (st1 := [vI q364.1]) (v := some (vI q364.1)) (r := (RX11, TX11, 38)) (ci := 9) rfl eu365 (m_X11_thrown C.tr eq364) (lw_V q1303 q1304 q1305 q133 q1306) rfl hdX11_thrown rfl rfl (Nat.le_of_ble_eq_true rfl) ⟨by decide, by decide⟩ dL_law_1780 rfl ?_
    refine r_iload C 1 dL_law_1783 rfl ?_
    refine r_icmp_eq C dL_law_1785 (tgt := 1790) (by decide) (fun c366 => ?_) (fun c366 => ?_)
    · have h := it_ h c366
      refine r_iload C 1 dL_law_1790 rfl ?_
      refine r_if_ne C dL_law_1792 (tgt := 1807) (by decide) (fun c367 => ?_) (fun c367 => ?_)
      · have h := ie_ h c367
        refine r_goto C dL_law_1807 (tgt := 2832) (by decide) ?_
        refine r_sub [2, 3, 4, 5, 6] rfl ?_
        exact w_L_law_b2832 (fin := fin) C G h1 h hK
      · have h := it_ h c367
        refine r_aload_n C 5 dL_law_1795 rfl rfl ?_
        refine r_iconst C dL_law_1796 ?_
        obtain ⟨v368, ev368, h⟩ := bs h
        refine r_lald C ev368 dL_law_1797 ?_
        refine r_iload C 0 dL_law_1798 rfl ?_
        refine r_i2l C dL_law_1800 ?_
        refine r_lcmp_eq C dL_law_1801 dL_law_1802 (tgt := 1807) (by decide) (fun c369 => ?_) (fun c369 => ?_)
        · have h := it_ h c369
          refine r_goto C dL_law_1807 (tgt := 2832) (by decide) ?_
          refine r_sub [2, 3, 4, 5, 6] rfl ?_
          exact w_L_law_b2832 (fin := fin) C G h1 h hK
        · have h := ie_ h c369
          refine r_iconst C dL_law_1805 ?_
          cases h
          have hK : (0, q364.2) = fin := hK
          subst hK
          exact absurd (show (0 : Int) = 1 from h1) (by decide)
    · have h := ie_ h c366
      refine r_iconst C dL_law_1788 ?_
      cases h
      have hK : (0, q364.2) = fin := hK
      subst hK
      exact absurd (show (0 : Int) = 1 from h1) (by decide)
noncomputable def s_L_law_b1810 (b n : Nat) (xs : Nat → Int32) (a0 : Nat) (a1 : Nat) (a2 : Nat) (a3 : Nat) (x4 : Int)  (μ : Me) : Option ((Int × Me) ⊕ (Int × Me)) :=
  (gX b n xs a0 (x4 + 1)).bind fun v371 =>
  xb (s_X0_plain a1 v371 a3 μ) (fun e373 => none) fun q372 =>
  (gX b n xs a0 (x4 + 1)).bind fun v374 =>
  (ck q372.2 9 a2).bind fun _ =>
  (s_X11_plain a2 v374 q372.2).bind fun q375 =>
  (ck q375.2 9 a2).bind fun _ =>
  (s_X11_thrown a2 q375.2).bind fun q377 =>
  (if w32 q377.1 = w32 q372.1 then
  (if w32 q372.1 = 0 then
  (aJ q377.2 103 a3 0).bind fun v381 =>
  (if w32 q375.1 = 0 then
  (if w64 v381 = w64 0 then
  s_L_law_b2832 b n xs a0 a1 a2 a3 x4 q377.2
  else
  some (.inr (0, q377.2)))
  else
  (if w64 v381 = w64 1 then
  s_L_law_b2832 b n xs a0 a1 a2 a3 x4 q377.2
  else
  some (.inr (0, q377.2))))
  else
  s_L_law_b2832 b n xs a0 a1 a2 a3 x4 q377.2)
  else
  some (.inr (0, q377.2)))
theorem w_L_law_b1810 {Z : Zt} {nm : String} {Qf : State → Prop} {b n : Nat} {xs : Nat → Int32} {fin : Int × Me} {w : ((Int × Me) ⊕ (Int × Me))} (C : CX Z ⟨RX0, nm, ""⟩ cL_law (some .boolean) 213 8) (G : LX Z Qf b n xs) (h1 : fin.1 = 1) {a0 : Nat} {a1 : Nat} {a2 : Nat} {a3 : Nat} {x4 : Int}  {μ : Me} (h : s_L_law_b1810 b n xs a0 a1 a2 a3 x4 μ = some w) (hK : (Sum.elim (fun s : Int × Me => WL Z (Qf) s.2 23 [(0, vO a0), (1, vO a1), (2, vO a2), (3, vO a3), (4, vI s.1)] []) (fun r : Int × Me => r = fin)) w) : WL Z (Qf) μ 1810 [(0, vO a0), (1, vO a1), (2, vO a2), (3, vO a3), (4, vI x4)] [] := by
  unfold s_L_law_b1810 at h
  refine r_aload_n C 1 dL_law_1810 rfl rfl ?_
  refine r_aload_n C 0 dL_law_1811 rfl rfl ?_
  refine r_iload C 4 dL_law_1812 rfl ?_
  refine r_iconst C dL_law_1814 ?_
  refine r_iadd C dL_law_1815 ?_
  obtain ⟨v371, ev371, h⟩ := bs h
  refine r_xld C G ev371 dL_law_1816 ?_
  refine r_aload_n C 3 dL_law_1817 rfl rfl ?_
  rcases xbs h with ⟨e373, eq372, h⟩ | ⟨q372, eq372, h⟩
  · cases h
  · refine r_xSH C (As := [vO a1, vI v371, vO a3]) (rest := []) (st1 := [vI q372.1]) (v := some (vI q372.1)) (μ1 := q372.2) (m_X0_plain C.tr eq372) (lw_SW q1110 q1111 q119 q1112) hdX0_plain rfl rfl (Nat.le_of_ble_eq_true rfl) ⟨by decide, by decide⟩ dL_law_1818 rfl ?_
    refine r_istore C [(5, vI q372.1), (0, vO a0), (1, vO a1), (2, vO a2), (3, vO a3), (4, vI x4)] dL_law_1821 (by decide) rfl ?_
    refine r_aload_n C 3 dL_law_1823 rfl rfl ?_
    refine r_aload_n C 1 dL_law_1824 rfl rfl ?_
    refine r_iload C 5 dL_law_1825 rfl ?_
    refine r_iconst C dL_law_1827 ?_
    refine r_iadd C dL_law_1828 ?_
    obtain ⟨v374, ev374, h⟩ := bs h
    refine r_xld C G ev374 dL_law_1829 ?_
    obtain ⟨u376, eu376, h⟩ := bs h
    obtain ⟨q375, eq375, h⟩ := bs h
    refine r_callV C (As := [vI v374]) (b := a2) (rest := []) (st1 := [vI q375.1]) (v := some (vI q375.1)) (r := (RX11, TX11, 38)) (ci := 9) rfl eu376 (m_X11_plain C.tr eq375) (lw_V q1896 q1897 q1898 q133 q1899) rfl hdX11_plain rfl rfl (Nat.le_of_ble_eq_true rfl) ⟨by decide, by decide⟩ dL_law_1830 rfl ?_
    refine r_istore C [(6, vI q375.1), (5, vI q372.1), (0, vO a0), (1, vO a1), (2, vO a2), (3, vO a3), (4, vI x4)] dL_law_1833 (by decide) rfl ?_
    refine r_aload_n C 4 dL_law_1835 rfl rfl ?_
    obtain ⟨u378, eu378, h⟩ := bs h
    obtain ⟨q377, eq377, h⟩ := bs h
    refine r_callV C (As := []) (b := a2) (rest := []) (st1 := [vI q377.1]) (v := some (vI q377.1)) (r := (RX11, TX11, 38)) (ci := 9) rfl eu378 (m_X11_thrown C.tr eq377) (lw_V q1303 q1304 q1305 q133 q1306) rfl hdX11_thrown rfl rfl (Nat.le_of_ble_eq_true rfl) ⟨by decide, by decide⟩ dL_law_1836 rfl ?_
    refine r_iload C 1 dL_law_1839 rfl ?_
    refine r_icmp_eq C dL_law_1841 (tgt := 1846) (by decide) (fun c379 => ?_) (fun c379 => ?_)
    · have h := it_ h c379
      refine r_iload C 1 dL_law_1846 rfl ?_
      refine r_if_ne C dL_law_1848 (tgt := 1870) (by decide) (fun c380 => ?_) (fun c380 => ?_)
      · have h := ie_ h c380
        refine r_goto C dL_law_1870 (tgt := 2832) (by decide) ?_
        refine r_sub [2, 3, 4, 5, 6] rfl ?_
        exact w_L_law_b2832 (fin := fin) C G h1 h hK
      · have h := it_ h c380
        refine r_aload_n C 5 dL_law_1851 rfl rfl ?_
        refine r_iconst C dL_law_1852 ?_
        obtain ⟨v381, ev381, h⟩ := bs h
        refine r_lald C ev381 dL_law_1853 ?_
        refine r_iload C 0 dL_law_1854 rfl ?_
        refine r_if_eq C dL_law_1856 (tgt := 1863) (by decide) (fun c382 => ?_) (fun c382 => ?_)
        · have h := it_ h c382
          refine r_lconst (v := 0) C dL_law_1863 (by decide) ?_
          refine r_lcmp_eq C dL_law_1864 dL_law_1865 (tgt := 1870) (by decide) (fun c383 => ?_) (fun c383 => ?_)
          · have h := it_ h c383
            refine r_goto C dL_law_1870 (tgt := 2832) (by decide) ?_
            refine r_sub [2, 3, 4, 5, 6] rfl ?_
            exact w_L_law_b2832 (fin := fin) C G h1 h hK
          · have h := ie_ h c383
            refine r_iconst C dL_law_1868 ?_
            cases h
            have hK : (0, q377.2) = fin := hK
            subst hK
            exact absurd (show (0 : Int) = 1 from h1) (by decide)
        · have h := ie_ h c382
          refine r_lconst (v := 1) C dL_law_1859 (by decide) ?_
          refine r_goto C dL_law_1860 (tgt := 1864) (by decide) ?_
          refine r_lcmp_eq C dL_law_1864 dL_law_1865 (tgt := 1870) (by decide) (fun c384 => ?_) (fun c384 => ?_)
          · have h := it_ h c384
            refine r_goto C dL_law_1870 (tgt := 2832) (by decide) ?_
            refine r_sub [2, 3, 4, 5, 6] rfl ?_
            exact w_L_law_b2832 (fin := fin) C G h1 h hK
          · have h := ie_ h c384
            refine r_iconst C dL_law_1868 ?_
            cases h
            have hK : (0, q377.2) = fin := hK
            subst hK
            exact absurd (show (0 : Int) = 1 from h1) (by decide)
    · have h := ie_ h c379
      refine r_iconst C dL_law_1844 ?_
      cases h
      have hK : (0, q377.2) = fin := hK
      subst hK
      exact absurd (show (0 : Int) = 1 from h1) (by decide)
noncomputable def s_L_law_b1873 (b n : Nat) (xs : Nat → Int32) (a0 : Nat) (a1 : Nat) (a2 : Nat) (a3 : Nat) (x4 : Int)  (μ : Me) : Option ((Int × Me) ⊕ (Int × Me)) :=
  (gX b n xs a0 (x4 + 1)).bind fun v386 =>
  (gX b n xs a0 (x4 + 2)).bind fun v387 =>
  xb (s_X0_root a1 v386 v387 a3 μ) (fun e389 => none) fun q388 =>
  (gX b n xs a0 (x4 + 1)).bind fun v390 =>
  (gX b n xs a0 (x4 + 2)).bind fun v391 =>
  (ck q388.2 9 a2).bind fun _ =>
  (s_X11_root a2 v390 v391 q388.2).bind fun q392 =>
  (ck q392.2 9 a2).bind fun _ =>
  (s_X11_thrown a2 q392.2).bind fun q394 =>
  (if w32 q394.1 = w32 q388.1 then
  (if w32 q388.1 = 0 then
  (aJ q394.2 103 a3 0).bind fun v398 =>
  (if w64 v398 = w64 (w32 q392.1) then
  s_L_law_b2832 b n xs a0 a1 a2 a3 x4 q394.2
  else
  some (.inr (0, q394.2)))
  else
  s_L_law_b2832 b n xs a0 a1 a2 a3 x4 q394.2)
  else
  some (.inr (0, q394.2)))
theorem w_L_law_b1873 {Z : Zt} {nm : String} {Qf : State → Prop} {b n : Nat} {xs : Nat → Int32} {fin : Int × Me} {w : ((Int × Me) ⊕ (Int × Me))} (C : CX Z ⟨RX0, nm, ""⟩ cL_law (some .boolean) 213 8) (G : LX Z Qf b n xs) (h1 : fin.1 = 1) {a0 : Nat} {a1 : Nat} {a2 : Nat} {a3 : Nat} {x4 : Int}  {μ : Me} (h : s_L_law_b1873 b n xs a0 a1 a2 a3 x4 μ = some w) (hK : (Sum.elim (fun s : Int × Me => WL Z (Qf) s.2 23 [(0, vO a0), (1, vO a1), (2, vO a2), (3, vO a3), (4, vI s.1)] []) (fun r : Int × Me => r = fin)) w) : WL Z (Qf) μ 1873 [(0, vO a0), (1, vO a1), (2, vO a2), (3, vO a3), (4, vI x4)] [] := by
  unfold s_L_law_b1873 at h
  refine r_aload_n C 1 dL_law_1873 rfl rfl ?_
  refine r_aload_n C 0 dL_law_1874 rfl rfl ?_
  refine r_iload C 4 dL_law_1875 rfl ?_
  refine r_iconst C dL_law_1877 ?_
  refine r_iadd C dL_law_1878 ?_
  obtain ⟨v386, ev386, h⟩ := bs h
  refine r_xld C G ev386 dL_law_1879 ?_
  refine r_aload_n C 0 dL_law_1880 rfl rfl ?_
  refine r_iload C 4 dL_law_1881 rfl ?_
  refine r_iconst C dL_law_1883 ?_
  refine r_iadd C dL_law_1884 ?_
  obtain ⟨v387, ev387, h⟩ := bs h
  refine r_xld C G ev387 dL_law_1885 ?_
  refine r_aload_n C 3 dL_law_1886 rfl rfl ?_
  rcases xbs h with ⟨e389, eq388, h⟩ | ⟨q388, eq388, h⟩
  · cases h
  · refine r_xSH C (As := [vO a1, vI v386, vI v387, vO a3]) (rest := []) (st1 := [vI q388.1]) (v := some (vI q388.1)) (μ1 := q388.2) (m_X0_root C.tr eq388) (lw_SW q1127 q1128 q119 q1129) hdX0_root rfl rfl (Nat.le_of_ble_eq_true rfl) ⟨by decide, by decide⟩ dL_law_1887 rfl ?_
    refine r_istore C [(5, vI q388.1), (0, vO a0), (1, vO a1), (2, vO a2), (3, vO a3), (4, vI x4)] dL_law_1890 (by decide) rfl ?_
    refine r_aload_n C 3 dL_law_1892 rfl rfl ?_
    refine r_aload_n C 1 dL_law_1893 rfl rfl ?_
    refine r_iload C 5 dL_law_1894 rfl ?_
    refine r_iconst C dL_law_1896 ?_
    refine r_iadd C dL_law_1897 ?_
    obtain ⟨v390, ev390, h⟩ := bs h
    refine r_xld C G ev390 dL_law_1898 ?_
    refine r_aload_n C 1 dL_law_1899 rfl rfl ?_
    refine r_iload C 5 dL_law_1900 rfl ?_
    refine r_iconst C dL_law_1902 ?_
    refine r_iadd C dL_law_1903 ?_
    obtain ⟨v391, ev391, h⟩ := bs h
    refine r_xld C G ev391 dL_law_1904 ?_
    obtain ⟨u393, eu393, h⟩ := bs h
    obtain ⟨q392, eq392, h⟩ := bs h
    refine r_callV C (As := [vI v390, vI v391]) (b := a2) (rest := []) (st1 := [vI q392.1]) (v := some (vI q392.1)) (r := (RX11, TX11, 38)) (ci := 9) rfl eu393 (m_X11_root C.tr eq392) (lw_V q1779 q1780 q1781 q133 q1782) rfl hdX11_root rfl rfl (Nat.le_of_ble_eq_true rfl) ⟨by decide, by decide⟩ dL_law_1905 rfl ?_
    refine r_istore C [(6, vI q392.1), (5, vI q388.1), (0, vO a0), (1, vO a1), (2, vO a2), (3, vO a3), (4, vI x4)] dL_law_1908 (by decide) rfl ?_
    refine r_aload_n C 4 dL_law_1910 rfl rfl ?_
    obtain ⟨u395, eu395, h⟩ := bs h
    obtain ⟨q394, eq394, h⟩ := bs h
    refine r_callV C (As := []) (b := a2) (rest := []) (st1 := [vI q394.1]) (v := some (vI q394.1)) (r := (RX11, TX11, 38)) (ci := 9) rfl eu395 (m_X11_thrown C.tr eq394) (lw_V q1303 q1304 q1305 q133 q1306) rfl hdX11_thrown rfl rfl (Nat.le_of_ble_eq_true rfl) ⟨by decide, by decide⟩ dL_law_1911 rfl ?_
    refine r_iload C 1 dL_law_1914 rfl ?_
    refine r_icmp_eq C dL_law_1916 (tgt := 1921) (by decide) (fun c396 => ?_) (fun c396 => ?_)
    · have h := it_ h c396
      refine r_iload C 1 dL_law_1921 rfl ?_
      refine r_if_ne C dL_law_1923 (tgt := 1938) (by decide) (fun c397 => ?_) (fun c397 => ?_)
      · have h := ie_ h c397
        refine r_goto C dL_law_1938 (tgt := 2832) (by decide) ?_
        refine r_sub [2, 3, 4, 5, 6] rfl ?_
        exact w_L_law_b2832 (fin := fin) C G h1 h hK
      · have h := it_ h c397
        refine r_aload_n C 5 dL_law_1926 rfl rfl ?_
        refine r_iconst C dL_law_1927 ?_
        obtain ⟨v398, ev398, h⟩ := bs h
        refine r_lald C ev398 dL_law_1928 ?_
        refine r_iload C 0 dL_law_1929 rfl ?_
        refine r_i2l C dL_law_1931 ?_
        refine r_lcmp_eq C dL_law_1932 dL_law_1933 (tgt := 1938) (by decide) (fun c399 => ?_) (fun c399 => ?_)
        · have h := it_ h c399
          refine r_goto C dL_law_1938 (tgt := 2832) (by decide) ?_
          refine r_sub [2, 3, 4, 5, 6] rfl ?_
          exact w_L_law_b2832 (fin := fin) C G h1 h hK
        · have h := ie_ h c399
          refine r_iconst C dL_law_1936 ?_
          cases h
          have hK : (0, q394.2) = fin := hK
          subst hK
          exact absurd (show (0 : Int) = 1 from h1) (by decide)
    · have h := ie_ h c396
      refine r_iconst C dL_law_1919 ?_
      cases h
      have hK : (0, q394.2) = fin := hK
      subst hK
      exact absurd (show (0 : Int) = 1 from h1) (by decide)
noncomputable def s_L_law_b1941 (b n : Nat) (xs : Nat → Int32) (a0 : Nat) (a1 : Nat) (a2 : Nat) (a3 : Nat) (x4 : Int)  (μ : Me) : Option ((Int × Me) ⊕ (Int × Me)) :=
  (gX b n xs a0 (x4 + 1)).bind fun v401 =>
  xb (s_X0_roots a1 v401 a3 μ) (fun e403 => none) fun q402 =>
  (gX b n xs a0 (x4 + 1)).bind fun v404 =>
  (ck q402.2 9 a2).bind fun _ =>
  (s_X11_roots a2 v404 q402.2).bind fun q405 =>
  (ck q405.2 9 a2).bind fun _ =>
  (s_X11_thrown a2 q405.2).bind fun q407 =>
  (if w32 q407.1 = w32 q402.1 then
  (if w32 q402.1 = 0 then
  (aJ q407.2 103 a3 0).bind fun v411 =>
  (if w64 v411 = w64 (w32 q405.1) then
  s_L_law_b2832 b n xs a0 a1 a2 a3 x4 q407.2
  else
  some (.inr (0, q407.2)))
  else
  s_L_law_b2832 b n xs a0 a1 a2 a3 x4 q407.2)
  else
  some (.inr (0, q407.2)))
theorem w_L_law_b1941 {Z : Zt} {nm : String} {Qf : State → Prop} {b n : Nat} {xs : Nat → Int32} {fin : Int × Me} {w : ((Int × Me) ⊕ (Int × Me))} (C : CX Z ⟨RX0, nm, ""⟩ cL_law (some .boolean) 213 8) (G : LX Z Qf b n xs) (h1 : fin.1 = 1) {a0 : Nat} {a1 : Nat} {a2 : Nat} {a3 : Nat} {x4 : Int}  {μ : Me} (h : s_L_law_b1941 b n xs a0 a1 a2 a3 x4 μ = some w) (hK : (Sum.elim (fun s : Int × Me => WL Z (Qf) s.2 23 [(0, vO a0), (1, vO a1), (2, vO a2), (3, vO a3), (4, vI s.1)] []) (fun r : Int × Me => r = fin)) w) : WL Z (Qf) μ 1941 [(0, vO a0), (1, vO a1), (2, vO a2), (3, vO a3), (4, vI x4)] [] := by
  unfold s_L_law_b1941 at h
  refine r_aload_n C 1 dL_law_1941 rfl rfl ?_
  refine r_aload_n C 0 dL_law_1942 rfl rfl ?_
  refine r_iload C 4 dL_law_1943 rfl ?_
  refine r_iconst C dL_law_1945 ?_
  refine r_iadd C dL_law_1946 ?_
  obtain ⟨v401, ev401, h⟩ := bs h
  refine r_xld C G ev401 dL_law_1947 ?_
  refine r_aload_n C 3 dL_law_1948 rfl rfl ?_
  rcases xbs h with ⟨e403, eq402, h⟩ | ⟨q402, eq402, h⟩
  · cases h
  · refine r_xSH C (As := [vO a1, vI v401, vO a3]) (rest := []) (st1 := [vI q402.1]) (v := some (vI q402.1)) (μ1 := q402.2) (m_X0_roots C.tr eq402) (lw_SW q1143 q1144 q119 q1145) hdX0_roots rfl rfl (Nat.le_of_ble_eq_true rfl) ⟨by decide, by decide⟩ dL_law_1949 rfl ?_
    refine r_istore C [(5, vI q402.1), (0, vO a0), (1, vO a1), (2, vO a2), (3, vO a3), (4, vI x4)] dL_law_1952 (by decide) rfl ?_
    refine r_aload_n C 3 dL_law_1954 rfl rfl ?_
    refine r_aload_n C 1 dL_law_1955 rfl rfl ?_
    refine r_iload C 5 dL_law_1956 rfl ?_
    refine r_iconst C dL_law_1958 ?_
    refine r_iadd C dL_law_1959 ?_
    obtain ⟨v404, ev404, h⟩ := bs h
    refine r_xld C G ev404 dL_law_1960 ?_
    obtain ⟨u406, eu406, h⟩ := bs h
    obtain ⟨q405, eq405, h⟩ := bs h
    refine r_callV C (As := [vI v404]) (b := a2) (rest := []) (st1 := [vI q405.1]) (v := some (vI q405.1)) (r := (RX11, TX11, 38)) (ci := 9) rfl eu406 (m_X11_roots C.tr eq405) (lw_V q1795 q1796 q1797 q133 q1798) rfl hdX11_roots rfl rfl (Nat.le_of_ble_eq_true rfl) ⟨by decide, by decide⟩ dL_law_1961 rfl ?_
    refine r_istore C [(6, vI q405.1), (5, vI q402.1), (0, vO a0), (1, vO a1), (2, vO a2), (3, vO a3), (4, vI x4)] dL_law_1964 (by decide) rfl ?_
    refine r_aload_n C 4 dL_law_1966 rfl rfl ?_
    obtain ⟨u408, eu408, h⟩ := bs h
    obtain ⟨q407, eq407, h⟩ := bs h
    refine r_callV C (As := []) (b := a2) (rest := []) (st1 := [vI q407.1]) (v := some (vI q407.1)) (r := (RX11, TX11, 38)) (ci := 9) rfl eu408 (m_X11_thrown C.tr eq407) (lw_V q1303 q1304 q1305 q133 q1306) rfl hdX11_thrown rfl rfl (Nat.le_of_ble_eq_true rfl) ⟨by decide, by decide⟩ dL_law_1967 rfl ?_
    refine r_iload C 1 dL_law_1970 rfl ?_
    refine r_icmp_eq C dL_law_1972 (tgt := 1977) (by decide) (fun c409 => ?_) (fun c409 => ?_)
    · have h := it_ h c409
      refine r_iload C 1 dL_law_1977 rfl ?_
      refine r_if_ne C dL_law_1979 (tgt := 1994) (by decide) (fun c410 => ?_) (fun c410 => ?_)
      · have h := ie_ h c410
        refine r_goto C dL_law_1994 (tgt := 2832) (by decide) ?_
        refine r_sub [2, 3, 4, 5, 6] rfl ?_
        exact w_L_law_b2832 (fin := fin) C G h1 h hK
      · have h := it_ h c410
        refine r_aload_n C 5 dL_law_1982 rfl rfl ?_
        refine r_iconst C dL_law_1983 ?_
        obtain ⟨v411, ev411, h⟩ := bs h
        refine r_lald C ev411 dL_law_1984 ?_
        refine r_iload C 0 dL_law_1985 rfl ?_
        refine r_i2l C dL_law_1987 ?_
        refine r_lcmp_eq C dL_law_1988 dL_law_1989 (tgt := 1994) (by decide) (fun c412 => ?_) (fun c412 => ?_)
        · have h := it_ h c412
          refine r_goto C dL_law_1994 (tgt := 2832) (by decide) ?_
          refine r_sub [2, 3, 4, 5, 6] rfl ?_
          exact w_L_law_b2832 (fin := fin) C G h1 h hK
        · have h := ie_ h c412
          refine r_iconst C dL_law_1992 ?_
          cases h
          have hK : (0, q407.2) = fin := hK
          subst hK
          exact absurd (show (0 : Int) = 1 from h1) (by decide)
    · have h := ie_ h c409
      refine r_iconst C dL_law_1975 ?_
      cases h
      have hK : (0, q407.2) = fin := hK
      subst hK
      exact absurd (show (0 : Int) = 1 from h1) (by decide)
noncomputable def s_L_law_b1997 (b n : Nat) (xs : Nat → Int32) (a0 : Nat) (a1 : Nat) (a2 : Nat) (a3 : Nat) (x4 : Int)  (μ : Me) : Option ((Int × Me) ⊕ (Int × Me)) :=
  (gX b n xs a0 (x4 + 1)).bind fun v414 =>
  xb (s_X0_empty a1 v414 a3 μ) (fun e416 => none) fun q415 =>
  (gX b n xs a0 (x4 + 1)).bind fun v417 =>
  (ck q415.2 9 a2).bind fun _ =>
  (s_X11_empty a2 v417 q415.2).bind fun q418 =>
  (ck q418.2 9 a2).bind fun _ =>
  (s_X11_thrown a2 q418.2).bind fun q420 =>
  (if w32 q420.1 = w32 q415.1 then
  (if w32 q415.1 = 0 then
  (aJ q420.2 103 a3 0).bind fun v424 =>
  (if w32 q418.1 = 0 then
  (if w64 v424 = w64 0 then
  s_L_law_b2832 b n xs a0 a1 a2 a3 x4 q420.2
  else
  some (.inr (0, q420.2)))
  else
  (if w64 v424 = w64 1 then
  s_L_law_b2832 b n xs a0 a1 a2 a3 x4 q420.2
  else
  some (.inr (0, q420.2))))
  else
  s_L_law_b2832 b n xs a0 a1 a2 a3 x4 q420.2)
  else
  some (.inr (0, q420.2)))
theorem w_L_law_b1997 {Z : Zt} {nm : String} {Qf : State → Prop} {b n : Nat} {xs : Nat → Int32} {fin : Int × Me} {w : ((Int × Me) ⊕ (Int × Me))} (C : CX Z ⟨RX0, nm, ""⟩ cL_law (some .boolean) 213 8) (G : LX Z Qf b n xs) (h1 : fin.1 = 1) {a0 : Nat} {a1 : Nat} {a2 : Nat} {a3 : Nat} {x4 : Int}  {μ : Me} (h : s_L_law_b1997 b n xs a0 a1 a2 a3 x4 μ = some w) (hK : (Sum.elim (fun s : Int × Me => WL Z (Qf) s.2 23 [(0, vO a0), (1, vO a1), (2, vO a2), (3, vO a3), (4, vI s.1)] []) (fun r : Int × Me => r = fin)) w) : WL Z (Qf) μ 1997 [(0, vO a0), (1, vO a1), (2, vO a2), (3, vO a3), (4, vI x4)] [] := by
  unfold s_L_law_b1997 at h
  refine r_aload_n C 1 dL_law_1997 rfl rfl ?_
  refine r_aload_n C 0 dL_law_1998 rfl rfl ?_
  refine r_iload C 4 dL_law_1999 rfl ?_
  refine r_iconst C dL_law_2001 ?_
  refine r_iadd C dL_law_2002 ?_
  obtain ⟨v414, ev414, h⟩ := bs h
  refine r_xld C G ev414 dL_law_2003 ?_
  refine r_aload_n C 3 dL_law_2004 rfl rfl ?_
  rcases xbs h with ⟨e416, eq415, h⟩ | ⟨q415, eq415, h⟩
  · cases h
  · refine r_xSH C (As := [vO a1, vI v414, vO a3]) (rest := []) (st1 := [vI q415.1]) (v := some (vI q415.1)) (μ1 := q415.2) (m_X0_empty C.tr eq415) (lw_SW q1150 q1151 q119 q1152) hdX0_empty rfl rfl (Nat.le_of_ble_eq_true rfl) ⟨by decide, by decide⟩ dL_law_2005 rfl ?_
    refine r_istore C [(5, vI q415.1), (0, vO a0), (1, vO a1), (2, vO a2), (3, vO a3), (4, vI x4)] dL_law_2008 (by decide) rfl ?_
    refine r_aload_n C 3 dL_law_2010 rfl rfl ?_
    refine r_aload_n C 1 dL_law_2011 rfl rfl ?_
    refine r_iload C 5 dL_law_2012 rfl ?_
    refine r_iconst C dL_law_2014 ?_
    refine r_iadd C dL_law_2015 ?_
    obtain ⟨v417, ev417, h⟩ := bs h
    refine r_xld C G ev417 dL_law_2016 ?_
    obtain ⟨u419, eu419, h⟩ := bs h
    obtain ⟨q418, eq418, h⟩ := bs h
    refine r_callV C (As := [vI v417]) (b := a2) (rest := []) (st1 := [vI q418.1]) (v := some (vI q418.1)) (r := (RX11, TX11, 38)) (ci := 9) rfl eu419 (m_X11_empty C.tr eq418) (lw_V q1799 q1800 q1801 q133 q1802) rfl hdX11_empty rfl rfl (Nat.le_of_ble_eq_true rfl) ⟨by decide, by decide⟩ dL_law_2017 rfl ?_
    refine r_istore C [(6, vI q418.1), (5, vI q415.1), (0, vO a0), (1, vO a1), (2, vO a2), (3, vO a3), (4, vI x4)] dL_law_2020 (by decide) rfl ?_
    refine r_aload_n C 4 dL_law_2022 rfl rfl ?_
    obtain ⟨u421, eu421, h⟩ := bs h
    obtain ⟨q420, eq420, h⟩ := bs h
    refine r_callV C (As := []) (b := a2) (rest := []) (st1 := [vI q420.1]) (v := some (vI q420.1)) (r := (RX11, TX11, 38)) (ci := 9) rfl eu421 (m_X11_thrown C.tr eq420) (lw_V q1303 q1304 q1305 q133 q1306) rfl hdX11_thrown rfl rfl (Nat.le_of_ble_eq_true rfl) ⟨by decide, by decide⟩ dL_law_2023 rfl ?_
    refine r_iload C 1 dL_law_2026 rfl ?_
    refine r_icmp_eq C dL_law_2028 (tgt := 2033) (by decide) (fun c422 => ?_) (fun c422 => ?_)
    · have h := it_ h c422
      refine r_iload C 1 dL_law_2033 rfl ?_
      refine r_if_ne C dL_law_2035 (tgt := 2057) (by decide) (fun c423 => ?_) (fun c423 => ?_)
      · have h := ie_ h c423
        refine r_goto C dL_law_2057 (tgt := 2832) (by decide) ?_
        refine r_sub [2, 3, 4, 5, 6] rfl ?_
        exact w_L_law_b2832 (fin := fin) C G h1 h hK
      · have h := it_ h c423
        refine r_aload_n C 5 dL_law_2038 rfl rfl ?_
        refine r_iconst C dL_law_2039 ?_
        obtain ⟨v424, ev424, h⟩ := bs h
        refine r_lald C ev424 dL_law_2040 ?_
        refine r_iload C 0 dL_law_2041 rfl ?_
        refine r_if_eq C dL_law_2043 (tgt := 2050) (by decide) (fun c425 => ?_) (fun c425 => ?_)
        · have h := it_ h c425
          refine r_lconst (v := 0) C dL_law_2050 (by decide) ?_
          refine r_lcmp_eq C dL_law_2051 dL_law_2052 (tgt := 2057) (by decide) (fun c426 => ?_) (fun c426 => ?_)
          · have h := it_ h c426
            refine r_goto C dL_law_2057 (tgt := 2832) (by decide) ?_
            refine r_sub [2, 3, 4, 5, 6] rfl ?_
            exact w_L_law_b2832 (fin := fin) C G h1 h hK
          · have h := ie_ h c426
            refine r_iconst C dL_law_2055 ?_
            cases h
            have hK : (0, q420.2) = fin := hK
            subst hK
            exact absurd (show (0 : Int) = 1 from h1) (by decide)
        · have h := ie_ h c425
          refine r_lconst (v := 1) C dL_law_2046 (by decide) ?_
          refine r_goto C dL_law_2047 (tgt := 2051) (by decide) ?_
          refine r_lcmp_eq C dL_law_2051 dL_law_2052 (tgt := 2057) (by decide) (fun c427 => ?_) (fun c427 => ?_)
          · have h := it_ h c427
            refine r_goto C dL_law_2057 (tgt := 2832) (by decide) ?_
            refine r_sub [2, 3, 4, 5, 6] rfl ?_
            exact w_L_law_b2832 (fin := fin) C G h1 h hK
          · have h := ie_ h c427
            refine r_iconst C dL_law_2055 ?_
            cases h
            have hK : (0, q420.2) = fin := hK
            subst hK
            exact absurd (show (0 : Int) = 1 from h1) (by decide)
    · have h := ie_ h c422
      refine r_iconst C dL_law_2031 ?_
      cases h
      have hK : (0, q420.2) = fin := hK
      subst hK
      exact absurd (show (0 : Int) = 1 from h1) (by decide)
noncomputable def s_L_law_b2060 (b n : Nat) (xs : Nat → Int32) (a0 : Nat) (a1 : Nat) (a2 : Nat) (a3 : Nat) (x4 : Int)  (μ : Me) : Option ((Int × Me) ⊕ (Int × Me)) :=
  (gX b n xs a0 (x4 + 1)).bind fun v429 =>
  (gX b n xs a0 (x4 + 2)).bind fun v430 =>
  xb (s_X0_same a1 v429 v430 a3 μ) (fun e432 => none) fun q431 =>
  (gX b n xs a0 (x4 + 1)).bind fun v433 =>
  (gX b n xs a0 (x4 + 2)).bind fun v434 =>
  (ck q431.2 9 a2).bind fun _ =>
  (s_X11_same a2 v433 v434 q431.2).bind fun q435 =>
  (ck q435.2 9 a2).bind fun _ =>
  (s_X11_thrown a2 q435.2).bind fun q437 =>
  (if w32 q437.1 = w32 q431.1 then
  (if w32 q431.1 = 0 then
  (aJ q437.2 103 a3 0).bind fun v441 =>
  (if w64 v441 = w64 (w32 q435.1) then
  s_L_law_b2832 b n xs a0 a1 a2 a3 x4 q437.2
  else
  some (.inr (0, q437.2)))
  else
  s_L_law_b2832 b n xs a0 a1 a2 a3 x4 q437.2)
  else
  some (.inr (0, q437.2)))
theorem w_L_law_b2060 {Z : Zt} {nm : String} {Qf : State → Prop} {b n : Nat} {xs : Nat → Int32} {fin : Int × Me} {w : ((Int × Me) ⊕ (Int × Me))} (C : CX Z ⟨RX0, nm, ""⟩ cL_law (some .boolean) 213 8) (G : LX Z Qf b n xs) (h1 : fin.1 = 1) {a0 : Nat} {a1 : Nat} {a2 : Nat} {a3 : Nat} {x4 : Int}  {μ : Me} (h : s_L_law_b2060 b n xs a0 a1 a2 a3 x4 μ = some w) (hK : (Sum.elim (fun s : Int × Me => WL Z (Qf) s.2 23 [(0, vO a0), (1, vO a1), (2, vO a2), (3, vO a3), (4, vI s.1)] []) (fun r : Int × Me => r = fin)) w) : WL Z (Qf) μ 2060 [(0, vO a0), (1, vO a1), (2, vO a2), (3, vO a3), (4, vI x4)] [] := by
  unfold s_L_law_b2060 at h
  refine r_aload_n C 1 dL_law_2060 rfl rfl ?_
  refine r_aload_n C 0 dL_law_2061 rfl rfl ?_
  refine r_iload C 4 dL_law_2062 rfl ?_
  refine r_iconst C dL_law_2064 ?_
  refine r_iadd C dL_law_2065 ?_
  obtain ⟨v429, ev429, h⟩ := bs h
  refine r_xld C G ev429 dL_law_2066 ?_
  refine r_aload_n C 0 dL_law_2067 rfl rfl ?_
  refine r_iload C 4 dL_law_2068 rfl ?_
  refine r_iconst C dL_law_2070 ?_
  refine r_iadd C dL_law_2071 ?_
  obtain ⟨v430, ev430, h⟩ := bs h
  refine r_xld C G ev430 dL_law_2072 ?_
  refine r_aload_n C 3 dL_law_2073 rfl rfl ?_
  rcases xbs h with ⟨e432, eq431, h⟩ | ⟨q431, eq431, h⟩
  · cases h
  · refine r_xSH C (As := [vO a1, vI v429, vI v430, vO a3]) (rest := []) (st1 := [vI q431.1]) (v := some (vI q431.1)) (μ1 := q431.2) (m_X0_same C.tr eq431) (lw_SW q1157 q1158 q119 q1159) hdX0_same rfl rfl (Nat.le_of_ble_eq_true rfl) ⟨by decide, by decide⟩ dL_law_2074 rfl ?_
    refine r_istore C [(5, vI q431.1), (0, vO a0), (1, vO a1), (2, vO a2), (3, vO a3), (4, vI x4)] dL_law_2077 (by decide) rfl ?_
    refine r_aload_n C 3 dL_law_2079 rfl rfl ?_
    refine r_aload_n C 1 dL_law_2080 rfl rfl ?_
    refine r_iload C 5 dL_law_2081 rfl ?_
    refine r_iconst C dL_law_2083 ?_
    refine r_iadd C dL_law_2084 ?_
    obtain ⟨v433, ev433, h⟩ := bs h
    refine r_xld C G ev433 dL_law_2085 ?_
    refine r_aload_n C 1 dL_law_2086 rfl rfl ?_
    refine r_iload C 5 dL_law_2087 rfl ?_
    refine r_iconst C dL_law_2089 ?_
    refine r_iadd C dL_law_2090 ?_
    obtain ⟨v434, ev434, h⟩ := bs h
    refine r_xld C G ev434 dL_law_2091 ?_
    obtain ⟨u436, eu436, h⟩ := bs h
    obtain ⟨q435, eq435, h⟩ := bs h
    refine r_callV C (As := [vI v433, vI v434]) (b := a2) (rest := []) (st1 := [vI q435.1]) (v := some (vI q435.1)) (r := (RX11, TX11, 38)) (ci := 9) rfl eu436 (m_X11_same C.tr eq435) (lw_V q1803 q1804 q1805 q133 q1806) rfl hdX11_same rfl rfl (Nat.le_of_ble_eq_true rfl) ⟨by decide, by decide⟩ dL_law_2092 rfl ?_
    refine r_istore C [(6, vI q435.1), (5, vI q431.1), (0, vO a0), (1, vO a1), (2, vO a2), (3, vO a3), (4, vI x4)] dL_law_2095 (by decide) rfl ?_
    refine r_aload_n C 4 dL_law_2097 rfl rfl ?_
    obtain ⟨u438, eu438, h⟩ := bs h
    obtain ⟨q437, eq437, h⟩ := bs h
    refine r_callV C (As := []) (b := a2) (rest := []) (st1 := [vI q437.1]) (v := some (vI q437.1)) (r := (RX11, TX11, 38)) (ci := 9) rfl eu438 (m_X11_thrown C.tr eq437) (lw_V q1303 q1304 q1305 q133 q1306) rfl hdX11_thrown rfl rfl (Nat.le_of_ble_eq_true rfl) ⟨by decide, by decide⟩ dL_law_2098 rfl ?_
    refine r_iload C 1 dL_law_2101 rfl ?_
    refine r_icmp_eq C dL_law_2103 (tgt := 2108) (by decide) (fun c439 => ?_) (fun c439 => ?_)
    · have h := it_ h c439
      refine r_iload C 1 dL_law_2108 rfl ?_
      refine r_if_ne C dL_law_2110 (tgt := 2125) (by decide) (fun c440 => ?_) (fun c440 => ?_)
      · have h := ie_ h c440
        refine r_goto C dL_law_2125 (tgt := 2832) (by decide) ?_
        refine r_sub [2, 3, 4, 5, 6] rfl ?_
        exact w_L_law_b2832 (fin := fin) C G h1 h hK
      · have h := it_ h c440
        refine r_aload_n C 5 dL_law_2113 rfl rfl ?_
        refine r_iconst C dL_law_2114 ?_
        obtain ⟨v441, ev441, h⟩ := bs h
        refine r_lald C ev441 dL_law_2115 ?_
        refine r_iload C 0 dL_law_2116 rfl ?_
        refine r_i2l C dL_law_2118 ?_
        refine r_lcmp_eq C dL_law_2119 dL_law_2120 (tgt := 2125) (by decide) (fun c442 => ?_) (fun c442 => ?_)
        · have h := it_ h c442
          refine r_goto C dL_law_2125 (tgt := 2832) (by decide) ?_
          refine r_sub [2, 3, 4, 5, 6] rfl ?_
          exact w_L_law_b2832 (fin := fin) C G h1 h hK
        · have h := ie_ h c442
          refine r_iconst C dL_law_2123 ?_
          cases h
          have hK : (0, q437.2) = fin := hK
          subst hK
          exact absurd (show (0 : Int) = 1 from h1) (by decide)
    · have h := ie_ h c439
      refine r_iconst C dL_law_2106 ?_
      cases h
      have hK : (0, q437.2) = fin := hK
      subst hK
      exact absurd (show (0 : Int) = 1 from h1) (by decide)
noncomputable def s_L_law_b2128 (b n : Nat) (xs : Nat → Int32) (a0 : Nat) (a1 : Nat) (a2 : Nat) (a3 : Nat) (x4 : Int)  (μ : Me) : Option ((Int × Me) ⊕ (Int × Me)) :=
  (gX b n xs a0 (x4 + 1)).bind fun v444 =>
  xb (s_X0_keep a1 v444 a3 μ) (fun e446 => none) fun q445 =>
  (gX b n xs a0 (x4 + 1)).bind fun v447 =>
  (ck q445.2 9 a2).bind fun _ =>
  (s_X11_keep a2 v447 q445.2).bind fun q448 =>
  (ck q448.2 9 a2).bind fun _ =>
  (s_X11_thrown a2 q448.2).bind fun q450 =>
  (if w32 q450.1 = w32 q445.1 then
  (if w32 q445.1 = 0 then
  (aJ q450.2 103 a3 0).bind fun v454 =>
  (if w64 v454 = w64 (w32 q448.1) then
  s_L_law_b2832 b n xs a0 a1 a2 a3 x4 q450.2
  else
  some (.inr (0, q450.2)))
  else
  s_L_law_b2832 b n xs a0 a1 a2 a3 x4 q450.2)
  else
  some (.inr (0, q450.2)))
theorem w_L_law_b2128 {Z : Zt} {nm : String} {Qf : State → Prop} {b n : Nat} {xs : Nat → Int32} {fin : Int × Me} {w : ((Int × Me) ⊕ (Int × Me))} (C : CX Z ⟨RX0, nm, ""⟩ cL_law (some .boolean) 213 8) (G : LX Z Qf b n xs) (h1 : fin.1 = 1) {a0 : Nat} {a1 : Nat} {a2 : Nat} {a3 : Nat} {x4 : Int}  {μ : Me} (h : s_L_law_b2128 b n xs a0 a1 a2 a3 x4 μ = some w) (hK : (Sum.elim (fun s : Int × Me => WL Z (Qf) s.2 23 [(0, vO a0), (1, vO a1), (2, vO a2), (3, vO a3), (4, vI s.1)] []) (fun r : Int × Me => r = fin)) w) : WL Z (Qf) μ 2128 [(0, vO a0), (1, vO a1), (2, vO a2), (3, vO a3), (4, vI x4)] [] := by
  unfold s_L_law_b2128 at h
  refine r_aload_n C 1 dL_law_2128 rfl rfl ?_
  refine r_aload_n C 0 dL_law_2129 rfl rfl ?_
  refine r_iload C 4 dL_law_2130 rfl ?_
  refine r_iconst C dL_law_2132 ?_
  refine r_iadd C dL_law_2133 ?_
  obtain ⟨v444, ev444, h⟩ := bs h
  refine r_xld C G ev444 dL_law_2134 ?_
  refine r_aload_n C 3 dL_law_2135 rfl rfl ?_
  rcases xbs h with ⟨e446, eq445, h⟩ | ⟨q445, eq445, h⟩
  · cases h
  · refine r_xSH C (As := [vO a1, vI v444, vO a3]) (rest := []) (st1 := [vI q445.1]) (v := some (vI q445.1)) (μ1 := q445.2) (m_X0_keep C.tr eq445) (lw_SW q1164 q1165 q119 q1166) hdX0_keep rfl rfl (Nat.le_of_ble_eq_true rfl) ⟨by decide, by decide⟩ dL_law_2136 rfl ?_
    refine r_istore C [(5, vI q445.1), (0, vO a0), (1, vO a1), (2, vO a2), (3, vO a3), (4, vI x4)] dL_law_2139 (by decide) rfl ?_
    refine r_aload_n C 3 dL_law_2141 rfl rfl ?_
    refine r_aload_n C 1 dL_law_2142 rfl rfl ?_
    refine r_iload C 5 dL_law_2143 rfl ?_
    refine r_iconst C dL_law_2145 ?_
    refine r_iadd C dL_law_2146 ?_
    obtain ⟨v447, ev447, h⟩ := bs h
    refine r_xld C G ev447 dL_law_2147 ?_
    obtain ⟨u449, eu449, h⟩ := bs h
    obtain ⟨q448, eq448, h⟩ := bs h
    refine r_callV C (As := [vI v447]) (b := a2) (rest := []) (st1 := [vI q448.1]) (v := some (vI q448.1)) (r := (RX11, TX11, 38)) (ci := 9) rfl eu449 (m_X11_keep C.tr eq448) (lw_V q1819 q1820 q1821 q133 q1822) rfl hdX11_keep rfl rfl (Nat.le_of_ble_eq_true rfl) ⟨by decide, by decide⟩ dL_law_2148 rfl ?_
    refine r_istore C [(6, vI q448.1), (5, vI q445.1), (0, vO a0), (1, vO a1), (2, vO a2), (3, vO a3), (4, vI x4)] dL_law_2151 (by decide) rfl ?_
    refine r_aload_n C 4 dL_law_2153 rfl rfl ?_
    obtain ⟨u451, eu451, h⟩ := bs h
    obtain ⟨q450, eq450, h⟩ := bs h
    refine r_callV C (As := []) (b := a2) (rest := []) (st1 := [vI q450.1]) (v := some (vI q450.1)) (r := (RX11, TX11, 38)) (ci := 9) rfl eu451 (m_X11_thrown C.tr eq450) (lw_V q1303 q1304 q1305 q133 q1306) rfl hdX11_thrown rfl rfl (Nat.le_of_ble_eq_true rfl) ⟨by decide, by decide⟩ dL_law_2154 rfl ?_
    refine r_iload C 1 dL_law_2157 rfl ?_
    refine r_icmp_eq C dL_law_2159 (tgt := 2164) (by decide) (fun c452 => ?_) (fun c452 => ?_)
    · have h := it_ h c452
      refine r_iload C 1 dL_law_2164 rfl ?_
      refine r_if_ne C dL_law_2166 (tgt := 2181) (by decide) (fun c453 => ?_) (fun c453 => ?_)
      · have h := ie_ h c453
        refine r_goto C dL_law_2181 (tgt := 2832) (by decide) ?_
        refine r_sub [2, 3, 4, 5, 6] rfl ?_
        exact w_L_law_b2832 (fin := fin) C G h1 h hK
      · have h := it_ h c453
        refine r_aload_n C 5 dL_law_2169 rfl rfl ?_
        refine r_iconst C dL_law_2170 ?_
        obtain ⟨v454, ev454, h⟩ := bs h
        refine r_lald C ev454 dL_law_2171 ?_
        refine r_iload C 0 dL_law_2172 rfl ?_
        refine r_i2l C dL_law_2174 ?_
        refine r_lcmp_eq C dL_law_2175 dL_law_2176 (tgt := 2181) (by decide) (fun c455 => ?_) (fun c455 => ?_)
        · have h := it_ h c455
          refine r_goto C dL_law_2181 (tgt := 2832) (by decide) ?_
          refine r_sub [2, 3, 4, 5, 6] rfl ?_
          exact w_L_law_b2832 (fin := fin) C G h1 h hK
        · have h := ie_ h c455
          refine r_iconst C dL_law_2179 ?_
          cases h
          have hK : (0, q450.2) = fin := hK
          subst hK
          exact absurd (show (0 : Int) = 1 from h1) (by decide)
    · have h := ie_ h c452
      refine r_iconst C dL_law_2162 ?_
      cases h
      have hK : (0, q450.2) = fin := hK
      subst hK
      exact absurd (show (0 : Int) = 1 from h1) (by decide)
noncomputable def s_L_law_b2184 (b n : Nat) (xs : Nat → Int32) (a0 : Nat) (a1 : Nat) (a2 : Nat) (a3 : Nat) (x4 : Int)  (μ : Me) : Option ((Int × Me) ⊕ (Int × Me)) :=
  (gX b n xs a0 (x4 + 1)).bind fun v457 =>
  (gX b n xs a0 (x4 + 2)).bind fun v458 =>
  xb (s_X0_powers a1 v457 v458 a3 μ) (fun e460 => none) fun q459 =>
  (gX b n xs a0 (x4 + 1)).bind fun v461 =>
  (gX b n xs a0 (x4 + 2)).bind fun v462 =>
  (ck q459.2 9 a2).bind fun _ =>
  (s_X11_powers a2 v461 v462 q459.2).bind fun q463 =>
  (ck q463.2 9 a2).bind fun _ =>
  (s_X11_thrown a2 q463.2).bind fun q465 =>
  (if w32 q465.1 = w32 q459.1 then
  (if w32 q459.1 = 0 then
  (aJ q465.2 103 a3 0).bind fun v469 =>
  (if w64 v469 = w64 (w32 q463.1) then
  s_L_law_b2832 b n xs a0 a1 a2 a3 x4 q465.2
  else
  some (.inr (0, q465.2)))
  else
  s_L_law_b2832 b n xs a0 a1 a2 a3 x4 q465.2)
  else
  some (.inr (0, q465.2)))
theorem w_L_law_b2184 {Z : Zt} {nm : String} {Qf : State → Prop} {b n : Nat} {xs : Nat → Int32} {fin : Int × Me} {w : ((Int × Me) ⊕ (Int × Me))} (C : CX Z ⟨RX0, nm, ""⟩ cL_law (some .boolean) 213 8) (G : LX Z Qf b n xs) (h1 : fin.1 = 1) {a0 : Nat} {a1 : Nat} {a2 : Nat} {a3 : Nat} {x4 : Int}  {μ : Me} (h : s_L_law_b2184 b n xs a0 a1 a2 a3 x4 μ = some w) (hK : (Sum.elim (fun s : Int × Me => WL Z (Qf) s.2 23 [(0, vO a0), (1, vO a1), (2, vO a2), (3, vO a3), (4, vI s.1)] []) (fun r : Int × Me => r = fin)) w) : WL Z (Qf) μ 2184 [(0, vO a0), (1, vO a1), (2, vO a2), (3, vO a3), (4, vI x4)] [] := by
  unfold s_L_law_b2184 at h
  refine r_aload_n C 1 dL_law_2184 rfl rfl ?_
  refine r_aload_n C 0 dL_law_2185 rfl rfl ?_
  refine r_iload C 4 dL_law_2186 rfl ?_
  refine r_iconst C dL_law_2188 ?_
  refine r_iadd C dL_law_2189 ?_
  obtain ⟨v457, ev457, h⟩ := bs h
  refine r_xld C G ev457 dL_law_2190 ?_
  refine r_aload_n C 0 dL_law_2191 rfl rfl ?_
  refine r_iload C 4 dL_law_2192 rfl ?_
  refine r_iconst C dL_law_2194 ?_
  refine r_iadd C dL_law_2195 ?_
  obtain ⟨v458, ev458, h⟩ := bs h
  refine r_xld C G ev458 dL_law_2196 ?_
  refine r_aload_n C 3 dL_law_2197 rfl rfl ?_
  rcases xbs h with ⟨e460, eq459, h⟩ | ⟨q459, eq459, h⟩
  · cases h
  · refine r_xSH C (As := [vO a1, vI v457, vI v458, vO a3]) (rest := []) (st1 := [vI q459.1]) (v := some (vI q459.1)) (μ1 := q459.2) (m_X0_powers C.tr eq459) (lw_SW q1171 q1172 q119 q1173) hdX0_powers rfl rfl (Nat.le_of_ble_eq_true rfl) ⟨by decide, by decide⟩ dL_law_2198 rfl ?_
    refine r_istore C [(5, vI q459.1), (0, vO a0), (1, vO a1), (2, vO a2), (3, vO a3), (4, vI x4)] dL_law_2201 (by decide) rfl ?_
    refine r_aload_n C 3 dL_law_2203 rfl rfl ?_
    refine r_aload_n C 1 dL_law_2204 rfl rfl ?_
    refine r_iload C 5 dL_law_2205 rfl ?_
    refine r_iconst C dL_law_2207 ?_
    refine r_iadd C dL_law_2208 ?_
    obtain ⟨v461, ev461, h⟩ := bs h
    refine r_xld C G ev461 dL_law_2209 ?_
    refine r_aload_n C 1 dL_law_2210 rfl rfl ?_
    refine r_iload C 5 dL_law_2211 rfl ?_
    refine r_iconst C dL_law_2213 ?_
    refine r_iadd C dL_law_2214 ?_
    obtain ⟨v462, ev462, h⟩ := bs h
    refine r_xld C G ev462 dL_law_2215 ?_
    obtain ⟨u464, eu464, h⟩ := bs h
    obtain ⟨q463, eq463, h⟩ := bs h
    refine r_callV C (As := [vI v461, vI v462]) (b := a2) (rest := []) (st1 := [vI q463.1]) (v := some (vI q463.1)) (r := (RX11, TX11, 38)) (ci := 9) rfl eu464 (m_X11_powers C.tr eq463) (lw_V q1839 q1840 q1841 q133 q1842) rfl hdX11_powers rfl rfl (Nat.le_of_ble_eq_true rfl) ⟨by decide, by decide⟩ dL_law_2216 rfl ?_
    refine r_istore C [(6, vI q463.1), (5, vI q459.1), (0, vO a0), (1, vO a1), (2, vO a2), (3, vO a3), (4, vI x4)] dL_law_2219 (by decide) rfl ?_
    refine r_aload_n C 4 dL_law_2221 rfl rfl ?_
    obtain ⟨u466, eu466, h⟩ := bs h
    obtain ⟨q465, eq465, h⟩ := bs h
    refine r_callV C (As := []) (b := a2) (rest := []) (st1 := [vI q465.1]) (v := some (vI q465.1)) (r := (RX11, TX11, 38)) (ci := 9) rfl eu466 (m_X11_thrown C.tr eq465) (lw_V q1303 q1304 q1305 q133 q1306) rfl hdX11_thrown rfl rfl (Nat.le_of_ble_eq_true rfl) ⟨by decide, by decide⟩ dL_law_2222 rfl ?_
    refine r_iload C 1 dL_law_2225 rfl ?_
    refine r_icmp_eq C dL_law_2227 (tgt := 2232) (by decide) (fun c467 => ?_) (fun c467 => ?_)
    · have h := it_ h c467
      refine r_iload C 1 dL_law_2232 rfl ?_
      refine r_if_ne C dL_law_2234 (tgt := 2249) (by decide) (fun c468 => ?_) (fun c468 => ?_)
      · have h := ie_ h c468
        refine r_goto C dL_law_2249 (tgt := 2832) (by decide) ?_
        refine r_sub [2, 3, 4, 5, 6] rfl ?_
        exact w_L_law_b2832 (fin := fin) C G h1 h hK
      · have h := it_ h c468
        refine r_aload_n C 5 dL_law_2237 rfl rfl ?_
        refine r_iconst C dL_law_2238 ?_
        obtain ⟨v469, ev469, h⟩ := bs h
        refine r_lald C ev469 dL_law_2239 ?_
        refine r_iload C 0 dL_law_2240 rfl ?_
        refine r_i2l C dL_law_2242 ?_
        refine r_lcmp_eq C dL_law_2243 dL_law_2244 (tgt := 2249) (by decide) (fun c470 => ?_) (fun c470 => ?_)
        · have h := it_ h c470
          refine r_goto C dL_law_2249 (tgt := 2832) (by decide) ?_
          refine r_sub [2, 3, 4, 5, 6] rfl ?_
          exact w_L_law_b2832 (fin := fin) C G h1 h hK
        · have h := ie_ h c470
          refine r_iconst C dL_law_2247 ?_
          cases h
          have hK : (0, q465.2) = fin := hK
          subst hK
          exact absurd (show (0 : Int) = 1 from h1) (by decide)
    · have h := ie_ h c467
      refine r_iconst C dL_law_2230 ?_
      cases h
      have hK : (0, q465.2) = fin := hK
      subst hK
      exact absurd (show (0 : Int) = 1 from h1) (by decide)
noncomputable def s_L_law_b2252 (b n : Nat) (xs : Nat → Int32) (a0 : Nat) (a1 : Nat) (a2 : Nat) (a3 : Nat) (x4 : Int)  (μ : Me) : Option ((Int × Me) ⊕ (Int × Me)) :=
  (gX b n xs a0 (x4 + 1)).bind fun v472 =>
  (gX b n xs a0 (x4 + 2)).bind fun v473 =>
  (gX b n xs a0 (x4 + 3)).bind fun v474 =>
  xb (s_X0_common a1 v472 v473 v474 a3 μ) (fun e476 => none) fun q475 =>
  (gX b n xs a0 (x4 + 1)).bind fun v477 =>
  (gX b n xs a0 (x4 + 2)).bind fun v478 =>
  (gX b n xs a0 (x4 + 3)).bind fun v479 =>
  (ck q475.2 9 a2).bind fun _ =>
  (s_X11_common a2 v477 v478 v479 q475.2).bind fun q480 =>
  (ck q480.2 9 a2).bind fun _ =>
  (s_X11_thrown a2 q480.2).bind fun q482 =>
  (if w32 q482.1 = w32 q475.1 then
  (if w32 q475.1 = 0 then
  (aJ q482.2 103 a3 0).bind fun v486 =>
  (if w64 v486 = w64 (w32 q480.1) then
  s_L_law_b2832 b n xs a0 a1 a2 a3 x4 q482.2
  else
  some (.inr (0, q482.2)))
  else
  s_L_law_b2832 b n xs a0 a1 a2 a3 x4 q482.2)
  else
  some (.inr (0, q482.2)))
theorem w_L_law_b2252 {Z : Zt} {nm : String} {Qf : State → Prop} {b n : Nat} {xs : Nat → Int32} {fin : Int × Me} {w : ((Int × Me) ⊕ (Int × Me))} (C : CX Z ⟨RX0, nm, ""⟩ cL_law (some .boolean) 213 8) (G : LX Z Qf b n xs) (h1 : fin.1 = 1) {a0 : Nat} {a1 : Nat} {a2 : Nat} {a3 : Nat} {x4 : Int}  {μ : Me} (h : s_L_law_b2252 b n xs a0 a1 a2 a3 x4 μ = some w) (hK : (Sum.elim (fun s : Int × Me => WL Z (Qf) s.2 23 [(0, vO a0), (1, vO a1), (2, vO a2), (3, vO a3), (4, vI s.1)] []) (fun r : Int × Me => r = fin)) w) : WL Z (Qf) μ 2252 [(0, vO a0), (1, vO a1), (2, vO a2), (3, vO a3), (4, vI x4)] [] := by
  unfold s_L_law_b2252 at h
  refine r_aload_n C 1 dL_law_2252 rfl rfl ?_
  refine r_aload_n C 0 dL_law_2253 rfl rfl ?_
  refine r_iload C 4 dL_law_2254 rfl ?_
  refine r_iconst C dL_law_2256 ?_
  refine r_iadd C dL_law_2257 ?_
  obtain ⟨v472, ev472, h⟩ := bs h
  refine r_xld C G ev472 dL_law_2258 ?_
  refine r_aload_n C 0 dL_law_2259 rfl rfl ?_
  refine r_iload C 4 dL_law_2260 rfl ?_
  refine r_iconst C dL_law_2262 ?_
  refine r_iadd C dL_law_2263 ?_
  obtain ⟨v473, ev473, h⟩ := bs h
  refine r_xld C G ev473 dL_law_2264 ?_
  refine r_aload_n C 0 dL_law_2265 rfl rfl ?_
  refine r_iload C 4 dL_law_2266 rfl ?_
  refine r_iconst C dL_law_2268 ?_
  refine r_iadd C dL_law_2269 ?_
  obtain ⟨v474, ev474, h⟩ := bs h
  refine r_xld C G ev474 dL_law_2270 ?_
  refine r_aload_n C 3 dL_law_2271 rfl rfl ?_
  rcases xbs h with ⟨e476, eq475, h⟩ | ⟨q475, eq475, h⟩
  · cases h
  · refine r_xSH C (As := [vO a1, vI v472, vI v473, vI v474, vO a3]) (rest := []) (st1 := [vI q475.1]) (v := some (vI q475.1)) (μ1 := q475.2) (m_X0_common C.tr eq475) (lw_SW q1195 q1196 q119 q1197) hdX0_common rfl rfl (Nat.le_of_ble_eq_true rfl) ⟨by decide, by decide⟩ dL_law_2272 rfl ?_
    refine r_istore C [(5, vI q475.1), (0, vO a0), (1, vO a1), (2, vO a2), (3, vO a3), (4, vI x4)] dL_law_2275 (by decide) rfl ?_
    refine r_aload_n C 3 dL_law_2277 rfl rfl ?_
    refine r_aload_n C 1 dL_law_2278 rfl rfl ?_
    refine r_iload C 5 dL_law_2279 rfl ?_
    refine r_iconst C dL_law_2281 ?_
    refine r_iadd C dL_law_2282 ?_
    obtain ⟨v477, ev477, h⟩ := bs h
    refine r_xld C G ev477 dL_law_2283 ?_
    refine r_aload_n C 1 dL_law_2284 rfl rfl ?_
    refine r_iload C 5 dL_law_2285 rfl ?_
    refine r_iconst C dL_law_2287 ?_
    refine r_iadd C dL_law_2288 ?_
    obtain ⟨v478, ev478, h⟩ := bs h
    refine r_xld C G ev478 dL_law_2289 ?_
    refine r_aload_n C 1 dL_law_2290 rfl rfl ?_
    refine r_iload C 5 dL_law_2291 rfl ?_
    refine r_iconst C dL_law_2293 ?_
    refine r_iadd C dL_law_2294 ?_
    obtain ⟨v479, ev479, h⟩ := bs h
    refine r_xld C G ev479 dL_law_2295 ?_
    obtain ⟨u481, eu481, h⟩ := bs h
    obtain ⟨q480, eq480, h⟩ := bs h
    refine r_callV C (As := [vI v477, vI v478, vI v479]) (b := a2) (rest := []) (st1 := [vI q480.1]) (v := some (vI q480.1)) (r := (RX11, TX11, 38)) (ci := 9) rfl eu481 (m_X11_common C.tr eq480) (lw_V q1867 q1868 q1869 q133 q1870) rfl hdX11_common rfl rfl (Nat.le_of_ble_eq_true rfl) ⟨by decide, by decide⟩ dL_law_2296 rfl ?_
    refine r_istore C [(6, vI q480.1), (5, vI q475.1), (0, vO a0), (1, vO a1), (2, vO a2), (3, vO a3), (4, vI x4)] dL_law_2299 (by decide) rfl ?_
    refine r_aload_n C 4 dL_law_2301 rfl rfl ?_
    obtain ⟨u483, eu483, h⟩ := bs h
    obtain ⟨q482, eq482, h⟩ := bs h
    refine r_callV C (As := []) (b := a2) (rest := []) (st1 := [vI q482.1]) (v := some (vI q482.1)) (r := (RX11, TX11, 38)) (ci := 9) rfl eu483 (m_X11_thrown C.tr eq482) (lw_V q1303 q1304 q1305 q133 q1306) rfl hdX11_thrown rfl rfl (Nat.le_of_ble_eq_true rfl) ⟨by decide, by decide⟩ dL_law_2302 rfl ?_
    refine r_iload C 1 dL_law_2305 rfl ?_
    refine r_icmp_eq C dL_law_2307 (tgt := 2312) (by decide) (fun c484 => ?_) (fun c484 => ?_)
    · have h := it_ h c484
      refine r_iload C 1 dL_law_2312 rfl ?_
      refine r_if_ne C dL_law_2314 (tgt := 2329) (by decide) (fun c485 => ?_) (fun c485 => ?_)
      · have h := ie_ h c485
        refine r_goto C dL_law_2329 (tgt := 2832) (by decide) ?_
        refine r_sub [2, 3, 4, 5, 6] rfl ?_
        exact w_L_law_b2832 (fin := fin) C G h1 h hK
      · have h := it_ h c485
        refine r_aload_n C 5 dL_law_2317 rfl rfl ?_
        refine r_iconst C dL_law_2318 ?_
        obtain ⟨v486, ev486, h⟩ := bs h
        refine r_lald C ev486 dL_law_2319 ?_
        refine r_iload C 0 dL_law_2320 rfl ?_
        refine r_i2l C dL_law_2322 ?_
        refine r_lcmp_eq C dL_law_2323 dL_law_2324 (tgt := 2329) (by decide) (fun c487 => ?_) (fun c487 => ?_)
        · have h := it_ h c487
          refine r_goto C dL_law_2329 (tgt := 2832) (by decide) ?_
          refine r_sub [2, 3, 4, 5, 6] rfl ?_
          exact w_L_law_b2832 (fin := fin) C G h1 h hK
        · have h := ie_ h c487
          refine r_iconst C dL_law_2327 ?_
          cases h
          have hK : (0, q482.2) = fin := hK
          subst hK
          exact absurd (show (0 : Int) = 1 from h1) (by decide)
    · have h := ie_ h c484
      refine r_iconst C dL_law_2310 ?_
      cases h
      have hK : (0, q482.2) = fin := hK
      subst hK
      exact absurd (show (0 : Int) = 1 from h1) (by decide)
noncomputable def s_L_law_b2332 (b n : Nat) (xs : Nat → Int32) (a0 : Nat) (a1 : Nat) (a2 : Nat) (a3 : Nat) (x4 : Int)  (μ : Me) : Option ((Int × Me) ⊕ (Int × Me)) :=
  (gX b n xs a0 (x4 + 1)).bind fun v489 =>
  (gX b n xs a0 (x4 + 2)).bind fun v490 =>
  (gX b n xs a0 (x4 + 3)).bind fun v491 =>
  (gX b n xs a0 (x4 + 4)).bind fun v492 =>
  xb (s_X0_overlap a1 v489 v490 v491 v492 a3 μ) (fun e494 => none) fun q493 =>
  (gX b n xs a0 (x4 + 1)).bind fun v495 =>
  (gX b n xs a0 (x4 + 2)).bind fun v496 =>
  (gX b n xs a0 (x4 + 3)).bind fun v497 =>
  (gX b n xs a0 (x4 + 4)).bind fun v498 =>
  (ck q493.2 9 a2).bind fun _ =>
  (s_X11_overlap a2 v495 v496 v497 v498 q493.2).bind fun q499 =>
  (ck q499.2 9 a2).bind fun _ =>
  (s_X11_thrown a2 q499.2).bind fun q501 =>
  (if w32 q501.1 = w32 q493.1 then
  (if w32 q493.1 = 0 then
  (aJ q501.2 103 a3 0).bind fun v505 =>
  (if w64 v505 = w64 (w32 q499.1) then
  s_L_law_b2832 b n xs a0 a1 a2 a3 x4 q501.2
  else
  some (.inr (0, q501.2)))
  else
  s_L_law_b2832 b n xs a0 a1 a2 a3 x4 q501.2)
  else
  some (.inr (0, q501.2)))
theorem w_L_law_b2332 {Z : Zt} {nm : String} {Qf : State → Prop} {b n : Nat} {xs : Nat → Int32} {fin : Int × Me} {w : ((Int × Me) ⊕ (Int × Me))} (C : CX Z ⟨RX0, nm, ""⟩ cL_law (some .boolean) 213 8) (G : LX Z Qf b n xs) (h1 : fin.1 = 1) {a0 : Nat} {a1 : Nat} {a2 : Nat} {a3 : Nat} {x4 : Int}  {μ : Me} (h : s_L_law_b2332 b n xs a0 a1 a2 a3 x4 μ = some w) (hK : (Sum.elim (fun s : Int × Me => WL Z (Qf) s.2 23 [(0, vO a0), (1, vO a1), (2, vO a2), (3, vO a3), (4, vI s.1)] []) (fun r : Int × Me => r = fin)) w) : WL Z (Qf) μ 2332 [(0, vO a0), (1, vO a1), (2, vO a2), (3, vO a3), (4, vI x4)] [] := by
  unfold s_L_law_b2332 at h
  refine r_aload_n C 1 dL_law_2332 rfl rfl ?_
  refine r_aload_n C 0 dL_law_2333 rfl rfl ?_
  refine r_iload C 4 dL_law_2334 rfl ?_
  refine r_iconst C dL_law_2336 ?_
  refine r_iadd C dL_law_2337 ?_
  obtain ⟨v489, ev489, h⟩ := bs h
  refine r_xld C G ev489 dL_law_2338 ?_
  refine r_aload_n C 0 dL_law_2339 rfl rfl ?_
  refine r_iload C 4 dL_law_2340 rfl ?_
  refine r_iconst C dL_law_2342 ?_
  refine r_iadd C dL_law_2343 ?_
  obtain ⟨v490, ev490, h⟩ := bs h
  refine r_xld C G ev490 dL_law_2344 ?_
  refine r_aload_n C 0 dL_law_2345 rfl rfl ?_
  refine r_iload C 4 dL_law_2346 rfl ?_
  refine r_iconst C dL_law_2348 ?_
  refine r_iadd C dL_law_2349 ?_
  obtain ⟨v491, ev491, h⟩ := bs h
  refine r_xld C G ev491 dL_law_2350 ?_
  refine r_aload_n C 0 dL_law_2351 rfl rfl ?_
  refine r_iload C 4 dL_law_2352 rfl ?_
  refine r_iconst C dL_law_2354 ?_
  refine r_iadd C dL_law_2355 ?_
  obtain ⟨v492, ev492, h⟩ := bs h
  refine r_xld C G ev492 dL_law_2356 ?_
  refine r_aload_n C 3 dL_law_2357 rfl rfl ?_
  rcases xbs h with ⟨e494, eq493, h⟩ | ⟨q493, eq493, h⟩
  · cases h
  · refine r_xSH C (As := [vO a1, vI v489, vI v490, vI v491, vI v492, vO a3]) (rest := []) (st1 := [vI q493.1]) (v := some (vI q493.1)) (μ1 := q493.2) (m_X0_overlap C.tr eq493) (lw_SW q1202 q1203 q119 q1204) hdX0_overlap rfl rfl (Nat.le_of_ble_eq_true rfl) ⟨by decide, by decide⟩ dL_law_2358 rfl ?_
    refine r_istore C [(5, vI q493.1), (0, vO a0), (1, vO a1), (2, vO a2), (3, vO a3), (4, vI x4)] dL_law_2361 (by decide) rfl ?_
    refine r_aload_n C 3 dL_law_2363 rfl rfl ?_
    refine r_aload_n C 1 dL_law_2364 rfl rfl ?_
    refine r_iload C 5 dL_law_2365 rfl ?_
    refine r_iconst C dL_law_2367 ?_
    refine r_iadd C dL_law_2368 ?_
    obtain ⟨v495, ev495, h⟩ := bs h
    refine r_xld C G ev495 dL_law_2369 ?_
    refine r_aload_n C 1 dL_law_2370 rfl rfl ?_
    refine r_iload C 5 dL_law_2371 rfl ?_
    refine r_iconst C dL_law_2373 ?_
    refine r_iadd C dL_law_2374 ?_
    obtain ⟨v496, ev496, h⟩ := bs h
    refine r_xld C G ev496 dL_law_2375 ?_
    refine r_aload_n C 1 dL_law_2376 rfl rfl ?_
    refine r_iload C 5 dL_law_2377 rfl ?_
    refine r_iconst C dL_law_2379 ?_
    refine r_iadd C dL_law_2380 ?_
    obtain ⟨v497, ev497, h⟩ := bs h
    refine r_xld C G ev497 dL_law_2381 ?_
    refine r_aload_n C 1 dL_law_2382 rfl rfl ?_
    refine r_iload C 5 dL_law_2383 rfl ?_
    refine r_iconst C dL_law_2385 ?_
    refine r_iadd C dL_law_2386 ?_
    obtain ⟨v498, ev498, h⟩ := bs h
    refine r_xld C G ev498 dL_law_2387 ?_
    obtain ⟨u500, eu500, h⟩ := bs h
    obtain ⟨q499, eq499, h⟩ := bs h
    refine r_callV C (As := [vI v495, vI v496, vI v497, vI v498]) (b := a2) (rest := []) (st1 := [vI q499.1]) (v := some (vI q499.1)) (r := (RX11, TX11, 38)) (ci := 9) rfl eu500 (m_X11_overlap C.tr eq499) (lw_V q1900 q1901 q1902 q133 q1903) rfl hdX11_overlap rfl rfl (Nat.le_of_ble_eq_true rfl) ⟨by decide, by decide⟩ dL_law_2388 rfl ?_
    refine r_istore C [(6, vI q499.1), (5, vI q493.1), (0, vO a0), (1, vO a1), (2, vO a2), (3, vO a3), (4, vI x4)] dL_law_2391 (by decide) rfl ?_
    refine r_aload_n C 4 dL_law_2393 rfl rfl ?_
    obtain ⟨u502, eu502, h⟩ := bs h
    obtain ⟨q501, eq501, h⟩ := bs h
    refine r_callV C (As := []) (b := a2) (rest := []) (st1 := [vI q501.1]) (v := some (vI q501.1)) (r := (RX11, TX11, 38)) (ci := 9) rfl eu502 (m_X11_thrown C.tr eq501) (lw_V q1303 q1304 q1305 q133 q1306) rfl hdX11_thrown rfl rfl (Nat.le_of_ble_eq_true rfl) ⟨by decide, by decide⟩ dL_law_2394 rfl ?_
    refine r_iload C 1 dL_law_2397 rfl ?_
    refine r_icmp_eq C dL_law_2399 (tgt := 2404) (by decide) (fun c503 => ?_) (fun c503 => ?_)
    · have h := it_ h c503
      refine r_iload C 1 dL_law_2404 rfl ?_
      refine r_if_ne C dL_law_2406 (tgt := 2421) (by decide) (fun c504 => ?_) (fun c504 => ?_)
      · have h := ie_ h c504
        refine r_goto C dL_law_2421 (tgt := 2832) (by decide) ?_
        refine r_sub [2, 3, 4, 5, 6] rfl ?_
        exact w_L_law_b2832 (fin := fin) C G h1 h hK
      · have h := it_ h c504
        refine r_aload_n C 5 dL_law_2409 rfl rfl ?_
        refine r_iconst C dL_law_2410 ?_
        obtain ⟨v505, ev505, h⟩ := bs h
        refine r_lald C ev505 dL_law_2411 ?_
        refine r_iload C 0 dL_law_2412 rfl ?_
        refine r_i2l C dL_law_2414 ?_
        refine r_lcmp_eq C dL_law_2415 dL_law_2416 (tgt := 2421) (by decide) (fun c506 => ?_) (fun c506 => ?_)
        · have h := it_ h c506
          refine r_goto C dL_law_2421 (tgt := 2832) (by decide) ?_
          refine r_sub [2, 3, 4, 5, 6] rfl ?_
          exact w_L_law_b2832 (fin := fin) C G h1 h hK
        · have h := ie_ h c506
          refine r_iconst C dL_law_2419 ?_
          cases h
          have hK : (0, q501.2) = fin := hK
          subst hK
          exact absurd (show (0 : Int) = 1 from h1) (by decide)
    · have h := ie_ h c503
      refine r_iconst C dL_law_2402 ?_
      cases h
      have hK : (0, q501.2) = fin := hK
      subst hK
      exact absurd (show (0 : Int) = 1 from h1) (by decide)
noncomputable def s_L_law_b2424 (b n : Nat) (xs : Nat → Int32) (a0 : Nat) (a1 : Nat) (a2 : Nat) (a3 : Nat) (x4 : Int)  (μ : Me) : Option ((Int × Me) ⊕ (Int × Me)) :=
  (gX b n xs a0 (x4 + 1)).bind fun v508 =>
  (gX b n xs a0 (x4 + 2)).bind fun v509 =>
  (gX b n xs a0 (x4 + 3)).bind fun v510 =>
  (gX b n xs a0 (x4 + 4)).bind fun v511 =>
  xb (s_X0_reduced a1 v508 v509 v510 v511 a3 μ) (fun e513 => none) fun q512 =>
  (gX b n xs a0 (x4 + 1)).bind fun v514 =>
  (gX b n xs a0 (x4 + 2)).bind fun v515 =>
  (gX b n xs a0 (x4 + 3)).bind fun v516 =>
  (gX b n xs a0 (x4 + 4)).bind fun v517 =>
  (ck q512.2 9 a2).bind fun _ =>
  (s_X11_reduced a2 v514 v515 v516 v517 q512.2).bind fun q518 =>
  (ck q518.2 9 a2).bind fun _ =>
  (s_X11_thrown a2 q518.2).bind fun q520 =>
  (if w32 q520.1 = w32 q512.1 then
  (if w32 q512.1 = 0 then
  (aJ q520.2 103 a3 0).bind fun v524 =>
  (if w64 v524 = w64 q518.1 then
  s_L_law_b2832 b n xs a0 a1 a2 a3 x4 q520.2
  else
  some (.inr (0, q520.2)))
  else
  s_L_law_b2832 b n xs a0 a1 a2 a3 x4 q520.2)
  else
  some (.inr (0, q520.2)))
theorem w_L_law_b2424 {Z : Zt} {nm : String} {Qf : State → Prop} {b n : Nat} {xs : Nat → Int32} {fin : Int × Me} {w : ((Int × Me) ⊕ (Int × Me))} (C : CX Z ⟨RX0, nm, ""⟩ cL_law (some .boolean) 213 8) (G : LX Z Qf b n xs) (h1 : fin.1 = 1) {a0 : Nat} {a1 : Nat} {a2 : Nat} {a3 : Nat} {x4 : Int}  {μ : Me} (h : s_L_law_b2424 b n xs a0 a1 a2 a3 x4 μ = some w) (hK : (Sum.elim (fun s : Int × Me => WL Z (Qf) s.2 23 [(0, vO a0), (1, vO a1), (2, vO a2), (3, vO a3), (4, vI s.1)] []) (fun r : Int × Me => r = fin)) w) : WL Z (Qf) μ 2424 [(0, vO a0), (1, vO a1), (2, vO a2), (3, vO a3), (4, vI x4)] [] := by
  unfold s_L_law_b2424 at h
  refine r_aload_n C 1 dL_law_2424 rfl rfl ?_
  refine r_aload_n C 0 dL_law_2425 rfl rfl ?_
  refine r_iload C 4 dL_law_2426 rfl ?_
  refine r_iconst C dL_law_2428 ?_
  refine r_iadd C dL_law_2429 ?_
  obtain ⟨v508, ev508, h⟩ := bs h
  refine r_xld C G ev508 dL_law_2430 ?_
  refine r_aload_n C 0 dL_law_2431 rfl rfl ?_
  refine r_iload C 4 dL_law_2432 rfl ?_
  refine r_iconst C dL_law_2434 ?_
  refine r_iadd C dL_law_2435 ?_
  obtain ⟨v509, ev509, h⟩ := bs h
  refine r_xld C G ev509 dL_law_2436 ?_
  refine r_aload_n C 0 dL_law_2437 rfl rfl ?_
  refine r_iload C 4 dL_law_2438 rfl ?_
  refine r_iconst C dL_law_2440 ?_
  refine r_iadd C dL_law_2441 ?_
  obtain ⟨v510, ev510, h⟩ := bs h
  refine r_xld C G ev510 dL_law_2442 ?_
  refine r_aload_n C 0 dL_law_2443 rfl rfl ?_
  refine r_iload C 4 dL_law_2444 rfl ?_
  refine r_iconst C dL_law_2446 ?_
  refine r_iadd C dL_law_2447 ?_
  obtain ⟨v511, ev511, h⟩ := bs h
  refine r_xld C G ev511 dL_law_2448 ?_
  refine r_aload_n C 3 dL_law_2449 rfl rfl ?_
  rcases xbs h with ⟨e513, eq512, h⟩ | ⟨q512, eq512, h⟩
  · cases h
  · refine r_xSH C (As := [vO a1, vI v508, vI v509, vI v510, vI v511, vO a3]) (rest := []) (st1 := [vI q512.1]) (v := some (vI q512.1)) (μ1 := q512.2) (m_X0_reduced C.tr eq512) (lw_SW q1210 q1211 q119 q1212) hdX0_reduced rfl rfl (Nat.le_of_ble_eq_true rfl) ⟨by decide, by decide⟩ dL_law_2450 rfl ?_
    refine r_istore C [(5, vI q512.1), (0, vO a0), (1, vO a1), (2, vO a2), (3, vO a3), (4, vI x4)] dL_law_2453 (by decide) rfl ?_
    refine r_aload_n C 3 dL_law_2455 rfl rfl ?_
    refine r_aload_n C 1 dL_law_2456 rfl rfl ?_
    refine r_iload C 5 dL_law_2457 rfl ?_
    refine r_iconst C dL_law_2459 ?_
    refine r_iadd C dL_law_2460 ?_
    obtain ⟨v514, ev514, h⟩ := bs h
    refine r_xld C G ev514 dL_law_2461 ?_
    refine r_aload_n C 1 dL_law_2462 rfl rfl ?_
    refine r_iload C 5 dL_law_2463 rfl ?_
    refine r_iconst C dL_law_2465 ?_
    refine r_iadd C dL_law_2466 ?_
    obtain ⟨v515, ev515, h⟩ := bs h
    refine r_xld C G ev515 dL_law_2467 ?_
    refine r_aload_n C 1 dL_law_2468 rfl rfl ?_
    refine r_iload C 5 dL_law_2469 rfl ?_
    refine r_iconst C dL_law_2471 ?_
    refine r_iadd C dL_law_2472 ?_
    obtain ⟨v516, ev516, h⟩ := bs h
    refine r_xld C G ev516 dL_law_2473 ?_
    refine r_aload_n C 1 dL_law_2474 rfl rfl ?_
    refine r_iload C 5 dL_law_2475 rfl ?_
    refine r_iconst C dL_law_2477 ?_
    refine r_iadd C dL_law_2478 ?_
    obtain ⟨v517, ev517, h⟩ := bs h
    refine r_xld C G ev517 dL_law_2479 ?_
    obtain ⟨u519, eu519, h⟩ := bs h
    obtain ⟨q518, eq518, h⟩ := bs h
    refine r_callV C (As := [vI v514, vI v515, vI v516, vI v517]) (b := a2) (rest := []) (st1 := [vJ q518.1]) (v := some (vJ q518.1)) (r := (RX11, TX11, 38)) (ci := 9) rfl eu519 (m_X11_reduced C.tr eq518) (lw_V q1904 q1905 q1906 q133 q1907) rfl hdX11_reduced rfl rfl (Nat.le_of_ble_eq_true rfl) ⟨by decide, by decide⟩ dL_law_2480 rfl ?_
    refine r_lstore C [(6, vJ q518.1), (5, vI q512.1), (0, vO a0), (1, vO a1), (2, vO a2), (3, vO a3), (4, vI x4)] dL_law_2483 (by decide) rfl ?_
    refine r_aload_n C 4 dL_law_2485 rfl rfl ?_
    obtain ⟨u521, eu521, h⟩ := bs h
    obtain ⟨q520, eq520, h⟩ := bs h
    refine r_callV C (As := []) (b := a2) (rest := []) (st1 := [vI q520.1]) (v := some (vI q520.1)) (r := (RX11, TX11, 38)) (ci := 9) rfl eu521 (m_X11_thrown C.tr eq520) (lw_V q1303 q1304 q1305 q133 q1306) rfl hdX11_thrown rfl rfl (Nat.le_of_ble_eq_true rfl) ⟨by decide, by decide⟩ dL_law_2486 rfl ?_
    refine r_iload C 1 dL_law_2489 rfl ?_
    refine r_icmp_eq C dL_law_2491 (tgt := 2496) (by decide) (fun c522 => ?_) (fun c522 => ?_)
    · have h := it_ h c522
      refine r_iload C 1 dL_law_2496 rfl ?_
      refine r_if_ne C dL_law_2498 (tgt := 2512) (by decide) (fun c523 => ?_) (fun c523 => ?_)
      · have h := ie_ h c523
        refine r_goto C dL_law_2512 (tgt := 2832) (by decide) ?_
        refine r_sub [2, 3, 4, 5, 6] rfl ?_
        exact w_L_law_b2832 (fin := fin) C G h1 h hK
      · have h := it_ h c523
        refine r_aload_n C 5 dL_law_2501 rfl rfl ?_
        refine r_iconst C dL_law_2502 ?_
        obtain ⟨v524, ev524, h⟩ := bs h
        refine r_lald C ev524 dL_law_2503 ?_
        refine r_lload C 0 dL_law_2504 rfl ?_
        refine r_lcmp_eq C dL_law_2506 dL_law_2507 (tgt := 2512) (by decide) (fun c525 => ?_) (fun c525 => ?_)
        · have h := it_ h c525
          refine r_goto C dL_law_2512 (tgt := 2832) (by decide) ?_
          refine r_sub [2, 3, 4, 5, 6] rfl ?_
          exact w_L_law_b2832 (fin := fin) C G h1 h hK
        · have h := ie_ h c525
          refine r_iconst C dL_law_2510 ?_
          cases h
          have hK : (0, q520.2) = fin := hK
          subst hK
          exact absurd (show (0 : Int) = 1 from h1) (by decide)
    · have h := ie_ h c522
      refine r_iconst C dL_law_2494 ?_
      cases h
      have hK : (0, q520.2) = fin := hK
      subst hK
      exact absurd (show (0 : Int) = 1 from h1) (by decide)
noncomputable def s_L_law_b2563 (b n : Nat) (xs : Nat → Int32) (a0 : Nat) (a1 : Nat) (a2 : Nat) (a3 : Nat) (x4 : Int) (x5 : Int) (t0 : Int) (t1 : Int) (t2 : Nat) (μ : Me) : Option ((Int × Me) ⊕ (Int × Me)) :=
  (ck μ 9 t2).bind fun _ =>
  (s_X11_classes t2 t1 t0 μ).bind fun q535 =>
  (ck q535.2 9 a2).bind fun _ =>
  (s_X11_thrown a2 q535.2).bind fun q537 =>
  (if w32 q537.1 = w32 x5 then
  (if w32 x5 = 0 then
  (aJ q537.2 103 a3 0).bind fun v541 =>
  (if w64 v541 = w64 (w32 q535.1) then
  s_L_law_b2832 b n xs a0 a1 a2 a3 x4 q537.2
  else
  some (.inr (0, q537.2)))
  else
  s_L_law_b2832 b n xs a0 a1 a2 a3 x4 q537.2)
  else
  some (.inr (0, q537.2)))
theorem w_L_law_b2563 {Z : Zt} {nm : String} {Qf : State → Prop} {b n : Nat} {xs : Nat → Int32} {fin : Int × Me} {w : ((Int × Me) ⊕ (Int × Me))} (C : CX Z ⟨RX0, nm, ""⟩ cL_law (some .boolean) 213 8) (G : LX Z Qf b n xs) (h1 : fin.1 = 1) {a0 : Nat} {a1 : Nat} {a2 : Nat} {a3 : Nat} {x4 : Int} {x5 : Int} {t0 : Int} {t1 : Int} {t2 : Nat} {μ : Me} (h : s_L_law_b2563 b n xs a0 a1 a2 a3 x4 x5 t0 t1 t2 μ = some w) (hK : (Sum.elim (fun s : Int × Me => WL Z (Qf) s.2 23 [(0, vO a0), (1, vO a1), (2, vO a2), (3, vO a3), (4, vI s.1)] []) (fun r : Int × Me => r = fin)) w) : WL Z (Qf) μ 2563 [(0, vO a0), (1, vO a1), (2, vO a2), (3, vO a3), (4, vI x4), (5, vI x5)] [vI t0, vI t1, vO t2] := by
  unfold s_L_law_b2563 at h
  obtain ⟨u536, eu536, h⟩ := bs h
  obtain ⟨q535, eq535, h⟩ := bs h
  refine r_callV C (As := [vI t1, vI t0]) (b := t2) (rest := []) (st1 := [vI q535.1]) (v := some (vI q535.1)) (r := (RX11, TX11, 38)) (ci := 9) rfl eu536 (m_X11_classes C.tr eq535) (lw_V q1934 q1935 q1936 q133 q1937) rfl hdX11_classes rfl rfl (Nat.le_of_ble_eq_true rfl) ⟨by decide, by decide⟩ dL_law_2563 rfl ?_
  refine r_istore C [(6, vI q535.1), (0, vO a0), (1, vO a1), (2, vO a2), (3, vO a3), (4, vI x4), (5, vI x5)] dL_law_2566 (by decide) rfl ?_
  refine r_aload_n C 3 dL_law_2568 rfl rfl ?_
  obtain ⟨u538, eu538, h⟩ := bs h
  obtain ⟨q537, eq537, h⟩ := bs h
  refine r_callV C (As := []) (b := a2) (rest := []) (st1 := [vI q537.1]) (v := some (vI q537.1)) (r := (RX11, TX11, 38)) (ci := 9) rfl eu538 (m_X11_thrown C.tr eq537) (lw_V q1303 q1304 q1305 q133 q1306) rfl hdX11_thrown rfl rfl (Nat.le_of_ble_eq_true rfl) ⟨by decide, by decide⟩ dL_law_2569 rfl ?_
  refine r_iload C 6 dL_law_2572 rfl ?_
  refine r_icmp_eq C dL_law_2574 (tgt := 2579) (by decide) (fun c539 => ?_) (fun c539 => ?_)
  · have h := it_ h c539
    refine r_iload C 6 dL_law_2579 rfl ?_
    refine r_if_ne C dL_law_2581 (tgt := 2596) (by decide) (fun c540 => ?_) (fun c540 => ?_)
    · have h := ie_ h c540
      refine r_goto C dL_law_2596 (tgt := 2832) (by decide) ?_
      refine r_sub [1, 2, 3, 4, 5] rfl ?_
      exact w_L_law_b2832 (fin := fin) C G h1 h hK
    · have h := it_ h c540
      refine r_aload_n C 4 dL_law_2584 rfl rfl ?_
      refine r_iconst C dL_law_2585 ?_
      obtain ⟨v541, ev541, h⟩ := bs h
      refine r_lald C ev541 dL_law_2586 ?_
      refine r_iload C 0 dL_law_2587 rfl ?_
      refine r_i2l C dL_law_2589 ?_
      refine r_lcmp_eq C dL_law_2590 dL_law_2591 (tgt := 2596) (by decide) (fun c542 => ?_) (fun c542 => ?_)
      · have h := it_ h c542
        refine r_goto C dL_law_2596 (tgt := 2832) (by decide) ?_
        refine r_sub [1, 2, 3, 4, 5] rfl ?_
        exact w_L_law_b2832 (fin := fin) C G h1 h hK
      · have h := ie_ h c542
        refine r_iconst C dL_law_2594 ?_
        cases h
        have hK : (0, q537.2) = fin := hK
        subst hK
        exact absurd (show (0 : Int) = 1 from h1) (by decide)
  · have h := ie_ h c539
    refine r_iconst C dL_law_2577 ?_
    cases h
    have hK : (0, q537.2) = fin := hK
    subst hK
    exact absurd (show (0 : Int) = 1 from h1) (by decide)
noncomputable def s_L_law_b2536 (b n : Nat) (xs : Nat → Int32) (a0 : Nat) (a1 : Nat) (a2 : Nat) (a3 : Nat) (x4 : Int) (t0 : Int) (t1 : Int) (t2 : Nat) (μ : Me) : Option ((Int × Me) ⊕ (Int × Me)) :=
  xb (s_X0_classes t2 t1 t0 a3 μ) (fun e531 => none) fun q530 =>
  (gX b n xs a0 (x4 + 1)).bind fun v532 =>
  (gX b n xs a0 (x4 + 2)).bind fun v533 =>
  (if w32 v533 = 0 then
  s_L_law_b2563 b n xs a0 a1 a2 a3 x4 q530.1 0 v532 a2 q530.2
  else
  s_L_law_b2563 b n xs a0 a1 a2 a3 x4 q530.1 1 v532 a2 q530.2)
theorem w_L_law_b2536 {Z : Zt} {nm : String} {Qf : State → Prop} {b n : Nat} {xs : Nat → Int32} {fin : Int × Me} {w : ((Int × Me) ⊕ (Int × Me))} (C : CX Z ⟨RX0, nm, ""⟩ cL_law (some .boolean) 213 8) (G : LX Z Qf b n xs) (h1 : fin.1 = 1) {a0 : Nat} {a1 : Nat} {a2 : Nat} {a3 : Nat} {x4 : Int} {t0 : Int} {t1 : Int} {t2 : Nat} {μ : Me} (h : s_L_law_b2536 b n xs a0 a1 a2 a3 x4 t0 t1 t2 μ = some w) (hK : (Sum.elim (fun s : Int × Me => WL Z (Qf) s.2 23 [(0, vO a0), (1, vO a1), (2, vO a2), (3, vO a3), (4, vI s.1)] []) (fun r : Int × Me => r = fin)) w) : WL Z (Qf) μ 2536 [(0, vO a0), (1, vO a1), (2, vO a2), (3, vO a3), (4, vI x4)] [vI t0, vI t1, vO t2] := by
  unfold s_L_law_b2536 at h
  refine r_aload_n C 3 dL_law_2536 rfl rfl ?_
  rcases xbs h with ⟨e531, eq530, h⟩ | ⟨q530, eq530, h⟩
  · cases h
  · refine r_xSH C (As := [vO t2, vI t1, vI t0, vO a3]) (rest := []) (st1 := [vI q530.1]) (v := some (vI q530.1)) (μ1 := q530.2) (m_X0_classes C.tr eq530) (lw_SW q1251 q1252 q119 q1253) hdX0_classes rfl rfl (Nat.le_of_ble_eq_true rfl) ⟨by decide, by decide⟩ dL_law_2537 rfl ?_
    refine r_istore C [(5, vI q530.1), (0, vO a0), (1, vO a1), (2, vO a2), (3, vO a3), (4, vI x4)] dL_law_2540 (by decide) rfl ?_
    refine r_aload_n C 3 dL_law_2542 rfl rfl ?_
    refine r_aload_n C 1 dL_law_2543 rfl rfl ?_
    refine r_iload C 5 dL_law_2544 rfl ?_
    refine r_iconst C dL_law_2546 ?_
    refine r_iadd C dL_law_2547 ?_
    obtain ⟨v532, ev532, h⟩ := bs h
    refine r_xld C G ev532 dL_law_2548 ?_
    refine r_aload_n C 1 dL_law_2549 rfl rfl ?_
    refine r_iload C 5 dL_law_2550 rfl ?_
    refine r_iconst C dL_law_2552 ?_
    refine r_iadd C dL_law_2553 ?_
    obtain ⟨v533, ev533, h⟩ := bs h
    refine r_xld C G ev533 dL_law_2554 ?_
    refine r_if_eq C dL_law_2555 (tgt := 2562) (by decide) (fun c534 => ?_) (fun c534 => ?_)
    · have h := it_ h c534
      refine r_iconst C dL_law_2562 ?_
      refine r_sub [1, 2, 3, 4, 5, 0] rfl ?_
      exact w_L_law_b2563 (fin := fin) C G h1 h hK
    · have h := ie_ h c534
      refine r_iconst C dL_law_2558 ?_
      refine r_goto C dL_law_2559 (tgt := 2563) (by decide) ?_
      refine r_sub [1, 2, 3, 4, 5, 0] rfl ?_
      exact w_L_law_b2563 (fin := fin) C G h1 h hK
noncomputable def s_L_law_b2515 (b n : Nat) (xs : Nat → Int32) (a0 : Nat) (a1 : Nat) (a2 : Nat) (a3 : Nat) (x4 : Int)  (μ : Me) : Option ((Int × Me) ⊕ (Int × Me)) :=
  (gX b n xs a0 (x4 + 1)).bind fun v527 =>
  (gX b n xs a0 (x4 + 2)).bind fun v528 =>
  (if w32 v528 = 0 then
  s_L_law_b2536 b n xs a0 a1 a2 a3 x4 0 v527 a1 μ
  else
  s_L_law_b2536 b n xs a0 a1 a2 a3 x4 1 v527 a1 μ)
theorem w_L_law_b2515 {Z : Zt} {nm : String} {Qf : State → Prop} {b n : Nat} {xs : Nat → Int32} {fin : Int × Me} {w : ((Int × Me) ⊕ (Int × Me))} (C : CX Z ⟨RX0, nm, ""⟩ cL_law (some .boolean) 213 8) (G : LX Z Qf b n xs) (h1 : fin.1 = 1) {a0 : Nat} {a1 : Nat} {a2 : Nat} {a3 : Nat} {x4 : Int}  {μ : Me} (h : s_L_law_b2515 b n xs a0 a1 a2 a3 x4 μ = some w) (hK : (Sum.elim (fun s : Int × Me => WL Z (Qf) s.2 23 [(0, vO a0), (1, vO a1), (2, vO a2), (3, vO a3), (4, vI s.1)] []) (fun r : Int × Me => r = fin)) w) : WL Z (Qf) μ 2515 [(0, vO a0), (1, vO a1), (2, vO a2), (3, vO a3), (4, vI x4)] [] := by
  unfold s_L_law_b2515 at h
  refine r_aload_n C 1 dL_law_2515 rfl rfl ?_
  refine r_aload_n C 0 dL_law_2516 rfl rfl ?_
  refine r_iload C 4 dL_law_2517 rfl ?_
  refine r_iconst C dL_law_2519 ?_
  refine r_iadd C dL_law_2520 ?_
  obtain ⟨v527, ev527, h⟩ := bs h
  refine r_xld C G ev527 dL_law_2521 ?_
  refine r_aload_n C 0 dL_law_2522 rfl rfl ?_
  refine r_iload C 4 dL_law_2523 rfl ?_
  refine r_iconst C dL_law_2525 ?_
  refine r_iadd C dL_law_2526 ?_
  obtain ⟨v528, ev528, h⟩ := bs h
  refine r_xld C G ev528 dL_law_2527 ?_
  refine r_if_eq C dL_law_2528 (tgt := 2535) (by decide) (fun c529 => ?_) (fun c529 => ?_)
  · have h := it_ h c529
    refine r_iconst C dL_law_2535 ?_
    exact w_L_law_b2536 (fin := fin) C G h1 h hK
  · have h := ie_ h c529
    refine r_iconst C dL_law_2531 ?_
    refine r_goto C dL_law_2532 (tgt := 2536) (by decide) ?_
    exact w_L_law_b2536 (fin := fin) C G h1 h hK
noncomputable def s_L_law_b2599 (b n : Nat) (xs : Nat → Int32) (a0 : Nat) (a1 : Nat) (a2 : Nat) (a3 : Nat) (x4 : Int)  (μ : Me) : Option ((Int × Me) ⊕ (Int × Me)) :=
  (gX b n xs a0 (x4 + 1)).bind fun v544 =>
  (gX b n xs a0 (x4 + 2)).bind fun v545 =>
  (gX b n xs a0 (x4 + 3)).bind fun v546 =>
  xb (s_X0_reducedAt a1 v544 v545 v546 a3 μ) (fun e548 => none) fun q547 =>
  (gX b n xs a0 (x4 + 1)).bind fun v549 =>
  (gX b n xs a0 (x4 + 2)).bind fun v550 =>
  (gX b n xs a0 (x4 + 3)).bind fun v551 =>
  (ck q547.2 9 a2).bind fun _ =>
  (s_X11_reducedAt a2 v549 v550 v551 q547.2).bind fun q552 =>
  (ck q552.2 9 a2).bind fun _ =>
  (s_X11_thrown a2 q552.2).bind fun q554 =>
  (if w32 q554.1 = w32 q547.1 then
  (if w32 q547.1 = 0 then
  (aJ q554.2 103 a3 0).bind fun v558 =>
  (if w64 v558 = w64 (w32 q552.1) then
  s_L_law_b2832 b n xs a0 a1 a2 a3 x4 q554.2
  else
  some (.inr (0, q554.2)))
  else
  s_L_law_b2832 b n xs a0 a1 a2 a3 x4 q554.2)
  else
  some (.inr (0, q554.2)))
theorem w_L_law_b2599 {Z : Zt} {nm : String} {Qf : State → Prop} {b n : Nat} {xs : Nat → Int32} {fin : Int × Me} {w : ((Int × Me) ⊕ (Int × Me))} (C : CX Z ⟨RX0, nm, ""⟩ cL_law (some .boolean) 213 8) (G : LX Z Qf b n xs) (h1 : fin.1 = 1) {a0 : Nat} {a1 : Nat} {a2 : Nat} {a3 : Nat} {x4 : Int}  {μ : Me} (h : s_L_law_b2599 b n xs a0 a1 a2 a3 x4 μ = some w) (hK : (Sum.elim (fun s : Int × Me => WL Z (Qf) s.2 23 [(0, vO a0), (1, vO a1), (2, vO a2), (3, vO a3), (4, vI s.1)] []) (fun r : Int × Me => r = fin)) w) : WL Z (Qf) μ 2599 [(0, vO a0), (1, vO a1), (2, vO a2), (3, vO a3), (4, vI x4)] [] := by
  unfold s_L_law_b2599 at h
  refine r_aload_n C 1 dL_law_2599 rfl rfl ?_
  refine r_aload_n C 0 dL_law_2600 rfl rfl ?_
  refine r_iload C 4 dL_law_2601 rfl ?_
  refine r_iconst C dL_law_2603 ?_
  refine r_iadd C dL_law_2604 ?_
  obtain ⟨v544, ev544, h⟩ := bs h
  refine r_xld C G ev544 dL_law_2605 ?_
  refine r_aload_n C 0 dL_law_2606 rfl rfl ?_
  refine r_iload C 4 dL_law_2607 rfl ?_
  refine r_iconst C dL_law_2609 ?_
  refine r_iadd C dL_law_2610 ?_
  obtain ⟨v545, ev545, h⟩ := bs h
  refine r_xld C G ev545 dL_law_2611 ?_
  refine r_aload_n C 0 dL_law_2612 rfl rfl ?_
  refine r_iload C 4 dL_law_2613 rfl ?_
  refine r_iconst C dL_law_2615 ?_
  refine r_iadd C dL_law_2616 ?_
  obtain ⟨v546, ev546, h⟩ := bs h
  refine r_xld C G ev546 dL_law_2617 ?_
  refine r_aload_n C 3 dL_law_2618 rfl rfl ?_
  rcases xbs h with ⟨e548, eq547, h⟩ | ⟨q547, eq547, h⟩
  · cases h
  · refine r_xSH C (As := [vO a1, vI v544, vI v545, vI v546, vO a3]) (rest := []) (st1 := [vI q547.1]) (v := some (vI q547.1)) (μ1 := q547.2) (m_X0_reducedAt C.tr eq547) (lw_SW q1276 q1277 q119 q1278) hdX0_reducedAt rfl rfl (Nat.le_of_ble_eq_true rfl) ⟨by decide, by decide⟩ dL_law_2619 rfl ?_
    refine r_istore C [(5, vI q547.1), (0, vO a0), (1, vO a1), (2, vO a2), (3, vO a3), (4, vI x4)] dL_law_2622 (by decide) rfl ?_
    refine r_aload_n C 3 dL_law_2624 rfl rfl ?_
    refine r_aload_n C 1 dL_law_2625 rfl rfl ?_
    refine r_iload C 5 dL_law_2626 rfl ?_
    refine r_iconst C dL_law_2628 ?_
    refine r_iadd C dL_law_2629 ?_
    obtain ⟨v549, ev549, h⟩ := bs h
    refine r_xld C G ev549 dL_law_2630 ?_
    refine r_aload_n C 1 dL_law_2631 rfl rfl ?_
    refine r_iload C 5 dL_law_2632 rfl ?_
    refine r_iconst C dL_law_2634 ?_
    refine r_iadd C dL_law_2635 ?_
    obtain ⟨v550, ev550, h⟩ := bs h
    refine r_xld C G ev550 dL_law_2636 ?_
    refine r_aload_n C 1 dL_law_2637 rfl rfl ?_
    refine r_iload C 5 dL_law_2638 rfl ?_
    refine r_iconst C dL_law_2640 ?_
    refine r_iadd C dL_law_2641 ?_
    obtain ⟨v551, ev551, h⟩ := bs h
    refine r_xld C G ev551 dL_law_2642 ?_
    obtain ⟨u553, eu553, h⟩ := bs h
    obtain ⟨q552, eq552, h⟩ := bs h
    refine r_callV C (As := [vI v549, vI v550, vI v551]) (b := a2) (rest := []) (st1 := [vI q552.1]) (v := some (vI q552.1)) (r := (RX11, TX11, 38)) (ci := 9) rfl eu553 (m_X11_reducedAt C.tr eq552) (lw_V q1950 q1951 q1952 q133 q1953) rfl hdX11_reducedAt rfl rfl (Nat.le_of_ble_eq_true rfl) ⟨by decide, by decide⟩ dL_law_2643 rfl ?_
    refine r_istore C [(6, vI q552.1), (5, vI q547.1), (0, vO a0), (1, vO a1), (2, vO a2), (3, vO a3), (4, vI x4)] dL_law_2646 (by decide) rfl ?_
    refine r_aload_n C 4 dL_law_2648 rfl rfl ?_
    obtain ⟨u555, eu555, h⟩ := bs h
    obtain ⟨q554, eq554, h⟩ := bs h
    refine r_callV C (As := []) (b := a2) (rest := []) (st1 := [vI q554.1]) (v := some (vI q554.1)) (r := (RX11, TX11, 38)) (ci := 9) rfl eu555 (m_X11_thrown C.tr eq554) (lw_V q1303 q1304 q1305 q133 q1306) rfl hdX11_thrown rfl rfl (Nat.le_of_ble_eq_true rfl) ⟨by decide, by decide⟩ dL_law_2649 rfl ?_
    refine r_iload C 1 dL_law_2652 rfl ?_
    refine r_icmp_eq C dL_law_2654 (tgt := 2659) (by decide) (fun c556 => ?_) (fun c556 => ?_)
    · have h := it_ h c556
      refine r_iload C 1 dL_law_2659 rfl ?_
      refine r_if_ne C dL_law_2661 (tgt := 2676) (by decide) (fun c557 => ?_) (fun c557 => ?_)
      · have h := ie_ h c557
        refine r_goto C dL_law_2676 (tgt := 2832) (by decide) ?_
        refine r_sub [2, 3, 4, 5, 6] rfl ?_
        exact w_L_law_b2832 (fin := fin) C G h1 h hK
      · have h := it_ h c557
        refine r_aload_n C 5 dL_law_2664 rfl rfl ?_
        refine r_iconst C dL_law_2665 ?_
        obtain ⟨v558, ev558, h⟩ := bs h
        refine r_lald C ev558 dL_law_2666 ?_
        refine r_iload C 0 dL_law_2667 rfl ?_
        refine r_i2l C dL_law_2669 ?_
        refine r_lcmp_eq C dL_law_2670 dL_law_2671 (tgt := 2676) (by decide) (fun c559 => ?_) (fun c559 => ?_)
        · have h := it_ h c559
          refine r_goto C dL_law_2676 (tgt := 2832) (by decide) ?_
          refine r_sub [2, 3, 4, 5, 6] rfl ?_
          exact w_L_law_b2832 (fin := fin) C G h1 h hK
        · have h := ie_ h c559
          refine r_iconst C dL_law_2674 ?_
          cases h
          have hK : (0, q554.2) = fin := hK
          subst hK
          exact absurd (show (0 : Int) = 1 from h1) (by decide)
    · have h := ie_ h c556
      refine r_iconst C dL_law_2657 ?_
      cases h
      have hK : (0, q554.2) = fin := hK
      subst hK
      exact absurd (show (0 : Int) = 1 from h1) (by decide)
noncomputable def s_L_law_b2679 (b n : Nat) (xs : Nat → Int32) (a0 : Nat) (a1 : Nat) (a2 : Nat) (a3 : Nat) (x4 : Int)  (μ : Me) : Option ((Int × Me) ⊕ (Int × Me)) :=
  (gX b n xs a0 (x4 + 1)).bind fun v561 =>
  (gX b n xs a0 (x4 + 2)).bind fun v562 =>
  (gX b n xs a0 (x4 + 3)).bind fun v563 =>
  (gX b n xs a0 (x4 + 4)).bind fun v564 =>
  (gX b n xs a0 (x4 + 5)).bind fun v565 =>
  xb (s_X0_real a1 v561 v562 v563 v564 v565 a3 μ) (fun e567 => none) fun q566 =>
  (gX b n xs a0 (x4 + 1)).bind fun v568 =>
  (gX b n xs a0 (x4 + 2)).bind fun v569 =>
  (gX b n xs a0 (x4 + 3)).bind fun v570 =>
  (gX b n xs a0 (x4 + 4)).bind fun v571 =>
  (gX b n xs a0 (x4 + 5)).bind fun v572 =>
  (ck q566.2 9 a2).bind fun _ =>
  (s_X11_real a2 v568 v569 v570 v571 v572 q566.2).bind fun q573 =>
  (ck q573.2 9 a2).bind fun _ =>
  (s_X11_thrown a2 q573.2).bind fun q575 =>
  (if w32 q575.1 = w32 q566.1 then
  (if w32 q566.1 = 0 then
  (aJ q575.2 103 a3 0).bind fun v579 =>
  (if w64 v579 = w64 (w32 q573.1) then
  s_L_law_b2832 b n xs a0 a1 a2 a3 x4 q575.2
  else
  some (.inr (0, q575.2)))
  else
  s_L_law_b2832 b n xs a0 a1 a2 a3 x4 q575.2)
  else
  some (.inr (0, q575.2)))
theorem w_L_law_b2679 {Z : Zt} {nm : String} {Qf : State → Prop} {b n : Nat} {xs : Nat → Int32} {fin : Int × Me} {w : ((Int × Me) ⊕ (Int × Me))} (C : CX Z ⟨RX0, nm, ""⟩ cL_law (some .boolean) 213 8) (G : LX Z Qf b n xs) (h1 : fin.1 = 1) {a0 : Nat} {a1 : Nat} {a2 : Nat} {a3 : Nat} {x4 : Int}  {μ : Me} (h : s_L_law_b2679 b n xs a0 a1 a2 a3 x4 μ = some w) (hK : (Sum.elim (fun s : Int × Me => WL Z (Qf) s.2 23 [(0, vO a0), (1, vO a1), (2, vO a2), (3, vO a3), (4, vI s.1)] []) (fun r : Int × Me => r = fin)) w) : WL Z (Qf) μ 2679 [(0, vO a0), (1, vO a1), (2, vO a2), (3, vO a3), (4, vI x4)] [] := by
  unfold s_L_law_b2679 at h
  refine r_aload_n C 1 dL_law_2679 rfl rfl ?_
  refine r_aload_n C 0 dL_law_2680 rfl rfl ?_
  refine r_iload C 4 dL_law_2681 rfl ?_
  refine r_iconst C dL_law_2683 ?_
  refine r_iadd C dL_law_2684 ?_
  obtain ⟨v561, ev561, h⟩ := bs h
  refine r_xld C G ev561 dL_law_2685 ?_
  refine r_aload_n C 0 dL_law_2686 rfl rfl ?_
  refine r_iload C 4 dL_law_2687 rfl ?_
  refine r_iconst C dL_law_2689 ?_
  refine r_iadd C dL_law_2690 ?_
  obtain ⟨v562, ev562, h⟩ := bs h
  refine r_xld C G ev562 dL_law_2691 ?_
  refine r_aload_n C 0 dL_law_2692 rfl rfl ?_
  refine r_iload C 4 dL_law_2693 rfl ?_
  refine r_iconst C dL_law_2695 ?_
  refine r_iadd C dL_law_2696 ?_
  obtain ⟨v563, ev563, h⟩ := bs h
  refine r_xld C G ev563 dL_law_2697 ?_
  refine r_aload_n C 0 dL_law_2698 rfl rfl ?_
  refine r_iload C 4 dL_law_2699 rfl ?_
  refine r_iconst C dL_law_2701 ?_
  refine r_iadd C dL_law_2702 ?_
  obtain ⟨v564, ev564, h⟩ := bs h
  refine r_xld C G ev564 dL_law_2703 ?_
  refine r_aload_n C 0 dL_law_2704 rfl rfl ?_
  refine r_iload C 4 dL_law_2705 rfl ?_
  refine r_iconst C dL_law_2707 ?_
  refine r_iadd C dL_law_2708 ?_
  obtain ⟨v565, ev565, h⟩ := bs h
  refine r_xld C G ev565 dL_law_2709 ?_
  refine r_aload_n C 3 dL_law_2710 rfl rfl ?_
  rcases xbs h with ⟨e567, eq566, h⟩ | ⟨q566, eq566, h⟩
  · cases h
  · refine r_xSH C (As := [vO a1, vI v561, vI v562, vI v563, vI v564, vI v565, vO a3]) (rest := []) (st1 := [vI q566.1]) (v := some (vI q566.1)) (μ1 := q566.2) (m_X0_real C.tr eq566) (lw_SW q1283 q1284 q119 q1285) hdX0_real rfl rfl (Nat.le_of_ble_eq_true rfl) ⟨by decide, by decide⟩ dL_law_2711 rfl ?_
    refine r_istore C [(5, vI q566.1), (0, vO a0), (1, vO a1), (2, vO a2), (3, vO a3), (4, vI x4)] dL_law_2714 (by decide) rfl ?_
    refine r_aload_n C 3 dL_law_2716 rfl rfl ?_
    refine r_aload_n C 1 dL_law_2717 rfl rfl ?_
    refine r_iload C 5 dL_law_2718 rfl ?_
    refine r_iconst C dL_law_2720 ?_
    refine r_iadd C dL_law_2721 ?_
    obtain ⟨v568, ev568, h⟩ := bs h
    refine r_xld C G ev568 dL_law_2722 ?_
    refine r_aload_n C 1 dL_law_2723 rfl rfl ?_
    refine r_iload C 5 dL_law_2724 rfl ?_
    refine r_iconst C dL_law_2726 ?_
    refine r_iadd C dL_law_2727 ?_
    obtain ⟨v569, ev569, h⟩ := bs h
    refine r_xld C G ev569 dL_law_2728 ?_
    refine r_aload_n C 1 dL_law_2729 rfl rfl ?_
    refine r_iload C 5 dL_law_2730 rfl ?_
    refine r_iconst C dL_law_2732 ?_
    refine r_iadd C dL_law_2733 ?_
    obtain ⟨v570, ev570, h⟩ := bs h
    refine r_xld C G ev570 dL_law_2734 ?_
    refine r_aload_n C 1 dL_law_2735 rfl rfl ?_
    refine r_iload C 5 dL_law_2736 rfl ?_
    refine r_iconst C dL_law_2738 ?_
    refine r_iadd C dL_law_2739 ?_
    obtain ⟨v571, ev571, h⟩ := bs h
    refine r_xld C G ev571 dL_law_2740 ?_
    refine r_aload_n C 1 dL_law_2741 rfl rfl ?_
    refine r_iload C 5 dL_law_2742 rfl ?_
    refine r_iconst C dL_law_2744 ?_
    refine r_iadd C dL_law_2745 ?_
    obtain ⟨v572, ev572, h⟩ := bs h
    refine r_xld C G ev572 dL_law_2746 ?_
    obtain ⟨u574, eu574, h⟩ := bs h
    obtain ⟨q573, eq573, h⟩ := bs h
    refine r_callV C (As := [vI v568, vI v569, vI v570, vI v571, vI v572]) (b := a2) (rest := []) (st1 := [vI q573.1]) (v := some (vI q573.1)) (r := (RX11, TX11, 38)) (ci := 9) rfl eu574 (m_X11_real C.tr eq573) (lw_V q1954 q1955 q1956 q133 q1957) rfl hdX11_real rfl rfl (Nat.le_of_ble_eq_true rfl) ⟨by decide, by decide⟩ dL_law_2747 rfl ?_
    refine r_istore C [(6, vI q573.1), (5, vI q566.1), (0, vO a0), (1, vO a1), (2, vO a2), (3, vO a3), (4, vI x4)] dL_law_2750 (by decide) rfl ?_
    refine r_aload_n C 4 dL_law_2752 rfl rfl ?_
    obtain ⟨u576, eu576, h⟩ := bs h
    obtain ⟨q575, eq575, h⟩ := bs h
    refine r_callV C (As := []) (b := a2) (rest := []) (st1 := [vI q575.1]) (v := some (vI q575.1)) (r := (RX11, TX11, 38)) (ci := 9) rfl eu576 (m_X11_thrown C.tr eq575) (lw_V q1303 q1304 q1305 q133 q1306) rfl hdX11_thrown rfl rfl (Nat.le_of_ble_eq_true rfl) ⟨by decide, by decide⟩ dL_law_2753 rfl ?_
    refine r_iload C 1 dL_law_2756 rfl ?_
    refine r_icmp_eq C dL_law_2758 (tgt := 2763) (by decide) (fun c577 => ?_) (fun c577 => ?_)
    · have h := it_ h c577
      refine r_iload C 1 dL_law_2763 rfl ?_
      refine r_if_ne C dL_law_2765 (tgt := 2780) (by decide) (fun c578 => ?_) (fun c578 => ?_)
      · have h := ie_ h c578
        refine r_goto C dL_law_2780 (tgt := 2832) (by decide) ?_
        refine r_sub [2, 3, 4, 5, 6] rfl ?_
        exact w_L_law_b2832 (fin := fin) C G h1 h hK
      · have h := it_ h c578
        refine r_aload_n C 5 dL_law_2768 rfl rfl ?_
        refine r_iconst C dL_law_2769 ?_
        obtain ⟨v579, ev579, h⟩ := bs h
        refine r_lald C ev579 dL_law_2770 ?_
        refine r_iload C 0 dL_law_2771 rfl ?_
        refine r_i2l C dL_law_2773 ?_
        refine r_lcmp_eq C dL_law_2774 dL_law_2775 (tgt := 2780) (by decide) (fun c580 => ?_) (fun c580 => ?_)
        · have h := it_ h c580
          refine r_goto C dL_law_2780 (tgt := 2832) (by decide) ?_
          refine r_sub [2, 3, 4, 5, 6] rfl ?_
          exact w_L_law_b2832 (fin := fin) C G h1 h hK
        · have h := ie_ h c580
          refine r_iconst C dL_law_2778 ?_
          cases h
          have hK : (0, q575.2) = fin := hK
          subst hK
          exact absurd (show (0 : Int) = 1 from h1) (by decide)
    · have h := ie_ h c577
      refine r_iconst C dL_law_2761 ?_
      cases h
      have hK : (0, q575.2) = fin := hK
      subst hK
      exact absurd (show (0 : Int) = 1 from h1) (by decide)
noncomputable def s_L_law_b2783 (b n : Nat) (xs : Nat → Int32) (a0 : Nat) (a1 : Nat) (a2 : Nat) (a3 : Nat) (x4 : Int)  (μ : Me) : Option ((Int × Me) ⊕ (Int × Me)) :=
  (ck μ 0 a1).bind fun _ =>
  (s_X1_image a1 μ).bind fun q582 =>
  (ck q582 9 a2).bind fun _ =>
  (s_X11_image a2 q582).bind fun q584 =>
  s_L_law_b2832 b n xs a0 a1 a2 a3 x4 q584
theorem w_L_law_b2783 {Z : Zt} {nm : String} {Qf : State → Prop} {b n : Nat} {xs : Nat → Int32} {fin : Int × Me} {w : ((Int × Me) ⊕ (Int × Me))} (C : CX Z ⟨RX0, nm, ""⟩ cL_law (some .boolean) 213 8) (G : LX Z Qf b n xs) (h1 : fin.1 = 1) {a0 : Nat} {a1 : Nat} {a2 : Nat} {a3 : Nat} {x4 : Int}  {μ : Me} (h : s_L_law_b2783 b n xs a0 a1 a2 a3 x4 μ = some w) (hK : (Sum.elim (fun s : Int × Me => WL Z (Qf) s.2 23 [(0, vO a0), (1, vO a1), (2, vO a2), (3, vO a3), (4, vI s.1)] []) (fun r : Int × Me => r = fin)) w) : WL Z (Qf) μ 2783 [(0, vO a0), (1, vO a1), (2, vO a2), (3, vO a3), (4, vI x4)] [] := by
  unfold s_L_law_b2783 at h
  refine r_aload_n C 1 dL_law_2783 rfl rfl ?_
  obtain ⟨u583, eu583, h⟩ := bs h
  obtain ⟨q582, eq582, h⟩ := bs h
  refine r_callV C (As := []) (b := a1) (rest := []) (st1 := []) (v := none) (r := (RX1, TX1, 19)) (ci := 0) rfl eu583 (m_X1_image C.tr eq582) (lw_V q521 q522 q523 q120 q524) rfl hdX1_image rfl rfl (Nat.le_of_ble_eq_true rfl) ⟨by decide, by decide⟩ dL_law_2784 rfl ?_
  refine r_aload_n C 2 dL_law_2787 rfl rfl ?_
  obtain ⟨u585, eu585, h⟩ := bs h
  obtain ⟨q584, eq584, h⟩ := bs h
  refine r_callV C (As := []) (b := a2) (rest := []) (st1 := []) (v := none) (r := (RX11, TX11, 38)) (ci := 9) rfl eu585 (m_X11_image C.tr eq584) (lw_V q1428 q1429 q1430 q133 q1431) rfl hdX11_image rfl rfl (Nat.le_of_ble_eq_true rfl) ⟨by decide, by decide⟩ dL_law_2788 rfl ?_
  refine r_goto C dL_law_2791 (tgt := 2832) (by decide) ?_
  exact w_L_law_b2832 (fin := fin) C G h1 h hK
noncomputable def s_L_law_b2794 (b n : Nat) (xs : Nat → Int32) (a0 : Nat) (a1 : Nat) (a2 : Nat) (a3 : Nat) (x4 : Int)  (μ : Me) : Option ((Int × Me) ⊕ (Int × Me)) :=
  (ck μ 0 a1).bind fun _ =>
  (s_X1_back a1 μ).bind fun q587 =>
  (ck q587.2 9 a2).bind fun _ =>
  (s_X11_back a2 q587.2).bind fun q589 =>
  (if w32 q587.1 = w32 q589.1 then
  s_L_law_b2832 b n xs a0 a1 a2 a3 x4 q589.2
  else
  some (.inr (0, q589.2)))
theorem w_L_law_b2794 {Z : Zt} {nm : String} {Qf : State → Prop} {b n : Nat} {xs : Nat → Int32} {fin : Int × Me} {w : ((Int × Me) ⊕ (Int × Me))} (C : CX Z ⟨RX0, nm, ""⟩ cL_law (some .boolean) 213 8) (G : LX Z Qf b n xs) (h1 : fin.1 = 1) {a0 : Nat} {a1 : Nat} {a2 : Nat} {a3 : Nat} {x4 : Int}  {μ : Me} (h : s_L_law_b2794 b n xs a0 a1 a2 a3 x4 μ = some w) (hK : (Sum.elim (fun s : Int × Me => WL Z (Qf) s.2 23 [(0, vO a0), (1, vO a1), (2, vO a2), (3, vO a3), (4, vI s.1)] []) (fun r : Int × Me => r = fin)) w) : WL Z (Qf) μ 2794 [(0, vO a0), (1, vO a1), (2, vO a2), (3, vO a3), (4, vI x4)] [] := by
  unfold s_L_law_b2794 at h
  refine r_aload_n C 1 dL_law_2794 rfl rfl ?_
  obtain ⟨u588, eu588, h⟩ := bs h
  obtain ⟨q587, eq587, h⟩ := bs h
  refine r_callV C (As := []) (b := a1) (rest := []) (st1 := [vI q587.1]) (v := some (vI q587.1)) (r := (RX1, TX1, 19)) (ci := 0) rfl eu588 (m_X1_back C.tr eq587) (lw_V q536 q537 q538 q120 q539) rfl hdX1_back rfl rfl (Nat.le_of_ble_eq_true rfl) ⟨by decide, by decide⟩ dL_law_2795 rfl ?_
  refine r_aload_n C 2 dL_law_2798 rfl rfl ?_
  obtain ⟨u590, eu590, h⟩ := bs h
  obtain ⟨q589, eq589, h⟩ := bs h
  refine r_callV C (As := []) (b := a2) (rest := [vI q587.1]) (st1 := [vI q589.1, vI q587.1]) (v := some (vI q589.1)) (r := (RX11, TX11, 38)) (ci := 9) rfl eu590 (m_X11_back C.tr eq589) (lw_V q1432 q1433 q1434 q133 q1435) rfl hdX11_back rfl rfl (Nat.le_of_ble_eq_true rfl) ⟨by decide, by decide⟩ dL_law_2799 rfl ?_
  refine r_icmp_eq C dL_law_2802 (tgt := 2832) (by decide) (fun c591 => ?_) (fun c591 => ?_)
  · have h := it_ h c591
    exact w_L_law_b2832 (fin := fin) C G h1 h hK
  · have h := ie_ h c591
    refine r_iconst C dL_law_2805 ?_
    cases h
    have hK : (0, q589.2) = fin := hK
    subst hK
    exact absurd (show (0 : Int) = 1 from h1) (by decide)
noncomputable def s_L_law_b2807 (b n : Nat) (xs : Nat → Int32) (a0 : Nat) (a1 : Nat) (a2 : Nat) (a3 : Nat) (x4 : Int)  (μ : Me) : Option ((Int × Me) ⊕ (Int × Me)) :=
  (gX b n xs a0 (x4 + 1)).bind fun v593 =>
  (ck μ 0 a1).bind fun _ =>
  (s_X1_stock a1 v593 μ).bind fun q594 =>
  (gX b n xs a0 (x4 + 1)).bind fun v596 =>
  (ck q594.2 9 a2).bind fun _ =>
  (s_X11_stock a2 v596 q594.2).bind fun q597 =>
  (if w32 q594.1 = w32 q597.1 then
  s_L_law_b2832 b n xs a0 a1 a2 a3 x4 q597.2
  else
  some (.inr (0, q597.2)))
theorem w_L_law_b2807 {Z : Zt} {nm : String} {Qf : State → Prop} {b n : Nat} {xs : Nat → Int32} {fin : Int × Me} {w : ((Int × Me) ⊕ (Int × Me))} (C : CX Z ⟨RX0, nm, ""⟩ cL_law (some .boolean) 213 8) (G : LX Z Qf b n xs) (h1 : fin.1 = 1) {a0 : Nat} {a1 : Nat} {a2 : Nat} {a3 : Nat} {x4 : Int}  {μ : Me} (h : s_L_law_b2807 b n xs a0 a1 a2 a3 x4 μ = some w) (hK : (Sum.elim (fun s : Int × Me => WL Z (Qf) s.2 23 [(0, vO a0), (1, vO a1), (2, vO a2), (3, vO a3), (4, vI s.1)] []) (fun r : Int × Me => r = fin)) w) : WL Z (Qf) μ 2807 [(0, vO a0), (1, vO a1), (2, vO a2), (3, vO a3), (4, vI x4)] [] := by
  unfold s_L_law_b2807 at h
  refine r_aload_n C 1 dL_law_2807 rfl rfl ?_
  refine r_aload_n C 0 dL_law_2808 rfl rfl ?_
  refine r_iload C 4 dL_law_2809 rfl ?_
  refine r_iconst C dL_law_2811 ?_
  refine r_iadd C dL_law_2812 ?_
  obtain ⟨v593, ev593, h⟩ := bs h
  refine r_xld C G ev593 dL_law_2813 ?_
  obtain ⟨u595, eu595, h⟩ := bs h
  obtain ⟨q594, eq594, h⟩ := bs h
  refine r_callV C (As := [vI v593]) (b := a1) (rest := []) (st1 := [vI q594.1]) (v := some (vI q594.1)) (r := (RX1, TX1, 19)) (ci := 0) rfl eu595 (m_X1_stock C.tr eq594) (lw_V q540 q541 q542 q120 q543) rfl hdX1_stock rfl rfl (Nat.le_of_ble_eq_true rfl) ⟨by decide, by decide⟩ dL_law_2814 rfl ?_
  refine r_aload_n C 2 dL_law_2817 rfl rfl ?_
  refine r_aload_n C 0 dL_law_2818 rfl rfl ?_
  refine r_iload C 4 dL_law_2819 rfl ?_
  refine r_iconst C dL_law_2821 ?_
  refine r_iadd C dL_law_2822 ?_
  obtain ⟨v596, ev596, h⟩ := bs h
  refine r_xld C G ev596 dL_law_2823 ?_
  obtain ⟨u598, eu598, h⟩ := bs h
  obtain ⟨q597, eq597, h⟩ := bs h
  refine r_callV C (As := [vI v596]) (b := a2) (rest := [vI q594.1]) (st1 := [vI q597.1, vI q594.1]) (v := some (vI q597.1)) (r := (RX11, TX11, 38)) (ci := 9) rfl eu598 (m_X11_stock C.tr eq597) (lw_V q1976 q1977 q1978 q133 q1979) rfl hdX11_stock rfl rfl (Nat.le_of_ble_eq_true rfl) ⟨by decide, by decide⟩ dL_law_2824 rfl ?_
  refine r_icmp_eq C dL_law_2827 (tgt := 2832) (by decide) (fun c599 => ?_) (fun c599 => ?_)
  · have h := it_ h c599
    exact w_L_law_b2832 (fin := fin) C G h1 h hK
  · have h := ie_ h c599
    refine r_iconst C dL_law_2830 ?_
    cases h
    have hK : (0, q597.2) = fin := hK
    subst hK
    exact absurd (show (0 : Int) = 1 from h1) (by decide)
noncomputable def s_L_law_l23_st (b n : Nat) (xs : Nat → Int32) (a0 : Nat) (a1 : Nat) (a2 : Nat) (a3 : Nat) (x4 : Int) (μ : Me) : Option ((Int × Me) ⊕ (Int × Me)) :=
  (lX b n a0).bind fun v6 =>
  (if w32 (v6 - 6) < w32 x4 then
  some (.inr (1, μ))
  else
  (gX b n xs a0 x4).bind fun v8 =>
  (if w32 (anI v8 63) = 0 then
  s_L_law_b224 b n xs a0 a1 a2 a3 x4 μ
  else
  if w32 (anI v8 63) = 1 then
  s_L_law_b297 b n xs a0 a1 a2 a3 x4 μ
  else
  if w32 (anI v8 63) = 2 then
  s_L_law_b322 b n xs a0 a1 a2 a3 x4 μ
  else
  if w32 (anI v8 63) = 3 then
  s_L_law_b358 b n xs a0 a1 a2 a3 x4 μ
  else
  if w32 (anI v8 63) = 4 then
  s_L_law_b402 b n xs a0 a1 a2 a3 x4 μ
  else
  if w32 (anI v8 63) = 5 then
  s_L_law_b494 b n xs a0 a1 a2 a3 x4 μ
  else
  if w32 (anI v8 63) = 6 then
  s_L_law_b538 b n xs a0 a1 a2 a3 x4 μ
  else
  if w32 (anI v8 63) = 7 then
  s_L_law_b551 b n xs a0 a1 a2 a3 x4 μ
  else
  if w32 (anI v8 63) = 8 then
  s_L_law_b619 b n xs a0 a1 a2 a3 x4 μ
  else
  if w32 (anI v8 63) = 9 then
  s_L_law_b699 b n xs a0 a1 a2 a3 x4 μ
  else
  if w32 (anI v8 63) = 10 then
  s_L_law_b755 b n xs a0 a1 a2 a3 x4 μ
  else
  if w32 (anI v8 63) = 11 then
  s_L_law_b830 b n xs a0 a1 a2 a3 x4 μ
  else
  if w32 (anI v8 63) = 12 then
  s_L_law_b843 b n xs a0 a1 a2 a3 x4 μ
  else
  if w32 (anI v8 63) = 13 then
  s_L_law_b856 b n xs a0 a1 a2 a3 x4 μ
  else
  if w32 (anI v8 63) = 14 then
  s_L_law_b936 b n xs a0 a1 a2 a3 x4 μ
  else
  if w32 (anI v8 63) = 15 then
  s_L_law_b1020 b n xs a0 a1 a2 a3 x4 μ
  else
  if w32 (anI v8 63) = 16 then
  s_L_law_b1107 b n xs a0 a1 a2 a3 x4 μ
  else
  if w32 (anI v8 63) = 17 then
  s_L_law_b1187 b n xs a0 a1 a2 a3 x4 μ
  else
  if w32 (anI v8 63) = 18 then
  s_L_law_b1266 b n xs a0 a1 a2 a3 x4 μ
  else
  if w32 (anI v8 63) = 19 then
  s_L_law_b1346 b n xs a0 a1 a2 a3 x4 μ
  else
  if w32 (anI v8 63) = 20 then
  s_L_law_b1426 b n xs a0 a1 a2 a3 x4 μ
  else
  if w32 (anI v8 63) = 21 then
  s_L_law_b1482 b n xs a0 a1 a2 a3 x4 μ
  else
  if w32 (anI v8 63) = 22 then
  s_L_law_b1538 b n xs a0 a1 a2 a3 x4 μ
  else
  if w32 (anI v8 63) = 23 then
  s_L_law_b1606 b n xs a0 a1 a2 a3 x4 μ
  else
  if w32 (anI v8 63) = 24 then
  s_L_law_b1662 b n xs a0 a1 a2 a3 x4 μ
  else
  if w32 (anI v8 63) = 25 then
  s_L_law_b1730 b n xs a0 a1 a2 a3 x4 μ
  else
  if w32 (anI v8 63) = 26 then
  s_L_law_b1810 b n xs a0 a1 a2 a3 x4 μ
  else
  if w32 (anI v8 63) = 27 then
  s_L_law_b1873 b n xs a0 a1 a2 a3 x4 μ
  else
  if w32 (anI v8 63) = 28 then
  s_L_law_b1941 b n xs a0 a1 a2 a3 x4 μ
  else
  if w32 (anI v8 63) = 29 then
  s_L_law_b1997 b n xs a0 a1 a2 a3 x4 μ
  else
  if w32 (anI v8 63) = 30 then
  s_L_law_b2060 b n xs a0 a1 a2 a3 x4 μ
  else
  if w32 (anI v8 63) = 31 then
  s_L_law_b2128 b n xs a0 a1 a2 a3 x4 μ
  else
  if w32 (anI v8 63) = 32 then
  s_L_law_b2184 b n xs a0 a1 a2 a3 x4 μ
  else
  if w32 (anI v8 63) = 33 then
  s_L_law_b2252 b n xs a0 a1 a2 a3 x4 μ
  else
  if w32 (anI v8 63) = 34 then
  s_L_law_b2332 b n xs a0 a1 a2 a3 x4 μ
  else
  if w32 (anI v8 63) = 35 then
  s_L_law_b2424 b n xs a0 a1 a2 a3 x4 μ
  else
  if w32 (anI v8 63) = 36 then
  s_L_law_b2515 b n xs a0 a1 a2 a3 x4 μ
  else
  if w32 (anI v8 63) = 37 then
  s_L_law_b2599 b n xs a0 a1 a2 a3 x4 μ
  else
  if w32 (anI v8 63) = 38 then
  s_L_law_b2679 b n xs a0 a1 a2 a3 x4 μ
  else
  if w32 (anI v8 63) = 39 then
  s_L_law_b2783 b n xs a0 a1 a2 a3 x4 μ
  else
  if w32 (anI v8 63) = 40 then
  s_L_law_b2794 b n xs a0 a1 a2 a3 x4 μ
  else
  if w32 (anI v8 63) = 41 then
  s_L_law_b2807 b n xs a0 a1 a2 a3 x4 μ
  else
  s_L_law_b2832 b n xs a0 a1 a2 a3 x4 μ))
theorem w_L_law_l23_st {Z : Zt} {nm : String} {Qf : State → Prop} {b n : Nat} {xs : Nat → Int32} {fin : Int × Me} {w : ((Int × Me) ⊕ (Int × Me))} (C : CX Z ⟨RX0, nm, ""⟩ cL_law (some .boolean) 213 8) (G : LX Z Qf b n xs) (h1 : fin.1 = 1) {a0 : Nat} {a1 : Nat} {a2 : Nat} {a3 : Nat} {x4 : Int} {μ : Me} (h : s_L_law_l23_st b n xs a0 a1 a2 a3 x4 μ = some w) (hK : (Sum.elim (fun s : Int × Me => WL Z (Qf) s.2 23 [(0, vO a0), (1, vO a1), (2, vO a2), (3, vO a3), (4, vI s.1)] []) (fun r : Int × Me => r = fin)) w) : WL Z (Qf) μ 23 [(0, vO a0), (1, vO a1), (2, vO a2), (3, vO a3), (4, vI x4)] [] := by
  unfold s_L_law_l23_st at h
  refine r_iload C 4 dL_law_23 rfl ?_
  refine r_aload_n C 0 dL_law_25 rfl rfl ?_
  obtain ⟨v6, ev6, h⟩ := bs h
  refine r_xlen C G ev6 dL_law_26 ?_
  refine r_bipush C dL_law_27 (by decide) ?_
  refine r_isub C dL_law_29 ?_
  refine r_icmp_gt C dL_law_30 (tgt := 2838) (by decide) (fun c7 => ?_) (fun c7 => ?_)
  · have h := it_ h c7
    refine r_iconst C dL_law_2838 ?_
    cases h
    exact r_lawret G dL_law_2839
  · have h := ie_ h c7
    refine r_aload_n C 0 dL_law_33 rfl rfl ?_
    refine r_iload C 4 dL_law_34 rfl ?_
    obtain ⟨v8, ev8, h⟩ := bs h
    refine r_xld C G ev8 dL_law_36 ?_
    refine r_bipush C dL_law_37 (by decide) ?_
    refine r_iand C dL_law_39 ?_
    by_cases c24 : w32 (anI v8 63) = 0
    · have h := it_ h c24
      refine r_tsIn (tgt := 224) C dL_law_40 c24 (by decide) (by decide) rfl (by decide) ?_
      exact w_L_law_b224 (fin := fin) C G h1 h hK
    have h := ie_ h c24
    by_cases c32 : w32 (anI v8 63) = 1
    · have h := it_ h c32
      refine r_tsIn (tgt := 297) C dL_law_40 c32 (by decide) (by decide) rfl (by decide) ?_
      exact w_L_law_b297 (fin := fin) C G h1 h hK
    have h := ie_ h c32
    by_cases c42 : w32 (anI v8 63) = 2
    · have h := it_ h c42
      refine r_tsIn (tgt := 322) C dL_law_40 c42 (by decide) (by decide) rfl (by decide) ?_
      exact w_L_law_b322 (fin := fin) C G h1 h hK
    have h := ie_ h c42
    by_cases c53 : w32 (anI v8 63) = 3
    · have h := it_ h c53
      refine r_tsIn (tgt := 358) C dL_law_40 c53 (by decide) (by decide) rfl (by decide) ?_
      exact w_L_law_b358 (fin := fin) C G h1 h hK
    have h := ie_ h c53
    by_cases c72 : w32 (anI v8 63) = 4
    · have h := it_ h c72
      refine r_tsIn (tgt := 402) C dL_law_40 c72 (by decide) (by decide) rfl (by decide) ?_
      exact w_L_law_b402 (fin := fin) C G h1 h hK
    have h := ie_ h c72
    by_cases c83 : w32 (anI v8 63) = 5
    · have h := it_ h c83
      refine r_tsIn (tgt := 494) C dL_law_40 c83 (by decide) (by decide) rfl (by decide) ?_
      exact w_L_law_b494 (fin := fin) C G h1 h hK
    have h := ie_ h c83
    by_cases c89 : w32 (anI v8 63) = 6
    · have h := it_ h c89
      refine r_tsIn (tgt := 538) C dL_law_40 c89 (by decide) (by decide) rfl (by decide) ?_
      exact w_L_law_b538 (fin := fin) C G h1 h hK
    have h := ie_ h c89
    by_cases c104 : w32 (anI v8 63) = 7
    · have h := it_ h c104
      refine r_tsIn (tgt := 551) C dL_law_40 c104 (by decide) (by decide) rfl (by decide) ?_
      exact w_L_law_b551 (fin := fin) C G h1 h hK
    have h := ie_ h c104
    by_cases c121 : w32 (anI v8 63) = 8
    · have h := it_ h c121
      refine r_tsIn (tgt := 619) C dL_law_40 c121 (by decide) (by decide) rfl (by decide) ?_
      exact w_L_law_b619 (fin := fin) C G h1 h hK
    have h := ie_ h c121
    by_cases c134 : w32 (anI v8 63) = 9
    · have h := it_ h c134
      refine r_tsIn (tgt := 699) C dL_law_40 c134 (by decide) (by decide) rfl (by decide) ?_
      exact w_L_law_b699 (fin := fin) C G h1 h hK
    have h := ie_ h c134
    by_cases c151 : w32 (anI v8 63) = 10
    · have h := it_ h c151
      refine r_tsIn (tgt := 755) C dL_law_40 c151 (by decide) (by decide) rfl (by decide) ?_
      exact w_L_law_b755 (fin := fin) C G h1 h hK
    have h := ie_ h c151
    by_cases c157 : w32 (anI v8 63) = 11
    · have h := it_ h c157
      refine r_tsIn (tgt := 830) C dL_law_40 c157 (by decide) (by decide) rfl (by decide) ?_
      exact w_L_law_b830 (fin := fin) C G h1 h hK
    have h := ie_ h c157
    by_cases c163 : w32 (anI v8 63) = 12
    · have h := it_ h c163
      refine r_tsIn (tgt := 843) C dL_law_40 c163 (by decide) (by decide) rfl (by decide) ?_
      exact w_L_law_b843 (fin := fin) C G h1 h hK
    have h := ie_ h c163
    by_cases c180 : w32 (anI v8 63) = 13
    · have h := it_ h c180
      refine r_tsIn (tgt := 856) C dL_law_40 c180 (by decide) (by decide) rfl (by decide) ?_
      exact w_L_law_b856 (fin := fin) C G h1 h hK
    have h := ie_ h c180
    by_cases c197 : w32 (anI v8 63) = 14
    · have h := it_ h c197
      refine r_tsIn (tgt := 936) C dL_law_40 c197 (by decide) (by decide) rfl (by decide) ?_
      exact w_L_law_b936 (fin := fin) C G h1 h hK
    have h := ie_ h c197
    by_cases c216 : w32 (anI v8 63) = 15
    · have h := it_ h c216
      refine r_tsIn (tgt := 1020) C dL_law_40 c216 (by decide) (by decide) rfl (by decide) ?_
      exact w_L_law_b1020 (fin := fin) C G h1 h hK
    have h := ie_ h c216
    by_cases c233 : w32 (anI v8 63) = 16
    · have h := it_ h c233
      refine r_tsIn (tgt := 1107) C dL_law_40 c233 (by decide) (by decide) rfl (by decide) ?_
      exact w_L_law_b1107 (fin := fin) C G h1 h hK
    have h := ie_ h c233
    by_cases c250 : w32 (anI v8 63) = 17
    · have h := it_ h c250
      refine r_tsIn (tgt := 1187) C dL_law_40 c250 (by decide) (by decide) rfl (by decide) ?_
      exact w_L_law_b1187 (fin := fin) C G h1 h hK
    have h := ie_ h c250
    by_cases c267 : w32 (anI v8 63) = 18
    · have h := it_ h c267
      refine r_tsIn (tgt := 1266) C dL_law_40 c267 (by decide) (by decide) rfl (by decide) ?_
      exact w_L_law_b1266 (fin := fin) C G h1 h hK
    have h := ie_ h c267
    by_cases c284 : w32 (anI v8 63) = 19
    · have h := it_ h c284
      refine r_tsIn (tgt := 1346) C dL_law_40 c284 (by decide) (by decide) rfl (by decide) ?_
      exact w_L_law_b1346 (fin := fin) C G h1 h hK
    have h := ie_ h c284
    by_cases c297 : w32 (anI v8 63) = 20
    · have h := it_ h c297
      refine r_tsIn (tgt := 1426) C dL_law_40 c297 (by decide) (by decide) rfl (by decide) ?_
      exact w_L_law_b1426 (fin := fin) C G h1 h hK
    have h := ie_ h c297
    by_cases c310 : w32 (anI v8 63) = 21
    · have h := it_ h c310
      refine r_tsIn (tgt := 1482) C dL_law_40 c310 (by decide) (by decide) rfl (by decide) ?_
      exact w_L_law_b1482 (fin := fin) C G h1 h hK
    have h := ie_ h c310
    by_cases c325 : w32 (anI v8 63) = 22
    · have h := it_ h c325
      refine r_tsIn (tgt := 1538) C dL_law_40 c325 (by decide) (by decide) rfl (by decide) ?_
      exact w_L_law_b1538 (fin := fin) C G h1 h hK
    have h := ie_ h c325
    by_cases c338 : w32 (anI v8 63) = 23
    · have h := it_ h c338
      refine r_tsIn (tgt := 1606) C dL_law_40 c338 (by decide) (by decide) rfl (by decide) ?_
      exact w_L_law_b1606 (fin := fin) C G h1 h hK
    have h := ie_ h c338
    by_cases c353 : w32 (anI v8 63) = 24
    · have h := it_ h c353
      refine r_tsIn (tgt := 1662) C dL_law_40 c353 (by decide) (by decide) rfl (by decide) ?_
      exact w_L_law_b1662 (fin := fin) C G h1 h hK
    have h := ie_ h c353
    by_cases c370 : w32 (anI v8 63) = 25
    · have h := it_ h c370
      refine r_tsIn (tgt := 1730) C dL_law_40 c370 (by decide) (by decide) rfl (by decide) ?_
      exact w_L_law_b1730 (fin := fin) C G h1 h hK
    have h := ie_ h c370
    by_cases c385 : w32 (anI v8 63) = 26
    · have h := it_ h c385
      refine r_tsIn (tgt := 1810) C dL_law_40 c385 (by decide) (by decide) rfl (by decide) ?_
      exact w_L_law_b1810 (fin := fin) C G h1 h hK
    have h := ie_ h c385
    by_cases c400 : w32 (anI v8 63) = 27
    · have h := it_ h c400
      refine r_tsIn (tgt := 1873) C dL_law_40 c400 (by decide) (by decide) rfl (by decide) ?_
      exact w_L_law_b1873 (fin := fin) C G h1 h hK
    have h := ie_ h c400
    by_cases c413 : w32 (anI v8 63) = 28
    · have h := it_ h c413
      refine r_tsIn (tgt := 1941) C dL_law_40 c413 (by decide) (by decide) rfl (by decide) ?_
      exact w_L_law_b1941 (fin := fin) C G h1 h hK
    have h := ie_ h c413
    by_cases c428 : w32 (anI v8 63) = 29
    · have h := it_ h c428
      refine r_tsIn (tgt := 1997) C dL_law_40 c428 (by decide) (by decide) rfl (by decide) ?_
      exact w_L_law_b1997 (fin := fin) C G h1 h hK
    have h := ie_ h c428
    by_cases c443 : w32 (anI v8 63) = 30
    · have h := it_ h c443
      refine r_tsIn (tgt := 2060) C dL_law_40 c443 (by decide) (by decide) rfl (by decide) ?_
      exact w_L_law_b2060 (fin := fin) C G h1 h hK
    have h := ie_ h c443
    by_cases c456 : w32 (anI v8 63) = 31
    · have h := it_ h c456
      refine r_tsIn (tgt := 2128) C dL_law_40 c456 (by decide) (by decide) rfl (by decide) ?_
      exact w_L_law_b2128 (fin := fin) C G h1 h hK
    have h := ie_ h c456
    by_cases c471 : w32 (anI v8 63) = 32
    · have h := it_ h c471
      refine r_tsIn (tgt := 2184) C dL_law_40 c471 (by decide) (by decide) rfl (by decide) ?_
      exact w_L_law_b2184 (fin := fin) C G h1 h hK
    have h := ie_ h c471
    by_cases c488 : w32 (anI v8 63) = 33
    · have h := it_ h c488
      refine r_tsIn (tgt := 2252) C dL_law_40 c488 (by decide) (by decide) rfl (by decide) ?_
      exact w_L_law_b2252 (fin := fin) C G h1 h hK
    have h := ie_ h c488
    by_cases c507 : w32 (anI v8 63) = 34
    · have h := it_ h c507
      refine r_tsIn (tgt := 2332) C dL_law_40 c507 (by decide) (by decide) rfl (by decide) ?_
      exact w_L_law_b2332 (fin := fin) C G h1 h hK
    have h := ie_ h c507
    by_cases c526 : w32 (anI v8 63) = 35
    · have h := it_ h c526
      refine r_tsIn (tgt := 2424) C dL_law_40 c526 (by decide) (by decide) rfl (by decide) ?_
      exact w_L_law_b2424 (fin := fin) C G h1 h hK
    have h := ie_ h c526
    by_cases c543 : w32 (anI v8 63) = 36
    · have h := it_ h c543
      refine r_tsIn (tgt := 2515) C dL_law_40 c543 (by decide) (by decide) rfl (by decide) ?_
      exact w_L_law_b2515 (fin := fin) C G h1 h hK
    have h := ie_ h c543
    by_cases c560 : w32 (anI v8 63) = 37
    · have h := it_ h c560
      refine r_tsIn (tgt := 2599) C dL_law_40 c560 (by decide) (by decide) rfl (by decide) ?_
      exact w_L_law_b2599 (fin := fin) C G h1 h hK
    have h := ie_ h c560
    by_cases c581 : w32 (anI v8 63) = 38
    · have h := it_ h c581
      refine r_tsIn (tgt := 2679) C dL_law_40 c581 (by decide) (by decide) rfl (by decide) ?_
      exact w_L_law_b2679 (fin := fin) C G h1 h hK
    have h := ie_ h c581
    by_cases c586 : w32 (anI v8 63) = 39
    · have h := it_ h c586
      refine r_tsIn (tgt := 2783) C dL_law_40 c586 (by decide) (by decide) rfl (by decide) ?_
      exact w_L_law_b2783 (fin := fin) C G h1 h hK
    have h := ie_ h c586
    by_cases c592 : w32 (anI v8 63) = 40
    · have h := it_ h c592
      refine r_tsIn (tgt := 2794) C dL_law_40 c592 (by decide) (by decide) rfl (by decide) ?_
      exact w_L_law_b2794 (fin := fin) C G h1 h hK
    have h := ie_ h c592
    by_cases c600 : w32 (anI v8 63) = 41
    · have h := it_ h c600
      refine r_tsIn (tgt := 2807) C dL_law_40 c600 (by decide) (by decide) rfl (by decide) ?_
      exact w_L_law_b2807 (fin := fin) C G h1 h hK
    have h := ie_ h c600
    refine r_tsOut (tgt := 2832) C dL_law_40 (by omega) (by decide) ?_
    exact w_L_law_b2832 (fin := fin) C G h1 h hK
noncomputable def s_L_law_l23 (b n : Nat) (xs : Nat → Int32) (a0 : Nat) (a1 : Nat) (a2 : Nat) (a3 : Nat) (x4 : Int) (μ : Me) : Option (Int × Me) :=
  whileO (fun s : Int × Me => s_L_law_l23_st b n xs a0 a1 a2 a3 s.1 s.2) (x4, μ)
theorem e_L_law_l23 (b n : Nat) (xs : Nat → Int32) (a0 : Nat) (a1 : Nat) (a2 : Nat) (a3 : Nat) (x4 : Int) (μ : Me) : s_L_law_l23 b n xs a0 a1 a2 a3 x4 μ = (s_L_law_l23_st b n xs a0 a1 a2 a3 x4 μ).bind fun x => x.elim (fun s : Int × Me => s_L_law_l23 b n xs a0 a1 a2 a3 s.1 s.2) some := whileO_eq _ _
theorem w_L_law_l23 {Z : Zt} {nm : String} {Qf : State → Prop} {b n : Nat} {xs : Nat → Int32} {fin : Int × Me} {w : (Int × Me)} (C : CX Z ⟨RX0, nm, ""⟩ cL_law (some .boolean) 213 8) (G : LX Z Qf b n xs) (h1 : fin.1 = 1) {a0 : Nat} {a1 : Nat} {a2 : Nat} {a3 : Nat} {x4 : Int} {μ : Me} (h : s_L_law_l23 b n xs a0 a1 a2 a3 x4 μ = some w) (hK : (fun r : Int × Me => r = fin) w) : WL Z (Qf) μ 23 [(0, vO a0), (1, vO a1), (2, vO a2), (3, vO a3), (4, vI x4)] [] := by
  refine whileO_walk (w := w) (fun s : Int × Me => WL Z (Qf) s.2 23 [(0, vO a0), (1, vO a1), (2, vO a2), (3, vO a3), (4, vI s.1)] []) (fun s v h2 hi hr => ?_) (x4, μ) h
  refine w_L_law_l23_st (fin := fin) C G h1 h2 ?_
  cases v with
  | inl s2 => exact hi s2 rfl
  | inr r => have e := hr r rfl; subst e; exact hK
noncomputable def s_L_law (b n : Nat) (xs : Nat → Int32) (a0 : Nat) (μ : Me) : Option (Int × Me) :=
  (nO μ 0 19).bind fun q1 =>
  (s_X1_init q1.1  q1.2).bind fun q2 =>
  (nO q2 9 38).bind fun q3 =>
  (s_X11_init q3.1  q3.2).bind fun q4 =>
  (nA q4 103 1).bind fun q5 =>
  s_L_law_l23 b n xs a0 q1.1 q3.1 q5.1 0 q5.2
theorem w_L_law {Z : Zt} {nm : String} {Qf : State → Prop} {b n : Nat} {xs : Nat → Int32} {fin : Int × Me} {w : Int × Me} (C : CX Z ⟨RX0, nm, ""⟩ cL_law (some .boolean) 213 8) (G : LX Z Qf b n xs) (h1 : fin.1 = 1) {a0 : Nat} {μ : Me} (h : s_L_law b n xs a0 μ = some w) (hK : w = fin) : WL Z (Qf) μ 0 [(0, vO a0)] [] := by
  unfold s_L_law at h
  obtain ⟨q1, eq1, h⟩ := bs h
  refine r_new C (c := 0) (r := (RX1, TX1, 19)) rfl eq1 q150 q151 q120 dL_law_0 ?_
  refine r_dup C dL_law_3 rfl ?_
  obtain ⟨q2, eq2, h⟩ := bs h
  refine r_callI C (As := []) (b := q1.1) (rest := [vO q1.1]) (st1 := [vO q1.1]) (v := none) (m_X1_init C.tr eq2) q152 q154 q120 q153 rfl hdX1_init rfl rfl (Nat.le_of_ble_eq_true rfl) ⟨by decide, by decide⟩ dL_law_4 rfl ?_
  refine r_astore_n C [(1, vO q1.1), (0, vO a0)] dL_law_7 rfl (by decide) rfl ?_
  obtain ⟨q3, eq3, h⟩ := bs h
  refine r_new C (c := 9) (r := (RX11, TX11, 38)) rfl eq3 q1307 q1308 q133 dL_law_8 ?_
  refine r_dup C dL_law_11 rfl ?_
  obtain ⟨q4, eq4, h⟩ := bs h
  refine r_callI C (As := []) (b := q3.1) (rest := [vO q3.1]) (st1 := [vO q3.1]) (v := none) (m_X11_init C.tr eq4) q1309 q1311 q133 q1310 rfl hdX11_init rfl rfl (Nat.le_of_ble_eq_true rfl) ⟨by decide, by decide⟩ dL_law_12 rfl ?_
  refine r_astore_n C [(2, vO q3.1), (1, vO q1.1), (0, vO a0)] dL_law_15 rfl (by decide) rfl ?_
  refine r_iconst C dL_law_16 ?_
  obtain ⟨q5, eq5, h⟩ := bs h
  refine r_newa C (t := 103) (kt := 2) (ty := .long) eq5 rfl (Or.inr (Or.inr ⟨rfl, rfl, rfl⟩)) q486 dL_law_17 ?_
  refine r_astore_n C [(3, vO q5.1), (2, vO q3.1), (1, vO q1.1), (0, vO a0)] dL_law_19 rfl (by decide) rfl ?_
  refine r_iconst C dL_law_20 ?_
  refine r_istore C [(4, vI 0), (3, vO q5.1), (2, vO q3.1), (1, vO q1.1), (0, vO a0)] dL_law_21 (by decide) rfl ?_
  refine r_sub [4, 3, 2, 1, 0] rfl ?_
  exact w_L_law_l23 (fin := fin) C G h1 h hK
