/-! printed by gen/walk.py -/
set_option maxRecDepth 100000
set_option maxHeartbeats 4000000

noncomputable def s_X3_init (a0 : Nat) (μ : Me) : Option (Me) :=
  some μ
theorem w_X3_init {Z : Zt} {fin : Me} {w : Me} (C : CX Z yX3_init cX3_init none 1 1) {a0 : Nat} {μ : Me} (h : s_X3_init a0 μ = some w) (hK : w = fin) : WL Z (QN Z none fin) μ 0 [(0, vO a0)] [] := by
  unfold s_X3_init at h
  refine r_aload_n C 0 dX3_init_0 rfl rfl ?_
  refine r_objInit C q172 q156 q157 (by decide) (Nat.le_of_ble_eq_true rfl) dX3_init_1 ?_
  cases h
  exact r_vret C hK dX3_init_4
theorem hdX3_init : zhd yX3_init 0 := by decide +kernel
theorem m_X3_init {l : Launch} {D : va_G} {b0 : Nat} (hl : l.stackTraces = false) {a0 : Nat} {μ : Me} {w : Me} (h : s_X3_init a0 μ = some w) : MN l D b0 yX3_init (ws_ yX3_init cX3_init 1 none) 1 [vO a0] μ none w :=
  MN.of hl (by decide +kernel) (Nat.le_of_ble_eq_true rfl) (fun Z C _ _ => w_X3_init C h rfl)
noncomputable def s_X4_init (a0 : Nat) (μ : Me) : Option (Me) :=
  (s_X3_init a0  μ).bind fun q1 =>
  some q1
theorem w_X4_init {Z : Zt} {fin : Me} {w : Me} (C : CX Z yX4_init cX4_init none 2 1) {a0 : Nat} {μ : Me} (h : s_X4_init a0 μ = some w) (hK : w = fin) : WL Z (QN Z none fin) μ 0 [(0, vO a0)] [] := by
  unfold s_X4_init at h
  refine r_aload_n C 0 dX4_init_0 rfl rfl ?_
  obtain ⟨q1, eq1, h⟩ := bs h
  refine r_callIN C (As := []) (b := a0) (rest := []) (st1 := []) (v := none) (m_X3_init C.tr eq1) (lw_n q169 rfl) q171 q122 q170 rfl hdX3_init rfl rfl (Nat.le_of_ble_eq_true rfl) ⟨by decide, by decide⟩ dX4_init_1 rfl ?_
  cases h
  exact r_vret C hK dX4_init_4
theorem hdX4_init : zhd yX4_init 0 := by decide +kernel
theorem m_X4_init {l : Launch} {D : va_G} {b0 : Nat} (hl : l.stackTraces = false) {a0 : Nat} {μ : Me} {w : Me} (h : s_X4_init a0 μ = some w) : MN l D b0 yX4_init (ws_ yX4_init cX4_init 1 none) 2 [vO a0] μ none w :=
  MN.of hl (by decide +kernel) (Nat.le_of_ble_eq_true rfl) (fun Z C _ _ => w_X4_init C h rfl)
noncomputable def s_X7_init (a0 : Nat) (μ : Me) : Option (Me) :=
  (pI μ 5 a0 0 11).bind fun m1 =>
  some m1
theorem w_X7_init {Z : Zt} {fin : Me} {w : Me} (C : CX Z yX7_init cX7_init none 1 1) {a0 : Nat} {μ : Me} (h : s_X7_init a0 μ = some w) (hK : w = fin) : WL Z (QN Z none fin) μ 0 [(0, vO a0)] [] := by
  unfold s_X7_init at h
  refine r_aload_n C 0 dX7_init_0 rfl rfl ?_
  refine r_objInit C q286 q156 q157 (by decide) (Nat.le_of_ble_eq_true rfl) dX7_init_1 ?_
  refine r_aload_n C 0 dX7_init_4 rfl rfl ?_
  refine r_bipush C dX7_init_5 (by decide) ?_
  obtain ⟨m1, em1, h⟩ := bs h
  refine r_putI C (c := 5) (r := (RX7, TX7, 1)) rfl 0 (by decide) rfl ⟨rfl, rfl⟩ rfl em1 q287 dX7_init_7 ?_
  cases h
  exact r_vret C hK dX7_init_10
theorem hdX7_init : zhd yX7_init 0 := by decide +kernel
theorem m_X7_init {l : Launch} {D : va_G} {b0 : Nat} (hl : l.stackTraces = false) {a0 : Nat} {μ : Me} {w : Me} (h : s_X7_init a0 μ = some w) : MN l D b0 yX7_init (ws_ yX7_init cX7_init 1 none) 1 [vO a0] μ none w :=
  MN.of hl (by decide +kernel) (Nat.le_of_ble_eq_true rfl) (fun Z C _ _ => w_X7_init C h rfl)
noncomputable def s_X8_init (a0 : Nat) (μ : Me) : Option (Me) :=
  (nA μ 101 41).bind fun q1 =>
  (pR q1.2 6 a0 0 q1.1).bind fun m2 =>
  some m2
theorem w_X8_init {Z : Zt} {fin : Me} {w : Me} (C : CX Z yX8_init cX8_init none 1 1) {a0 : Nat} {μ : Me} (h : s_X8_init a0 μ = some w) (hK : w = fin) : WL Z (QN Z none fin) μ 0 [(0, vO a0)] [] := by
  unfold s_X8_init at h
  refine r_aload_n C 0 dX8_init_0 rfl rfl ?_
  refine r_objInit C q298 q156 q157 (by decide) (Nat.le_of_ble_eq_true rfl) dX8_init_1 ?_
  refine r_aload_n C 0 dX8_init_4 rfl rfl ?_
  refine r_bipush C dX8_init_5 (by decide) ?_
  obtain ⟨q1, eq1, h⟩ := bs h
  refine r_newa C (t := 101) (kt := 0) (ty := .int) eq1 rfl (Or.inl ⟨rfl, rfl, rfl⟩) q315 dX8_init_7 ?_
  obtain ⟨m2, em2, h⟩ := bs h
  refine r_putRF C (c := 6) (r := (RX8, TX8, 2)) rfl 0 (by decide) rfl rfl rfl rfl em2 q299 dX8_init_9 ?_
  cases h
  exact r_vret C hK dX8_init_12
theorem hdX8_init : zhd yX8_init 0 := by decide +kernel
theorem m_X8_init {l : Launch} {D : va_G} {b0 : Nat} (hl : l.stackTraces = false) {a0 : Nat} {μ : Me} {w : Me} (h : s_X8_init a0 μ = some w) : MN l D b0 yX8_init (ws_ yX8_init cX8_init 1 none) 1 [vO a0] μ none w :=
  MN.of hl (by decide +kernel) (Nat.le_of_ble_eq_true rfl) (fun Z C _ _ => w_X8_init C h rfl)
noncomputable def s_X6_init (a0 : Nat) (μ : Me) : Option (Me) :=
  (nO μ 5 1).bind fun q1 =>
  (s_X7_init q1.1  q1.2).bind fun q2 =>
  (pR q2 4 a0 0 q1.1).bind fun m3 =>
  (nO m3 6 2).bind fun q4 =>
  (s_X8_init q4.1  q4.2).bind fun q5 =>
  (pR q5 4 a0 1 q4.1).bind fun m6 =>
  (nO m6 6 2).bind fun q7 =>
  (s_X8_init q7.1  q7.2).bind fun q8 =>
  (pR q8 4 a0 2 q7.1).bind fun m9 =>
  (nO m9 6 2).bind fun q10 =>
  (s_X8_init q10.1  q10.2).bind fun q11 =>
  (pR q11 4 a0 3 q10.1).bind fun m12 =>
  (nO m12 6 2).bind fun q13 =>
  (s_X8_init q13.1  q13.2).bind fun q14 =>
  (pR q14 4 a0 4 q13.1).bind fun m15 =>
  (nA m15 101 41).bind fun q16 =>
  (pR q16.2 4 a0 5 q16.1).bind fun m17 =>
  some m17
theorem w_X6_init {Z : Zt} {fin : Me} {w : Me} (C : CX Z yX6_init cX6_init none 2 1) {a0 : Nat} {μ : Me} (h : s_X6_init a0 μ = some w) (hK : w = fin) : WL Z (QN Z none fin) μ 0 [(0, vO a0)] [] := by
  unfold s_X6_init at h
  refine r_aload_n C 0 dX6_init_0 rfl rfl ?_
  refine r_objInit C q280 q156 q157 (by decide) (Nat.le_of_ble_eq_true rfl) dX6_init_1 ?_
  refine r_aload_n C 0 dX6_init_4 rfl rfl ?_
  obtain ⟨q1, eq1, h⟩ := bs h
  refine r_new C (c := 5) (r := (RX7, TX7, 1)) rfl eq1 q281 q282 q129 dX6_init_5 ?_
  refine r_dup C dX6_init_8 rfl ?_
  obtain ⟨q2, eq2, h⟩ := bs h
  refine r_callIN C (As := []) (b := q1.1) (rest := [vO q1.1, vO a0]) (st1 := [vO q1.1, vO a0]) (v := none) (m_X7_init C.tr eq2) (lw_n q283 rfl) q285 q129 q284 rfl hdX7_init rfl rfl (Nat.le_of_ble_eq_true rfl) ⟨by decide, by decide⟩ dX6_init_9 rfl ?_
  obtain ⟨m3, em3, h⟩ := bs h
  refine r_putRF C (c := 4) (r := (RX6, TX6, 6)) rfl 0 (by decide) rfl rfl rfl rfl em3 q316 dX6_init_12 ?_
  refine r_aload_n C 0 dX6_init_15 rfl rfl ?_
  obtain ⟨q4, eq4, h⟩ := bs h
  refine r_new C (c := 6) (r := (RX8, TX8, 2)) rfl eq4 q293 q294 q130 dX6_init_16 ?_
  refine r_dup C dX6_init_19 rfl ?_
  obtain ⟨q5, eq5, h⟩ := bs h
  refine r_callIN C (As := []) (b := q4.1) (rest := [vO q4.1, vO a0]) (st1 := [vO q4.1, vO a0]) (v := none) (m_X8_init C.tr eq5) (lw_n q295 rfl) q297 q130 q296 rfl hdX8_init rfl rfl (Nat.le_of_ble_eq_true rfl) ⟨by decide, by decide⟩ dX6_init_20 rfl ?_
  obtain ⟨m6, em6, h⟩ := bs h
  refine r_putRF C (c := 4) (r := (RX6, TX6, 6)) rfl 1 (by decide) rfl rfl rfl rfl em6 q321 dX6_init_23 ?_
  refine r_aload_n C 0 dX6_init_26 rfl rfl ?_
  obtain ⟨q7, eq7, h⟩ := bs h
  refine r_new C (c := 6) (r := (RX8, TX8, 2)) rfl eq7 q293 q294 q130 dX6_init_27 ?_
  refine r_dup C dX6_init_30 rfl ?_
  obtain ⟨q8, eq8, h⟩ := bs h
  refine r_callIN C (As := []) (b := q7.1) (rest := [vO q7.1, vO a0]) (st1 := [vO q7.1, vO a0]) (v := none) (m_X8_init C.tr eq8) (lw_n q295 rfl) q297 q130 q296 rfl hdX8_init rfl rfl (Nat.le_of_ble_eq_true rfl) ⟨by decide, by decide⟩ dX6_init_31 rfl ?_
  obtain ⟨m9, em9, h⟩ := bs h
  refine r_putRF C (c := 4) (r := (RX6, TX6, 6)) rfl 2 (by decide) rfl rfl rfl rfl em9 q322 dX6_init_34 ?_
  refine r_aload_n C 0 dX6_init_37 rfl rfl ?_
  obtain ⟨q10, eq10, h⟩ := bs h
  refine r_new C (c := 6) (r := (RX8, TX8, 2)) rfl eq10 q293 q294 q130 dX6_init_38 ?_
  refine r_dup C dX6_init_41 rfl ?_
  obtain ⟨q11, eq11, h⟩ := bs h
  refine r_callIN C (As := []) (b := q10.1) (rest := [vO q10.1, vO a0]) (st1 := [vO q10.1, vO a0]) (v := none) (m_X8_init C.tr eq11) (lw_n q295 rfl) q297 q130 q296 rfl hdX8_init rfl rfl (Nat.le_of_ble_eq_true rfl) ⟨by decide, by decide⟩ dX6_init_42 rfl ?_
  obtain ⟨m12, em12, h⟩ := bs h
  refine r_putRF C (c := 4) (r := (RX6, TX6, 6)) rfl 3 (by decide) rfl rfl rfl rfl em12 q323 dX6_init_45 ?_
  refine r_aload_n C 0 dX6_init_48 rfl rfl ?_
  obtain ⟨q13, eq13, h⟩ := bs h
  refine r_new C (c := 6) (r := (RX8, TX8, 2)) rfl eq13 q293 q294 q130 dX6_init_49 ?_
  refine r_dup C dX6_init_52 rfl ?_
  obtain ⟨q14, eq14, h⟩ := bs h
  refine r_callIN C (As := []) (b := q13.1) (rest := [vO q13.1, vO a0]) (st1 := [vO q13.1, vO a0]) (v := none) (m_X8_init C.tr eq14) (lw_n q295 rfl) q297 q130 q296 rfl hdX8_init rfl rfl (Nat.le_of_ble_eq_true rfl) ⟨by decide, by decide⟩ dX6_init_53 rfl ?_
  obtain ⟨m15, em15, h⟩ := bs h
  refine r_putRF C (c := 4) (r := (RX6, TX6, 6)) rfl 4 (by decide) rfl rfl rfl rfl em15 q324 dX6_init_56 ?_
  refine r_aload_n C 0 dX6_init_59 rfl rfl ?_
  refine r_bipush C dX6_init_60 (by decide) ?_
  obtain ⟨q16, eq16, h⟩ := bs h
  refine r_newa C (t := 101) (kt := 0) (ty := .int) eq16 rfl (Or.inl ⟨rfl, rfl, rfl⟩) q315 dX6_init_62 ?_
  obtain ⟨m17, em17, h⟩ := bs h
  refine r_putRF C (c := 4) (r := (RX6, TX6, 6)) rfl 5 (by decide) rfl rfl rfl rfl em17 q325 dX6_init_64 ?_
  cases h
  exact r_vret C hK dX6_init_67
theorem hdX6_init : zhd yX6_init 0 := by decide +kernel
theorem m_X6_init {l : Launch} {D : va_G} {b0 : Nat} (hl : l.stackTraces = false) {a0 : Nat} {μ : Me} {w : Me} (h : s_X6_init a0 μ = some w) : MN l D b0 yX6_init (ws_ yX6_init cX6_init 1 none) 2 [vO a0] μ none w :=
  MN.of hl (by decide +kernel) (Nat.le_of_ble_eq_true rfl) (fun Z C _ _ => w_X6_init C h rfl)
noncomputable def s_X10_init (a0 : Nat) (μ : Me) : Option (Me) :=
  (nO μ 6 2).bind fun q1 =>
  (s_X8_init q1.1  q1.2).bind fun q2 =>
  (pR q2 8 a0 0 q1.1).bind fun m3 =>
  (nO m3 6 2).bind fun q4 =>
  (s_X8_init q4.1  q4.2).bind fun q5 =>
  (pR q5 8 a0 1 q4.1).bind fun m6 =>
  some m6
theorem w_X10_init {Z : Zt} {fin : Me} {w : Me} (C : CX Z yX10_init cX10_init none 2 1) {a0 : Nat} {μ : Me} (h : s_X10_init a0 μ = some w) (hK : w = fin) : WL Z (QN Z none fin) μ 0 [(0, vO a0)] [] := by
  unfold s_X10_init at h
  refine r_aload_n C 0 dX10_init_0 rfl rfl ?_
  refine r_objInit C q358 q156 q157 (by decide) (Nat.le_of_ble_eq_true rfl) dX10_init_1 ?_
  refine r_aload_n C 0 dX10_init_4 rfl rfl ?_
  obtain ⟨q1, eq1, h⟩ := bs h
  refine r_new C (c := 6) (r := (RX8, TX8, 2)) rfl eq1 q359 q294 q130 dX10_init_5 ?_
  refine r_dup C dX10_init_8 rfl ?_
  obtain ⟨q2, eq2, h⟩ := bs h
  refine r_callIN C (As := []) (b := q1.1) (rest := [vO q1.1, vO a0]) (st1 := [vO q1.1, vO a0]) (v := none) (m_X8_init C.tr eq2) (lw_n q360 rfl) q297 q130 q296 rfl hdX8_init rfl rfl (Nat.le_of_ble_eq_true rfl) ⟨by decide, by decide⟩ dX10_init_9 rfl ?_
  obtain ⟨m3, em3, h⟩ := bs h
  refine r_putRF C (c := 8) (r := (RX10, TX10, 3)) rfl 0 (by decide) rfl rfl rfl rfl em3 q361 dX10_init_12 ?_
  refine r_aload_n C 0 dX10_init_15 rfl rfl ?_
  obtain ⟨q4, eq4, h⟩ := bs h
  refine r_new C (c := 6) (r := (RX8, TX8, 2)) rfl eq4 q359 q294 q130 dX10_init_16 ?_
  refine r_dup C dX10_init_19 rfl ?_
  obtain ⟨q5, eq5, h⟩ := bs h
  refine r_callIN C (As := []) (b := q4.1) (rest := [vO q4.1, vO a0]) (st1 := [vO q4.1, vO a0]) (v := none) (m_X8_init C.tr eq5) (lw_n q360 rfl) q297 q130 q296 rfl hdX8_init rfl rfl (Nat.le_of_ble_eq_true rfl) ⟨by decide, by decide⟩ dX10_init_20 rfl ?_
  obtain ⟨m6, em6, h⟩ := bs h
  refine r_putRF C (c := 8) (r := (RX10, TX10, 3)) rfl 1 (by decide) rfl rfl rfl rfl em6 q364 dX10_init_23 ?_
  cases h
  exact r_vret C hK dX10_init_26
theorem hdX10_init : zhd yX10_init 0 := by decide +kernel
theorem m_X10_init {l : Launch} {D : va_G} {b0 : Nat} (hl : l.stackTraces = false) {a0 : Nat} {μ : Me} {w : Me} (h : s_X10_init a0 μ = some w) : MN l D b0 yX10_init (ws_ yX10_init cX10_init 1 none) 2 [vO a0] μ none w :=
  MN.of hl (by decide +kernel) (Nat.le_of_ble_eq_true rfl) (fun Z C _ _ => w_X10_init C h rfl)
noncomputable def s_X1_four_l3_st (a0 : Nat) (x1 : Int) (x2 : Int) (μ : Me) : Option ((Int × Me) ⊕ (Me)) :=
  (if w32 x2 < 0 then
  some (.inr μ)
  else
  (gR μ 0 a0 0).bind fun v2 =>
  (gR μ 1 v2 0).bind fun v3 =>
  (gR μ 0 a0 0).bind fun v4 =>
  (gI μ 1 v4 3).bind fun v5 =>
  (uB μ v3 v5 (w8 (srI x1 x2))).bind fun m6 =>
  (gR m6 0 a0 0).bind fun v7 =>
  (gI m6 1 v7 3).bind fun v8 =>
  (pI m6 1 v7 3 (v8 + 1)).bind fun m9 =>
  some (.inl ((x2 + (-8)), m9)))
theorem w_X1_four_l3_st {Z : Zt} {fin : Me} {w : ((Int × Me) ⊕ (Me))} (C : CX Z yX1_four cX1_four none 1 3) {a0 : Nat} {x1 : Int} {x2 : Int} {μ : Me} (h : s_X1_four_l3_st a0 x1 x2 μ = some w) (hK : (Sum.elim (fun s : Int × Me => WL Z (QN Z none fin) s.2 3 [(0, vO a0), (1, vI x1), (2, vI s.1)] []) (fun r : Me => r = fin)) w) : WL Z (QN Z none fin) μ 3 [(0, vO a0), (1, vI x1), (2, vI x2)] [] := by
  unfold s_X1_four_l3_st at h
  refine r_iload_n C 2 dX1_four_3 rfl rfl ?_
  refine r_if_lt C dX1_four_4 (tgt := 45) (by decide) (fun c1 => ?_) (fun c1 => ?_)
  · have h := it_ h c1
    cases h
    exact r_vret C hK dX1_four_45
  · have h := ie_ h c1
    refine r_aload_n C 0 dX1_four_7 rfl rfl ?_
    obtain ⟨v2, ev2, h⟩ := bs h
    refine r_getR C (c := 0) (r := (RX1, TX1, 19)) rfl 0 (by decide) rfl ev2 q421 dX1_four_8 ?_
    obtain ⟨v3, ev3, h⟩ := bs h
    refine r_getRN C (c := 1) (r := (RX2, TX2, 8)) rfl 0 (by decide) rfl ev3 (lw_n q250 rfl) dX1_four_11 ?_
    refine r_aload_n C 0 dX1_four_14 rfl rfl ?_
    obtain ⟨v4, ev4, h⟩ := bs h
    refine r_getR C (c := 0) (r := (RX1, TX1, 19)) rfl 0 (by decide) rfl ev4 q421 dX1_four_15 ?_
    obtain ⟨v5, ev5, h⟩ := bs h
    refine r_getIN C (c := 1) (r := (RX2, TX2, 8)) rfl 3 (by decide) rfl ev5 (lw_n q253 rfl) dX1_four_18 ?_
    refine r_iload_n C 1 dX1_four_21 rfl rfl ?_
    refine r_iload_n C 2 dX1_four_22 rfl rfl ?_
    refine r_ishr C dX1_four_23 ?_
    refine r_i2b C dX1_four_24 ?_
    obtain ⟨m6, em6, h⟩ := bs h
    refine r_bast C em6 dX1_four_25 ?_
    refine r_aload_n C 0 dX1_four_26 rfl rfl ?_
    obtain ⟨v7, ev7, h⟩ := bs h
    refine r_getR C (c := 0) (r := (RX1, TX1, 19)) rfl 0 (by decide) rfl ev7 q421 dX1_four_27 ?_
    refine r_dup C dX1_four_30 rfl ?_
    obtain ⟨v8, ev8, h⟩ := bs h
    refine r_getIN C (c := 1) (r := (RX2, TX2, 8)) rfl 3 (by decide) rfl ev8 (lw_n q253 rfl) dX1_four_31 ?_
    refine r_iconst C dX1_four_34 ?_
    refine r_iadd C dX1_four_35 ?_
    obtain ⟨m9, em9, h⟩ := bs h
    refine r_putIN C (c := 1) (r := (RX2, TX2, 8)) rfl 3 (by decide) rfl ⟨rfl, rfl⟩ rfl em9 (lw_n q253 rfl) dX1_four_36 ?_
    refine r_iinc C 2 [(2, vI (x2 + (-8))), (0, vO a0), (1, vI x1)] dX1_four_39 rfl (by decide) rfl ?_
    refine r_goto C dX1_four_42 (tgt := 3) (by decide) ?_
    cases h
    refine r_sub [1, 2, 0] rfl ?_
    exact hK
noncomputable def s_X1_four_l3 (a0 : Nat) (x1 : Int) (x2 : Int) (μ : Me) : Option (Me) :=
  whileO (fun s : Int × Me => s_X1_four_l3_st a0 x1 s.1 s.2) (x2, μ)
theorem e_X1_four_l3 (a0 : Nat) (x1 : Int) (x2 : Int) (μ : Me) : s_X1_four_l3 a0 x1 x2 μ = (s_X1_four_l3_st a0 x1 x2 μ).bind fun x => x.elim (fun s : Int × Me => s_X1_four_l3 a0 x1 s.1 s.2) some := whileO_eq _ _
theorem w_X1_four_l3 {Z : Zt} {fin : Me} {w : (Me)} (C : CX Z yX1_four cX1_four none 1 3) {a0 : Nat} {x1 : Int} {x2 : Int} {μ : Me} (h : s_X1_four_l3 a0 x1 x2 μ = some w) (hK : (fun r : Me => r = fin) w) : WL Z (QN Z none fin) μ 3 [(0, vO a0), (1, vI x1), (2, vI x2)] [] := by
  refine whileO_walk (w := w) (fun s : Int × Me => WL Z (QN Z none fin) s.2 3 [(0, vO a0), (1, vI x1), (2, vI s.1)] []) (fun s v h2 hi hr => ?_) (x2, μ) h
  refine w_X1_four_l3_st (fin := fin) C h2 ?_
  cases v with
  | inl s2 => exact hi s2 rfl
  | inr r => have e := hr r rfl; subst e; exact hK
noncomputable def s_X1_four (a0 : Nat) (x1 : Int) (μ : Me) : Option (Me) :=
  s_X1_four_l3 a0 x1 24 μ
theorem w_X1_four {Z : Zt} {fin : Me} {w : Me} (C : CX Z yX1_four cX1_four none 1 3) {a0 : Nat} {x1 : Int} {μ : Me} (h : s_X1_four a0 x1 μ = some w) (hK : w = fin) : WL Z (QN Z none fin) μ 0 [(0, vO a0), (1, vI x1)] [] := by
  unfold s_X1_four at h
  refine r_bipush C dX1_four_0 (by decide) ?_
  refine r_istore_n C [(2, vI 24), (0, vO a0), (1, vI x1)] dX1_four_2 rfl (by decide) rfl ?_
  refine r_sub [1, 2, 0] rfl ?_
  exact w_X1_four_l3 (fin := fin) C h hK
theorem hdX1_four : zhd yX1_four 1 := by decide +kernel
theorem m_X1_four {l : Launch} {D : va_G} {b0 : Nat} (hl : l.stackTraces = false) {a0 : Nat} {x1 : Int} {μ : Me} {w : Me} (h : s_X1_four a0 x1 μ = some w) : MN l D b0 yX1_four (ws_ yX1_four cX1_four 3 none) 1 [vO a0, vI x1] μ none w :=
  MN.of hl (by decide +kernel) (Nat.le_of_ble_eq_true rfl) (fun Z C _ _ => w_X1_four C h rfl)
noncomputable def s_X1_feed (a0 : Nat) (x1 : Int) (x2 : Int) (x3 : Int) (x4 : Int) (x5 : Int) (μ : Me) : Option (Int × Me) :=
  (gR μ 0 a0 0).bind fun v1 =>
  (gI μ 1 v1 3).bind fun v2 =>
  (if w32 (v2 + 20) ≤ w32 400 then
  (ck μ 0 a0).bind fun _ =>
  (s_X1_four a0 x1 μ).bind fun q4 =>
  (ck q4 0 a0).bind fun _ =>
  (s_X1_four a0 x2 q4).bind fun q6 =>
  (ck q6 0 a0).bind fun _ =>
  (s_X1_four a0 x3 q6).bind fun q8 =>
  (ck q8 0 a0).bind fun _ =>
  (s_X1_four a0 x4 q8).bind fun q10 =>
  (ck q10 0 a0).bind fun _ =>
  (s_X1_four a0 x5 q10).bind fun q12 =>
  (gR q12 0 a0 0).bind fun v14 =>
  (gI q12 1 v14 3).bind fun v15 =>
  some (v15, q12)
  else
  some ((-1), μ))
theorem w_X1_feed {Z : Zt} {fin : Int × Me} {w : Int × Me} (C : CX Z yX1_feed cX1_feed (some .int) 2 6) {a0 : Nat} {x1 : Int} {x2 : Int} {x3 : Int} {x4 : Int} {x5 : Int} {μ : Me} (h : s_X1_feed a0 x1 x2 x3 x4 x5 μ = some w) (hK : w = fin) : WL Z (QN Z (some (vI fin.1)) fin.2) μ 0 [(0, vO a0), (1, vI x1), (2, vI x2), (3, vI x3), (4, vI x4), (5, vI x5)] [] := by
  unfold s_X1_feed at h
  refine r_aload_n C 0 dX1_feed_0 rfl rfl ?_
  obtain ⟨v1, ev1, h⟩ := bs h
  refine r_getR C (c := 0) (r := (RX1, TX1, 19)) rfl 0 (by decide) rfl ev1 q421 dX1_feed_1 ?_
  obtain ⟨v2, ev2, h⟩ := bs h
  refine r_getIN C (c := 1) (r := (RX2, TX2, 8)) rfl 3 (by decide) rfl ev2 (lw_n q253 rfl) dX1_feed_4 ?_
  refine r_bipush C dX1_feed_7 (by decide) ?_
  refine r_iadd C dX1_feed_9 ?_
  refine r_sipush C dX1_feed_10 (by decide) ?_
  refine r_icmp_le C dX1_feed_13 (tgt := 18) (by decide) (fun c3 => ?_) (fun c3 => ?_)
  · have h := it_ h c3
    refine r_aload_n C 0 dX1_feed_18 rfl rfl ?_
    refine r_iload_n C 1 dX1_feed_19 rfl rfl ?_
    obtain ⟨u5, eu5, h⟩ := bs h
    obtain ⟨q4, eq4, h⟩ := bs h
    refine r_callV C (As := [vI x1]) (b := a0) (rest := []) (st1 := []) (v := none) (r := (RX1, TX1, 19)) (ci := 0) rfl eu5 (m_X1_four C.tr eq4) (lw_V q491 q493 qs1 q120 q494) rfl hdX1_four rfl rfl (Nat.le_of_ble_eq_true rfl) ⟨by decide, by decide⟩ dX1_feed_20 rfl ?_
    refine r_aload_n C 0 dX1_feed_23 rfl rfl ?_
    refine r_iload_n C 2 dX1_feed_24 rfl rfl ?_
    obtain ⟨u7, eu7, h⟩ := bs h
    obtain ⟨q6, eq6, h⟩ := bs h
    refine r_callV C (As := [vI x2]) (b := a0) (rest := []) (st1 := []) (v := none) (r := (RX1, TX1, 19)) (ci := 0) rfl eu7 (m_X1_four C.tr eq6) (lw_V q491 q493 qs1 q120 q494) rfl hdX1_four rfl rfl (Nat.le_of_ble_eq_true rfl) ⟨by decide, by decide⟩ dX1_feed_25 rfl ?_
    refine r_aload_n C 0 dX1_feed_28 rfl rfl ?_
    refine r_iload_n C 3 dX1_feed_29 rfl rfl ?_
    obtain ⟨u9, eu9, h⟩ := bs h
    obtain ⟨q8, eq8, h⟩ := bs h
    refine r_callV C (As := [vI x3]) (b := a0) (rest := []) (st1 := []) (v := none) (r := (RX1, TX1, 19)) (ci := 0) rfl eu9 (m_X1_four C.tr eq8) (lw_V q491 q493 qs1 q120 q494) rfl hdX1_four rfl rfl (Nat.le_of_ble_eq_true rfl) ⟨by decide, by decide⟩ dX1_feed_30 rfl ?_
    refine r_aload_n C 0 dX1_feed_33 rfl rfl ?_
    refine r_iload C 4 dX1_feed_34 rfl ?_
    obtain ⟨u11, eu11, h⟩ := bs h
    obtain ⟨q10, eq10, h⟩ := bs h
    refine r_callV C (As := [vI x4]) (b := a0) (rest := []) (st1 := []) (v := none) (r := (RX1, TX1, 19)) (ci := 0) rfl eu11 (m_X1_four C.tr eq10) (lw_V q491 q493 qs1 q120 q494) rfl hdX1_four rfl rfl (Nat.le_of_ble_eq_true rfl) ⟨by decide, by decide⟩ dX1_feed_36 rfl ?_
    refine r_aload_n C 0 dX1_feed_39 rfl rfl ?_
    refine r_iload C 5 dX1_feed_40 rfl ?_
    obtain ⟨u13, eu13, h⟩ := bs h
    obtain ⟨q12, eq12, h⟩ := bs h
    refine r_callV C (As := [vI x5]) (b := a0) (rest := []) (st1 := []) (v := none) (r := (RX1, TX1, 19)) (ci := 0) rfl eu13 (m_X1_four C.tr eq12) (lw_V q491 q493 qs1 q120 q494) rfl hdX1_four rfl rfl (Nat.le_of_ble_eq_true rfl) ⟨by decide, by decide⟩ dX1_feed_42 rfl ?_
    refine r_aload_n C 0 dX1_feed_45 rfl rfl ?_
    obtain ⟨v14, ev14, h⟩ := bs h
    refine r_getR C (c := 0) (r := (RX1, TX1, 19)) rfl 0 (by decide) rfl ev14 q421 dX1_feed_46 ?_
    obtain ⟨v15, ev15, h⟩ := bs h
    refine r_getIN C (c := 1) (r := (RX2, TX2, 8)) rfl 3 (by decide) rfl ev15 (lw_n q253 rfl) dX1_feed_49 ?_
    cases h
    exact r_iret C hK dX1_feed_52
  · have h := ie_ h c3
    refine r_iconst C dX1_feed_16 ?_
    cases h
    exact r_iret C hK dX1_feed_17
theorem hdX1_feed : zhd yX1_feed 5 := by decide +kernel
theorem m_X1_feed {l : Launch} {D : va_G} {b0 : Nat} (hl : l.stackTraces = false) {a0 : Nat} {x1 : Int} {x2 : Int} {x3 : Int} {x4 : Int} {x5 : Int} {μ : Me} {w : Int × Me} (h : s_X1_feed a0 x1 x2 x3 x4 x5 μ = some w) : MN l D b0 yX1_feed (ws_ yX1_feed cX1_feed 6 (some .int)) 2 [vO a0, vI x1, vI x2, vI x3, vI x4, vI x5] μ (some (vI w.1)) w.2 :=
  MN.of hl (by decide +kernel) (Nat.le_of_ble_eq_true rfl) (fun Z C _ _ => w_X1_feed C h rfl)
noncomputable def s_X1_isIn (y0 : Int) (y2 : Int) (y4 : Int) (μ : Me) : Option (Int × Me) :=
  (if w64 y0 < w64 y2 then
  some (0, μ)
  else
  (if w64 y4 < w64 y0 then
  some (0, μ)
  else
  some (1, μ)))
theorem w_X1_isIn {Z : Zt} {fin : Int × Me} {w : Int × Me} (C : CX Z yX1_isIn cX1_isIn (some .boolean) 1 6) {y0 : Int} {y2 : Int} {y4 : Int} {μ : Me} (h : s_X1_isIn y0 y2 y4 μ = some w) (hK : w = fin) : WL Z (QN Z (some (vI fin.1)) fin.2) μ 0 [(0, vJ y0), (2, vJ y2), (4, vJ y4)] [] := by
  unfold s_X1_isIn at h
  refine r_lload_n C 0 dX1_isIn_0 rfl rfl ?_
  refine r_lload_n C 1 dX1_isIn_1 rfl rfl ?_
  refine r_lcmp_lt C dX1_isIn_2 dX1_isIn_3 (tgt := 17) (by decide) (fun c1 => ?_) (fun c1 => ?_)
  · have h := it_ h c1
    refine r_iconst C dX1_isIn_17 ?_
    cases h
    exact r_zret C (Or.inl rfl) hK dX1_isIn_18
  · have h := ie_ h c1
    refine r_lload_n C 0 dX1_isIn_6 rfl rfl ?_
    refine r_lload C 2 dX1_isIn_7 rfl ?_
    refine r_lcmp_gt C dX1_isIn_9 dX1_isIn_10 (tgt := 17) (by decide) (fun c2 => ?_) (fun c2 => ?_)
    · have h := it_ h c2
      refine r_iconst C dX1_isIn_17 ?_
      cases h
      exact r_zret C (Or.inl rfl) hK dX1_isIn_18
    · have h := ie_ h c2
      refine r_iconst C dX1_isIn_13 ?_
      refine r_goto C dX1_isIn_14 (tgt := 18) (by decide) ?_
      cases h
      exact r_zret C (Or.inr rfl) hK dX1_isIn_18
theorem hdX1_isIn : zhd yX1_isIn 3 := by decide +kernel
theorem m_X1_isIn {l : Launch} {D : va_G} {b0 : Nat} (hl : l.stackTraces = false) {y0 : Int} {y2 : Int} {y4 : Int} {μ : Me} {w : Int × Me} (h : s_X1_isIn y0 y2 y4 μ = some w) : MN l D b0 yX1_isIn (ws_ yX1_isIn cX1_isIn 6 (some .boolean)) 1 [vJ y0, vJ y2, vJ y4] μ (some (vI w.1)) w.2 :=
  MN.of hl (by decide +kernel) (Nat.le_of_ble_eq_true rfl) (fun Z C _ _ => w_X1_isIn C h rfl)
noncomputable def s_X1_end (a0 : Nat) (x1 : Int) (μ : Me) : Option (Int × Me) :=
  (gR μ 0 a0 0).bind fun v1 =>
  (gI μ 1 v1 3).bind fun v2 =>
  (s_X1_isIn (w32 x1) 0 (w32 v2) μ).bind fun q3 =>
  (if w32 q3.1 = 0 then
  some (0, q3.2)
  else
  (gR q3.2 0 a0 0).bind fun v5 =>
  (pI q3.2 1 v5 3 x1).bind fun m6 =>
  some (1, m6))
theorem w_X1_end {Z : Zt} {fin : Int × Me} {w : Int × Me} (C : CX Z yX1_end cX1_end (some .boolean) 2 2) {a0 : Nat} {x1 : Int} {μ : Me} (h : s_X1_end a0 x1 μ = some w) (hK : w = fin) : WL Z (QN Z (some (vI fin.1)) fin.2) μ 0 [(0, vO a0), (1, vI x1)] [] := by
  unfold s_X1_end at h
  refine r_iload_n C 1 dX1_end_0 rfl rfl ?_
  refine r_i2l C dX1_end_1 ?_
  refine r_lconst (v := 0) C dX1_end_2 (by decide) ?_
  refine r_aload_n C 0 dX1_end_3 rfl rfl ?_
  obtain ⟨v1, ev1, h⟩ := bs h
  refine r_getR C (c := 0) (r := (RX1, TX1, 19)) rfl 0 (by decide) rfl ev1 q421 dX1_end_4 ?_
  obtain ⟨v2, ev2, h⟩ := bs h
  refine r_getIN C (c := 1) (r := (RX2, TX2, 8)) rfl 3 (by decide) rfl ev2 (lw_n q253 rfl) dX1_end_7 ?_
  refine r_i2l C dX1_end_10 ?_
  obtain ⟨q3, eq3, h⟩ := bs h
  refine r_callS C (As := [vJ (w32 x1), vJ 0, vJ (w32 v2)]) (rest := []) (st1 := [vI q3.1]) (v := some (vI q3.1)) (m_X1_isIn C.tr eq3) (lw_S q499 q500 q120 q501) hdX1_isIn rfl rfl (Nat.le_of_ble_eq_true rfl) ⟨by decide, by decide⟩ dX1_end_11 rfl ?_
  refine r_if_ne C dX1_end_14 (tgt := 19) (by decide) (fun c4 => ?_) (fun c4 => ?_)
  · have h := ie_ h c4
    refine r_aload_n C 0 dX1_end_19 rfl rfl ?_
    obtain ⟨v5, ev5, h⟩ := bs h
    refine r_getR C (c := 0) (r := (RX1, TX1, 19)) rfl 0 (by decide) rfl ev5 q421 dX1_end_20 ?_
    refine r_iload_n C 1 dX1_end_23 rfl rfl ?_
    obtain ⟨m6, em6, h⟩ := bs h
    refine r_putIN C (c := 1) (r := (RX2, TX2, 8)) rfl 3 (by decide) rfl ⟨rfl, rfl⟩ rfl em6 (lw_n q253 rfl) dX1_end_24 ?_
    refine r_iconst C dX1_end_27 ?_
    cases h
    exact r_zret C (Or.inr rfl) hK dX1_end_28
  · have h := it_ h c4
    refine r_iconst C dX1_end_17 ?_
    cases h
    exact r_zret C (Or.inl rfl) hK dX1_end_18
theorem hdX1_end : zhd yX1_end 1 := by decide +kernel
theorem m_X1_end {l : Launch} {D : va_G} {b0 : Nat} (hl : l.stackTraces = false) {a0 : Nat} {x1 : Int} {μ : Me} {w : Int × Me} (h : s_X1_end a0 x1 μ = some w) : MN l D b0 yX1_end (ws_ yX1_end cX1_end 2 (some .boolean)) 2 [vO a0, vI x1] μ (some (vI w.1)) w.2 :=
  MN.of hl (by decide +kernel) (Nat.le_of_ble_eq_true rfl) (fun Z C _ _ => w_X1_end C h rfl)
noncomputable def s_X1_fault (a0 : Nat) (μ : Me) : Option (Int × Me) :=
  (gI μ 0 a0 16).bind fun v1 =>
  some (v1, μ)
theorem w_X1_fault {Z : Zt} {fin : Int × Me} {w : Int × Me} (C : CX Z yX1_fault cX1_fault (some .int) 1 1) {a0 : Nat} {μ : Me} (h : s_X1_fault a0 μ = some w) (hK : w = fin) : WL Z (QN Z (some (vI fin.1)) fin.2) μ 0 [(0, vO a0)] [] := by
  unfold s_X1_fault at h
  refine r_aload_n C 0 dX1_fault_0 rfl rfl ?_
  obtain ⟨v1, ev1, h⟩ := bs h
  refine r_getI C (c := 0) (r := (RX1, TX1, 19)) rfl 16 (by decide) rfl ev1 q444 dX1_fault_1 ?_
  cases h
  exact r_iret C hK dX1_fault_4
theorem hdX1_fault : zhd yX1_fault 0 := by decide +kernel
theorem m_X1_fault {l : Launch} {D : va_G} {b0 : Nat} (hl : l.stackTraces = false) {a0 : Nat} {μ : Me} {w : Int × Me} (h : s_X1_fault a0 μ = some w) : MN l D b0 yX1_fault (ws_ yX1_fault cX1_fault 1 (some .int)) 1 [vO a0] μ (some (vI w.1)) w.2 :=
  MN.of hl (by decide +kernel) (Nat.le_of_ble_eq_true rfl) (fun Z C _ _ => w_X1_fault C h rfl)
noncomputable def s_X8_be (a0 : Nat) (a1 : Nat) (μ : Me) : Option (Me) :=
  (gI μ 6 a1 1).bind fun v1 =>
  (pI μ 6 a0 1 v1).bind fun m2 =>
  (gR m2 6 a1 0).bind fun v3 =>
  (gR m2 6 a0 0).bind fun v4 =>
  (cpI m2 v3 0 v4 0 41).bind fun m5 =>
  some m5
theorem w_X8_be {Z : Zt} {fin : Me} {w : Me} (C : CX Z yX8_be cX8_be none 1 2) {a0 : Nat} {a1 : Nat} {μ : Me} (h : s_X8_be a0 a1 μ = some w) (hK : w = fin) : WL Z (QN Z none fin) μ 0 [(0, vO a0), (1, vO a1)] [] := by
  unfold s_X8_be at h
  refine r_aload_n C 0 dX8_be_0 rfl rfl ?_
  refine r_aload_n C 1 dX8_be_1 rfl rfl ?_
  obtain ⟨v1, ev1, h⟩ := bs h
  refine r_getI C (c := 6) (r := (RX8, TX8, 2)) rfl 1 (by decide) rfl ev1 q306 dX8_be_2 ?_
  obtain ⟨m2, em2, h⟩ := bs h
  refine r_putI C (c := 6) (r := (RX8, TX8, 2)) rfl 1 (by decide) rfl ⟨rfl, rfl⟩ rfl em2 q306 dX8_be_5 ?_
  refine r_aload_n C 1 dX8_be_8 rfl rfl ?_
  obtain ⟨v3, ev3, h⟩ := bs h
  refine r_getR C (c := 6) (r := (RX8, TX8, 2)) rfl 0 (by decide) rfl ev3 q299 dX8_be_9 ?_
  refine r_iconst C dX8_be_12 ?_
  refine r_aload_n C 0 dX8_be_13 rfl rfl ?_
  obtain ⟨v4, ev4, h⟩ := bs h
  refine r_getR C (c := 6) (r := (RX8, TX8, 2)) rfl 0 (by decide) rfl ev4 q299 dX8_be_14 ?_
  refine r_iconst C dX8_be_17 ?_
  refine r_bipush C dX8_be_18 (by decide) ?_
  obtain ⟨m5, em5, h⟩ := bs h
  refine r_copyI C em5 q514 q516 q515 q138 (by decide) (Nat.le_of_ble_eq_true rfl) dX8_be_20 ?_
  cases h
  exact r_vret C hK dX8_be_23
theorem hdX8_be : zhd yX8_be 1 := by decide +kernel
theorem m_X8_be {l : Launch} {D : va_G} {b0 : Nat} (hl : l.stackTraces = false) {a0 : Nat} {a1 : Nat} {μ : Me} {w : Me} (h : s_X8_be a0 a1 μ = some w) : MN l D b0 yX8_be (ws_ yX8_be cX8_be 2 none) 1 [vO a0, vO a1] μ none w :=
  MN.of hl (by decide +kernel) (Nat.le_of_ble_eq_true rfl) (fun Z C _ _ => w_X8_be C h rfl)
noncomputable def s_X1_undo (a0 : Nat) (μ : Me) : Option (Int × Me) :=
  (gR μ 0 a0 2).bind fun v1 =>
  (gI μ 7 v1 9).bind fun v2 =>
  (if w32 v2 = 0 then
  some ((-1), μ)
  else
  (gR μ 0 a0 2).bind fun v4 =>
  (gI μ 7 v4 9).bind fun v5 =>
  (pI μ 7 v4 9 (v5 - 1)).bind fun m6 =>
  (gR m6 0 a0 2).bind fun v7 =>
  (gR m6 7 v7 3).bind fun v8 =>
  (gR m6 0 a0 2).bind fun v9 =>
  (gI m6 7 v9 9).bind fun v10 =>
  (aR m6 107 v8 v10).bind fun v11 =>
  (gR m6 0 a0 2).bind fun v12 =>
  (gR m6 7 v12 0).bind fun v13 =>
  (gI m6 8 v11 2).bind fun v14 =>
  (aR m6 104 v13 v14).bind fun v15 =>
  (gR m6 8 v11 0).bind fun v16 =>
  (ck m6 6 v15).bind fun _ =>
  (s_X8_be v15 v16 m6).bind fun q17 =>
  (gI q17 8 v11 2).bind fun v19 =>
  some (v19, q17))
theorem w_X1_undo {Z : Zt} {fin : Int × Me} {w : Int × Me} (C : CX Z yX1_undo cX1_undo (some .int) 2 2) {a0 : Nat} {μ : Me} (h : s_X1_undo a0 μ = some w) (hK : w = fin) : WL Z (QN Z (some (vI fin.1)) fin.2) μ 0 [(0, vO a0)] [] := by
  unfold s_X1_undo at h
  refine r_aload_n C 0 dX1_undo_0 rfl rfl ?_
  obtain ⟨v1, ev1, h⟩ := bs h
  refine r_getR C (c := 0) (r := (RX1, TX1, 19)) rfl 2 (by decide) rfl ev1 q426 dX1_undo_1 ?_
  obtain ⟨v2, ev2, h⟩ := bs h
  refine r_getIN C (c := 7) (r := (RX9, TX9, 10)) rfl 9 (by decide) rfl ev2 (lw_n q396 rfl) dX1_undo_4 ?_
  refine r_if_ne C dX1_undo_7 (tgt := 12) (by decide) (fun c3 => ?_) (fun c3 => ?_)
  · have h := ie_ h c3
    refine r_aload_n C 0 dX1_undo_12 rfl rfl ?_
    obtain ⟨v4, ev4, h⟩ := bs h
    refine r_getR C (c := 0) (r := (RX1, TX1, 19)) rfl 2 (by decide) rfl ev4 q426 dX1_undo_13 ?_
    refine r_dup C dX1_undo_16 rfl ?_
    obtain ⟨v5, ev5, h⟩ := bs h
    refine r_getIN C (c := 7) (r := (RX9, TX9, 10)) rfl 9 (by decide) rfl ev5 (lw_n q396 rfl) dX1_undo_17 ?_
    refine r_iconst C dX1_undo_20 ?_
    refine r_isub C dX1_undo_21 ?_
    obtain ⟨m6, em6, h⟩ := bs h
    refine r_putIN C (c := 7) (r := (RX9, TX9, 10)) rfl 9 (by decide) rfl ⟨rfl, rfl⟩ rfl em6 (lw_n q396 rfl) dX1_undo_22 ?_
    refine r_aload_n C 0 dX1_undo_25 rfl rfl ?_
    obtain ⟨v7, ev7, h⟩ := bs h
    refine r_getR C (c := 0) (r := (RX1, TX1, 19)) rfl 2 (by decide) rfl ev7 q426 dX1_undo_26 ?_
    obtain ⟨v8, ev8, h⟩ := bs h
    refine r_getRN C (c := 7) (r := (RX9, TX9, 10)) rfl 3 (by decide) rfl ev8 (lw_n q384 rfl) dX1_undo_29 ?_
    refine r_aload_n C 0 dX1_undo_32 rfl rfl ?_
    obtain ⟨v9, ev9, h⟩ := bs h
    refine r_getR C (c := 0) (r := (RX1, TX1, 19)) rfl 2 (by decide) rfl ev9 q426 dX1_undo_33 ?_
    obtain ⟨v10, ev10, h⟩ := bs h
    refine r_getIN C (c := 7) (r := (RX9, TX9, 10)) rfl 9 (by decide) rfl ev10 (lw_n q396 rfl) dX1_undo_36 ?_
    obtain ⟨v11, ev11, h⟩ := bs h
    refine r_aald C (kt := 6) ev11 rfl rfl ⟨by decide, by decide⟩ dX1_undo_39 ?_
    refine r_astore_n C [(1, vO v11), (0, vO a0)] dX1_undo_40 rfl (by decide) rfl ?_
    refine r_aload_n C 1 dX1_undo_41 rfl rfl ?_
    obtain ⟨v12, ev12, h⟩ := bs h
    refine r_getR C (c := 0) (r := (RX1, TX1, 19)) rfl 2 (by decide) rfl ev12 q426 dX1_undo_42 ?_
    obtain ⟨v13, ev13, h⟩ := bs h
    refine r_getRN C (c := 7) (r := (RX9, TX9, 10)) rfl 0 (by decide) rfl ev13 (lw_n q378 rfl) dX1_undo_45 ?_
    refine r_aload_n C 0 dX1_undo_48 rfl rfl ?_
    obtain ⟨v14, ev14, h⟩ := bs h
    refine r_getIN C (c := 8) (r := (RX10, TX10, 3)) rfl 2 (by decide) rfl ev14 (lw_n q369 rfl) dX1_undo_49 ?_
    obtain ⟨v15, ev15, h⟩ := bs h
    refine r_aald C (kt := 3) ev15 rfl rfl ⟨by decide, by decide⟩ dX1_undo_52 ?_
    refine r_aload_n C 0 dX1_undo_53 rfl rfl ?_
    obtain ⟨v16, ev16, h⟩ := bs h
    refine r_getRN C (c := 8) (r := (RX10, TX10, 3)) rfl 0 (by decide) rfl ev16 (lw_n q363 rfl) dX1_undo_54 ?_
    obtain ⟨u18, eu18, h⟩ := bs h
    obtain ⟨q17, eq17, h⟩ := bs h
    refine r_callV C (As := [vO v16]) (b := v15) (rest := []) (st1 := []) (v := none) (r := (RX8, TX8, 2)) (ci := 6) rfl eu18 (m_X8_be C.tr eq17) (lw_V q510 q511 q512 q130 q513) rfl hdX8_be rfl rfl (Nat.le_of_ble_eq_true rfl) ⟨by decide, by decide⟩ dX1_undo_57 rfl ?_
    refine r_aload_n C 0 dX1_undo_60 rfl rfl ?_
    obtain ⟨v19, ev19, h⟩ := bs h
    refine r_getIN C (c := 8) (r := (RX10, TX10, 3)) rfl 2 (by decide) rfl ev19 (lw_n q369 rfl) dX1_undo_61 ?_
    cases h
    exact r_iret C hK dX1_undo_64
  · have h := it_ h c3
    refine r_iconst C dX1_undo_10 ?_
    cases h
    exact r_iret C hK dX1_undo_11
theorem hdX1_undo : zhd yX1_undo 0 := by decide +kernel
theorem m_X1_undo {l : Launch} {D : va_G} {b0 : Nat} (hl : l.stackTraces = false) {a0 : Nat} {μ : Me} {w : Int × Me} (h : s_X1_undo a0 μ = some w) : MN l D b0 yX1_undo (ws_ yX1_undo cX1_undo 2 (some .int)) 2 [vO a0] μ (some (vI w.1)) w.2 :=
  MN.of hl (by decide +kernel) (Nat.le_of_ble_eq_true rfl) (fun Z C _ _ => w_X1_undo C h rfl)
noncomputable def s_X1_redo (a0 : Nat) (μ : Me) : Option (Int × Me) :=
  (gR μ 0 a0 2).bind fun v1 =>
  (gI μ 7 v1 9).bind fun v2 =>
  (gR μ 0 a0 2).bind fun v3 =>
  (gI μ 7 v3 8).bind fun v4 =>
  (if w32 v2 = w32 v4 then
  some ((-1), μ)
  else
  (gR μ 0 a0 2).bind fun v6 =>
  (gR μ 7 v6 3).bind fun v7 =>
  (gR μ 0 a0 2).bind fun v8 =>
  (gI μ 7 v8 9).bind fun v9 =>
  (aR μ 107 v7 v9).bind fun v10 =>
  (gR μ 0 a0 2).bind fun v11 =>
  (gI μ 7 v11 9).bind fun v12 =>
  (pI μ 7 v11 9 (v12 + 1)).bind fun m13 =>
  (gR m13 0 a0 2).bind fun v14 =>
  (gR m13 7 v14 0).bind fun v15 =>
  (gI m13 8 v10 2).bind fun v16 =>
  (aR m13 104 v15 v16).bind fun v17 =>
  (gR m13 8 v10 1).bind fun v18 =>
  (ck m13 6 v17).bind fun _ =>
  (s_X8_be v17 v18 m13).bind fun q19 =>
  (gI q19 8 v10 2).bind fun v21 =>
  some (v21, q19))
theorem w_X1_redo {Z : Zt} {fin : Int × Me} {w : Int × Me} (C : CX Z yX1_redo cX1_redo (some .int) 2 2) {a0 : Nat} {μ : Me} (h : s_X1_redo a0 μ = some w) (hK : w = fin) : WL Z (QN Z (some (vI fin.1)) fin.2) μ 0 [(0, vO a0)] [] := by
  unfold s_X1_redo at h
  refine r_aload_n C 0 dX1_redo_0 rfl rfl ?_
  obtain ⟨v1, ev1, h⟩ := bs h
  refine r_getR C (c := 0) (r := (RX1, TX1, 19)) rfl 2 (by decide) rfl ev1 q426 dX1_redo_1 ?_
  obtain ⟨v2, ev2, h⟩ := bs h
  refine r_getIN C (c := 7) (r := (RX9, TX9, 10)) rfl 9 (by decide) rfl ev2 (lw_n q396 rfl) dX1_redo_4 ?_
  refine r_aload_n C 0 dX1_redo_7 rfl rfl ?_
  obtain ⟨v3, ev3, h⟩ := bs h
  refine r_getR C (c := 0) (r := (RX1, TX1, 19)) rfl 2 (by decide) rfl ev3 q426 dX1_redo_8 ?_
  obtain ⟨v4, ev4, h⟩ := bs h
  refine r_getIN C (c := 7) (r := (RX9, TX9, 10)) rfl 8 (by decide) rfl ev4 (lw_n q394 rfl) dX1_redo_11 ?_
  refine r_icmp_ne C dX1_redo_14 (tgt := 19) (by decide) (fun c5 => ?_) (fun c5 => ?_)
  · have h := ie_ h c5
    refine r_aload_n C 0 dX1_redo_19 rfl rfl ?_
    obtain ⟨v6, ev6, h⟩ := bs h
    refine r_getR C (c := 0) (r := (RX1, TX1, 19)) rfl 2 (by decide) rfl ev6 q426 dX1_redo_20 ?_
    obtain ⟨v7, ev7, h⟩ := bs h
    refine r_getRN C (c := 7) (r := (RX9, TX9, 10)) rfl 3 (by decide) rfl ev7 (lw_n q384 rfl) dX1_redo_23 ?_
    refine r_aload_n C 0 dX1_redo_26 rfl rfl ?_
    obtain ⟨v8, ev8, h⟩ := bs h
    refine r_getR C (c := 0) (r := (RX1, TX1, 19)) rfl 2 (by decide) rfl ev8 q426 dX1_redo_27 ?_
    obtain ⟨v9, ev9, h⟩ := bs h
    refine r_getIN C (c := 7) (r := (RX9, TX9, 10)) rfl 9 (by decide) rfl ev9 (lw_n q396 rfl) dX1_redo_30 ?_
    obtain ⟨v10, ev10, h⟩ := bs h
    refine r_aald C (kt := 6) ev10 rfl rfl ⟨by decide, by decide⟩ dX1_redo_33 ?_
    refine r_astore_n C [(1, vO v10), (0, vO a0)] dX1_redo_34 rfl (by decide) rfl ?_
    refine r_aload_n C 1 dX1_redo_35 rfl rfl ?_
    obtain ⟨v11, ev11, h⟩ := bs h
    refine r_getR C (c := 0) (r := (RX1, TX1, 19)) rfl 2 (by decide) rfl ev11 q426 dX1_redo_36 ?_
    refine r_dup C dX1_redo_39 rfl ?_
    obtain ⟨v12, ev12, h⟩ := bs h
    refine r_getIN C (c := 7) (r := (RX9, TX9, 10)) rfl 9 (by decide) rfl ev12 (lw_n q396 rfl) dX1_redo_40 ?_
    refine r_iconst C dX1_redo_43 ?_
    refine r_iadd C dX1_redo_44 ?_
    obtain ⟨m13, em13, h⟩ := bs h
    refine r_putIN C (c := 7) (r := (RX9, TX9, 10)) rfl 9 (by decide) rfl ⟨rfl, rfl⟩ rfl em13 (lw_n q396 rfl) dX1_redo_45 ?_
    refine r_aload_n C 1 dX1_redo_48 rfl rfl ?_
    obtain ⟨v14, ev14, h⟩ := bs h
    refine r_getR C (c := 0) (r := (RX1, TX1, 19)) rfl 2 (by decide) rfl ev14 q426 dX1_redo_49 ?_
    obtain ⟨v15, ev15, h⟩ := bs h
    refine r_getRN C (c := 7) (r := (RX9, TX9, 10)) rfl 0 (by decide) rfl ev15 (lw_n q378 rfl) dX1_redo_52 ?_
    refine r_aload_n C 0 dX1_redo_55 rfl rfl ?_
    obtain ⟨v16, ev16, h⟩ := bs h
    refine r_getIN C (c := 8) (r := (RX10, TX10, 3)) rfl 2 (by decide) rfl ev16 (lw_n q369 rfl) dX1_redo_56 ?_
    obtain ⟨v17, ev17, h⟩ := bs h
    refine r_aald C (kt := 3) ev17 rfl rfl ⟨by decide, by decide⟩ dX1_redo_59 ?_
    refine r_aload_n C 0 dX1_redo_60 rfl rfl ?_
    obtain ⟨v18, ev18, h⟩ := bs h
    refine r_getRN C (c := 8) (r := (RX10, TX10, 3)) rfl 1 (by decide) rfl ev18 (lw_n q366 rfl) dX1_redo_61 ?_
    obtain ⟨u20, eu20, h⟩ := bs h
    obtain ⟨q19, eq19, h⟩ := bs h
    refine r_callV C (As := [vO v18]) (b := v17) (rest := []) (st1 := []) (v := none) (r := (RX8, TX8, 2)) (ci := 6) rfl eu20 (m_X8_be C.tr eq19) (lw_V q510 q511 q512 q130 q513) rfl hdX8_be rfl rfl (Nat.le_of_ble_eq_true rfl) ⟨by decide, by decide⟩ dX1_redo_64 rfl ?_
    refine r_aload_n C 0 dX1_redo_67 rfl rfl ?_
    obtain ⟨v21, ev21, h⟩ := bs h
    refine r_getIN C (c := 8) (r := (RX10, TX10, 3)) rfl 2 (by decide) rfl ev21 (lw_n q369 rfl) dX1_redo_68 ?_
    cases h
    exact r_iret C hK dX1_redo_71
  · have h := it_ h c5
    refine r_iconst C dX1_redo_17 ?_
    cases h
    exact r_iret C hK dX1_redo_18
theorem hdX1_redo : zhd yX1_redo 0 := by decide +kernel
theorem m_X1_redo {l : Launch} {D : va_G} {b0 : Nat} (hl : l.stackTraces = false) {a0 : Nat} {μ : Me} {w : Int × Me} (h : s_X1_redo a0 μ = some w) : MN l D b0 yX1_redo (ws_ yX1_redo cX1_redo 2 (some .int)) 2 [vO a0] μ (some (vI w.1)) w.2 :=
  MN.of hl (by decide +kernel) (Nat.le_of_ble_eq_true rfl) (fun Z C _ _ => w_X1_redo C h rfl)
noncomputable def s_X10_be (a0 : Nat) (a1 : Nat) (μ : Me) : Option (Me) :=
  (gI μ 8 a1 2).bind fun v1 =>
  (pI μ 8 a0 2 v1).bind fun m2 =>
  (gR m2 8 a0 0).bind fun v3 =>
  (gR m2 8 a1 0).bind fun v4 =>
  (ck m2 6 v3).bind fun _ =>
  (s_X8_be v3 v4 m2).bind fun q5 =>
  (gR q5 8 a0 1).bind fun v7 =>
  (gR q5 8 a1 1).bind fun v8 =>
  (ck q5 6 v7).bind fun _ =>
  (s_X8_be v7 v8 q5).bind fun q9 =>
  some q9
theorem w_X10_be {Z : Zt} {fin : Me} {w : Me} (C : CX Z yX10_be cX10_be none 2 2) {a0 : Nat} {a1 : Nat} {μ : Me} (h : s_X10_be a0 a1 μ = some w) (hK : w = fin) : WL Z (QN Z none fin) μ 0 [(0, vO a0), (1, vO a1)] [] := by
  unfold s_X10_be at h
  refine r_aload_n C 0 dX10_be_0 rfl rfl ?_
  refine r_aload_n C 1 dX10_be_1 rfl rfl ?_
  obtain ⟨v1, ev1, h⟩ := bs h
  refine r_getI C (c := 8) (r := (RX10, TX10, 3)) rfl 2 (by decide) rfl ev1 q367 dX10_be_2 ?_
  obtain ⟨m2, em2, h⟩ := bs h
  refine r_putI C (c := 8) (r := (RX10, TX10, 3)) rfl 2 (by decide) rfl ⟨rfl, rfl⟩ rfl em2 q367 dX10_be_5 ?_
  refine r_aload_n C 0 dX10_be_8 rfl rfl ?_
  obtain ⟨v3, ev3, h⟩ := bs h
  refine r_getR C (c := 8) (r := (RX10, TX10, 3)) rfl 0 (by decide) rfl ev3 q361 dX10_be_9 ?_
  refine r_aload_n C 1 dX10_be_12 rfl rfl ?_
  obtain ⟨v4, ev4, h⟩ := bs h
  refine r_getR C (c := 8) (r := (RX10, TX10, 3)) rfl 0 (by decide) rfl ev4 q361 dX10_be_13 ?_
  obtain ⟨u6, eu6, h⟩ := bs h
  obtain ⟨q5, eq5, h⟩ := bs h
  refine r_callV C (As := [vO v4]) (b := v3) (rest := []) (st1 := []) (v := none) (r := (RX8, TX8, 2)) (ci := 6) rfl eu6 (m_X8_be C.tr eq5) (lw_V q535 q511 q512 q130 q513) rfl hdX8_be rfl rfl (Nat.le_of_ble_eq_true rfl) ⟨by decide, by decide⟩ dX10_be_16 rfl ?_
  refine r_aload_n C 0 dX10_be_19 rfl rfl ?_
  obtain ⟨v7, ev7, h⟩ := bs h
  refine r_getR C (c := 8) (r := (RX10, TX10, 3)) rfl 1 (by decide) rfl ev7 q364 dX10_be_20 ?_
  refine r_aload_n C 1 dX10_be_23 rfl rfl ?_
  obtain ⟨v8, ev8, h⟩ := bs h
  refine r_getR C (c := 8) (r := (RX10, TX10, 3)) rfl 1 (by decide) rfl ev8 q364 dX10_be_24 ?_
  obtain ⟨u10, eu10, h⟩ := bs h
  obtain ⟨q9, eq9, h⟩ := bs h
  refine r_callV C (As := [vO v8]) (b := v7) (rest := []) (st1 := []) (v := none) (r := (RX8, TX8, 2)) (ci := 6) rfl eu10 (m_X8_be C.tr eq9) (lw_V q535 q511 q512 q130 q513) rfl hdX8_be rfl rfl (Nat.le_of_ble_eq_true rfl) ⟨by decide, by decide⟩ dX10_be_27 rfl ?_
  cases h
  exact r_vret C hK dX10_be_30
theorem hdX10_be : zhd yX10_be 1 := by decide +kernel
theorem m_X10_be {l : Launch} {D : va_G} {b0 : Nat} (hl : l.stackTraces = false) {a0 : Nat} {a1 : Nat} {μ : Me} {w : Me} (h : s_X10_be a0 a1 μ = some w) : MN l D b0 yX10_be (ws_ yX10_be cX10_be 2 none) 2 [vO a0, vO a1] μ none w :=
  MN.of hl (by decide +kernel) (Nat.le_of_ble_eq_true rfl) (fun Z C _ _ => w_X10_be C h rfl)
noncomputable def s_X9_be_b111 (a0 : Nat) (a1 : Nat)  (μ : Me) : Option (Me) :=
  (gI μ 7 a1 4).bind fun v10 =>
  (pI μ 7 a0 4 v10).bind fun m11 =>
  (gI m11 7 a1 5).bind fun v12 =>
  (pI m11 7 a0 5 v12).bind fun m13 =>
  (gI m13 7 a1 6).bind fun v14 =>
  (pI m13 7 a0 6 v14).bind fun m15 =>
  (gI m15 7 a1 7).bind fun v16 =>
  (pI m15 7 a0 7 v16).bind fun m17 =>
  (gI m17 7 a1 8).bind fun v18 =>
  (pI m17 7 a0 8 v18).bind fun m19 =>
  (gI m19 7 a1 9).bind fun v20 =>
  (pI m19 7 a0 9 v20).bind fun m21 =>
  some m21
theorem w_X9_be_b111 {Z : Zt} {fin : Me} {w : (Me)} (C : CX Z yX9_be cX9_be none 3 3) {a0 : Nat} {a1 : Nat}  {μ : Me} (h : s_X9_be_b111 a0 a1 μ = some w) (hK : (fun r : Me => r = fin) w) : WL Z (QN Z none fin) μ 111 [(0, vO a0), (1, vO a1)] [] := by
  unfold s_X9_be_b111 at h
  refine r_aload_n C 0 dX9_be_111 rfl rfl ?_
  refine r_aload_n C 1 dX9_be_112 rfl rfl ?_
  obtain ⟨v10, ev10, h⟩ := bs h
  refine r_getI C (c := 7) (r := (RX9, TX9, 10)) rfl 4 (by decide) rfl ev10 q385 dX9_be_113 ?_
  obtain ⟨m11, em11, h⟩ := bs h
  refine r_putI C (c := 7) (r := (RX9, TX9, 10)) rfl 4 (by decide) rfl ⟨rfl, rfl⟩ rfl em11 q385 dX9_be_116 ?_
  refine r_aload_n C 0 dX9_be_119 rfl rfl ?_
  refine r_aload_n C 1 dX9_be_120 rfl rfl ?_
  obtain ⟨v12, ev12, h⟩ := bs h
  refine r_getI C (c := 7) (r := (RX9, TX9, 10)) rfl 5 (by decide) rfl ev12 q387 dX9_be_121 ?_
  obtain ⟨m13, em13, h⟩ := bs h
  refine r_putI C (c := 7) (r := (RX9, TX9, 10)) rfl 5 (by decide) rfl ⟨rfl, rfl⟩ rfl em13 q387 dX9_be_124 ?_
  refine r_aload_n C 0 dX9_be_127 rfl rfl ?_
  refine r_aload_n C 1 dX9_be_128 rfl rfl ?_
  obtain ⟨v14, ev14, h⟩ := bs h
  refine r_getI C (c := 7) (r := (RX9, TX9, 10)) rfl 6 (by decide) rfl ev14 q389 dX9_be_129 ?_
  obtain ⟨m15, em15, h⟩ := bs h
  refine r_putI C (c := 7) (r := (RX9, TX9, 10)) rfl 6 (by decide) rfl ⟨rfl, rfl⟩ rfl em15 q389 dX9_be_132 ?_
  refine r_aload_n C 0 dX9_be_135 rfl rfl ?_
  refine r_aload_n C 1 dX9_be_136 rfl rfl ?_
  obtain ⟨v16, ev16, h⟩ := bs h
  refine r_getI C (c := 7) (r := (RX9, TX9, 10)) rfl 7 (by decide) rfl ev16 q391 dX9_be_137 ?_
  obtain ⟨m17, em17, h⟩ := bs h
  refine r_putI C (c := 7) (r := (RX9, TX9, 10)) rfl 7 (by decide) rfl ⟨rfl, rfl⟩ rfl em17 q391 dX9_be_140 ?_
  refine r_aload_n C 0 dX9_be_143 rfl rfl ?_
  refine r_aload_n C 1 dX9_be_144 rfl rfl ?_
  obtain ⟨v18, ev18, h⟩ := bs h
  refine r_getI C (c := 7) (r := (RX9, TX9, 10)) rfl 8 (by decide) rfl ev18 q393 dX9_be_145 ?_
  obtain ⟨m19, em19, h⟩ := bs h
  refine r_putI C (c := 7) (r := (RX9, TX9, 10)) rfl 8 (by decide) rfl ⟨rfl, rfl⟩ rfl em19 q393 dX9_be_148 ?_
  refine r_aload_n C 0 dX9_be_151 rfl rfl ?_
  refine r_aload_n C 1 dX9_be_152 rfl rfl ?_
  obtain ⟨v20, ev20, h⟩ := bs h
  refine r_getI C (c := 7) (r := (RX9, TX9, 10)) rfl 9 (by decide) rfl ev20 q395 dX9_be_153 ?_
  obtain ⟨m21, em21, h⟩ := bs h
  refine r_putI C (c := 7) (r := (RX9, TX9, 10)) rfl 9 (by decide) rfl ⟨rfl, rfl⟩ rfl em21 q395 dX9_be_156 ?_
  cases h
  exact r_vret C hK dX9_be_159
noncomputable def s_X9_be_l82_st (a0 : Nat) (a1 : Nat) (x2 : Int) (μ : Me) : Option ((Int × Me) ⊕ (Me)) :=
  (gI μ 7 a1 8).bind fun v8 =>
  (if w32 v8 ≤ w32 x2 then
  (s_X9_be_b111 a0 a1 μ).map Sum.inr
  else
  (gR μ 7 a0 3).bind fun v22 =>
  (aR μ 107 v22 x2).bind fun v23 =>
  (gR μ 7 a1 3).bind fun v24 =>
  (aR μ 107 v24 x2).bind fun v25 =>
  (ck μ 8 v23).bind fun _ =>
  (s_X10_be v23 v25 μ).bind fun q26 =>
  some (.inl ((x2 + 1), q26)))
theorem w_X9_be_l82_st {Z : Zt} {fin : Me} {w : ((Int × Me) ⊕ (Me))} (C : CX Z yX9_be cX9_be none 3 3) {a0 : Nat} {a1 : Nat} {x2 : Int} {μ : Me} (h : s_X9_be_l82_st a0 a1 x2 μ = some w) (hK : (Sum.elim (fun s : Int × Me => WL Z (QN Z none fin) s.2 82 [(0, vO a0), (1, vO a1), (2, vI s.1)] []) (fun r : Me => r = fin)) w) : WL Z (QN Z none fin) μ 82 [(0, vO a0), (1, vO a1), (2, vI x2)] [] := by
  unfold s_X9_be_l82_st at h
  refine r_iload_n C 2 dX9_be_82 rfl rfl ?_
  refine r_aload_n C 1 dX9_be_83 rfl rfl ?_
  obtain ⟨v8, ev8, h⟩ := bs h
  refine r_getI C (c := 7) (r := (RX9, TX9, 10)) rfl 8 (by decide) rfl ev8 q393 dX9_be_84 ?_
  refine r_icmp_ge C dX9_be_87 (tgt := 111) (by decide) (fun c9 => ?_) (fun c9 => ?_)
  · have h := it_ h c9
    obtain ⟨z, hz, ez⟩ := ms_ h; clear h; subst ez; have h := hz; clear hz
    refine r_sub [0, 1] rfl ?_
    exact w_X9_be_b111 (fin := fin) C h hK
  · have h := ie_ h c9
    refine r_aload_n C 0 dX9_be_90 rfl rfl ?_
    obtain ⟨v22, ev22, h⟩ := bs h
    refine r_getR C (c := 7) (r := (RX9, TX9, 10)) rfl 3 (by decide) rfl ev22 q383 dX9_be_91 ?_
    refine r_iload_n C 2 dX9_be_94 rfl rfl ?_
    obtain ⟨v23, ev23, h⟩ := bs h
    refine r_aald C (kt := 6) ev23 rfl rfl ⟨by decide, by decide⟩ dX9_be_95 ?_
    refine r_aload_n C 1 dX9_be_96 rfl rfl ?_
    obtain ⟨v24, ev24, h⟩ := bs h
    refine r_getR C (c := 7) (r := (RX9, TX9, 10)) rfl 3 (by decide) rfl ev24 q383 dX9_be_97 ?_
    refine r_iload_n C 2 dX9_be_100 rfl rfl ?_
    obtain ⟨v25, ev25, h⟩ := bs h
    refine r_aald C (kt := 6) ev25 rfl rfl ⟨by decide, by decide⟩ dX9_be_101 ?_
    obtain ⟨u27, eu27, h⟩ := bs h
    obtain ⟨q26, eq26, h⟩ := bs h
    refine r_callV C (As := [vO v25]) (b := v23) (rest := []) (st1 := []) (v := none) (r := (RX10, TX10, 3)) (ci := 8) rfl eu27 (m_X10_be C.tr eq26) (lw_V q531 q532 q533 q132 q534) rfl hdX10_be rfl rfl (Nat.le_of_ble_eq_true rfl) ⟨by decide, by decide⟩ dX9_be_102 rfl ?_
    refine r_iinc C 2 [(2, vI (x2 + 1)), (0, vO a0), (1, vO a1)] dX9_be_105 rfl (by decide) rfl ?_
    refine r_goto C dX9_be_108 (tgt := 82) (by decide) ?_
    cases h
    refine r_sub [1, 2, 0] rfl ?_
    exact hK
noncomputable def s_X9_be_l82 (a0 : Nat) (a1 : Nat) (x2 : Int) (μ : Me) : Option (Me) :=
  whileO (fun s : Int × Me => s_X9_be_l82_st a0 a1 s.1 s.2) (x2, μ)
theorem e_X9_be_l82 (a0 : Nat) (a1 : Nat) (x2 : Int) (μ : Me) : s_X9_be_l82 a0 a1 x2 μ = (s_X9_be_l82_st a0 a1 x2 μ).bind fun x => x.elim (fun s : Int × Me => s_X9_be_l82 a0 a1 s.1 s.2) some := whileO_eq _ _
theorem w_X9_be_l82 {Z : Zt} {fin : Me} {w : (Me)} (C : CX Z yX9_be cX9_be none 3 3) {a0 : Nat} {a1 : Nat} {x2 : Int} {μ : Me} (h : s_X9_be_l82 a0 a1 x2 μ = some w) (hK : (fun r : Me => r = fin) w) : WL Z (QN Z none fin) μ 82 [(0, vO a0), (1, vO a1), (2, vI x2)] [] := by
  refine whileO_walk (w := w) (fun s : Int × Me => WL Z (QN Z none fin) s.2 82 [(0, vO a0), (1, vO a1), (2, vI s.1)] []) (fun s v h2 hi hr => ?_) (x2, μ) h
  refine w_X9_be_l82_st (fin := fin) C h2 ?_
  cases v with
  | inl s2 => exact hi s2 rfl
  | inr r => have e := hr r rfl; subst e; exact hK
noncomputable def s_X9_be_b65 (a0 : Nat) (a1 : Nat)  (μ : Me) : Option (Me) :=
  (gR μ 7 a1 2).bind fun v5 =>
  (gR μ 7 a0 2).bind fun v6 =>
  (cpQ μ v5 0 v6 0 8).bind fun m7 =>
  s_X9_be_l82 a0 a1 0 m7
theorem w_X9_be_b65 {Z : Zt} {fin : Me} {w : (Me)} (C : CX Z yX9_be cX9_be none 3 3) {a0 : Nat} {a1 : Nat}  {μ : Me} (h : s_X9_be_b65 a0 a1 μ = some w) (hK : (fun r : Me => r = fin) w) : WL Z (QN Z none fin) μ 65 [(0, vO a0), (1, vO a1)] [] := by
  unfold s_X9_be_b65 at h
  refine r_aload_n C 1 dX9_be_65 rfl rfl ?_
  obtain ⟨v5, ev5, h⟩ := bs h
  refine r_getR C (c := 7) (r := (RX9, TX9, 10)) rfl 2 (by decide) rfl ev5 q381 dX9_be_66 ?_
  refine r_iconst C dX9_be_69 ?_
  refine r_aload_n C 0 dX9_be_70 rfl rfl ?_
  obtain ⟨v6, ev6, h⟩ := bs h
  refine r_getR C (c := 7) (r := (RX9, TX9, 10)) rfl 2 (by decide) rfl ev6 q381 dX9_be_71 ?_
  refine r_iconst C dX9_be_74 ?_
  refine r_bipush C dX9_be_75 (by decide) ?_
  obtain ⟨m7, em7, h⟩ := bs h
  refine r_copyQ C em7 q530 q516 q515 q138 (by decide) (Nat.le_of_ble_eq_true rfl) dX9_be_77 ?_
  refine r_iconst C dX9_be_80 ?_
  refine r_istore_n C [(2, vI 0), (0, vO a0), (1, vO a1)] dX9_be_81 rfl (by decide) rfl ?_
  refine r_sub [1, 2, 0] rfl ?_
  exact w_X9_be_l82 (fin := fin) C h hK
noncomputable def s_X9_be_l33_st (a0 : Nat) (a1 : Nat) (x2 : Int) (μ : Me) : Option ((Int × Me) ⊕ (Me)) :=
  (gI μ 7 a1 6).bind fun v3 =>
  (if w32 v3 ≤ w32 x2 then
  (s_X9_be_b65 a0 a1 μ).map Sum.inr
  else
  (gR μ 7 a1 1).bind fun v28 =>
  (aR μ 105 v28 x2).bind fun v29 =>
  (gR μ 7 a0 1).bind fun v30 =>
  (aR μ 105 v30 x2).bind fun v31 =>
  (cpI μ v29 0 v31 0 4).bind fun m32 =>
  some (.inl ((x2 + 1), m32)))
theorem w_X9_be_l33_st {Z : Zt} {fin : Me} {w : ((Int × Me) ⊕ (Me))} (C : CX Z yX9_be cX9_be none 3 3) {a0 : Nat} {a1 : Nat} {x2 : Int} {μ : Me} (h : s_X9_be_l33_st a0 a1 x2 μ = some w) (hK : (Sum.elim (fun s : Int × Me => WL Z (QN Z none fin) s.2 33 [(0, vO a0), (1, vO a1), (2, vI s.1)] []) (fun r : Me => r = fin)) w) : WL Z (QN Z none fin) μ 33 [(0, vO a0), (1, vO a1), (2, vI x2)] [] := by
  unfold s_X9_be_l33_st at h
  refine r_iload_n C 2 dX9_be_33 rfl rfl ?_
  refine r_aload_n C 1 dX9_be_34 rfl rfl ?_
  obtain ⟨v3, ev3, h⟩ := bs h
  refine r_getI C (c := 7) (r := (RX9, TX9, 10)) rfl 6 (by decide) rfl ev3 q389 dX9_be_35 ?_
  refine r_icmp_ge C dX9_be_38 (tgt := 65) (by decide) (fun c4 => ?_) (fun c4 => ?_)
  · have h := it_ h c4
    obtain ⟨z, hz, ez⟩ := ms_ h; clear h; subst ez; have h := hz; clear hz
    refine r_sub [0, 1] rfl ?_
    exact w_X9_be_b65 (fin := fin) C h hK
  · have h := ie_ h c4
    refine r_aload_n C 1 dX9_be_41 rfl rfl ?_
    obtain ⟨v28, ev28, h⟩ := bs h
    refine r_getR C (c := 7) (r := (RX9, TX9, 10)) rfl 1 (by decide) rfl ev28 q379 dX9_be_42 ?_
    refine r_iload_n C 2 dX9_be_45 rfl rfl ?_
    obtain ⟨v29, ev29, h⟩ := bs h
    refine r_aald C (kt := 4) ev29 rfl rfl ⟨by decide, by decide⟩ dX9_be_46 ?_
    refine r_iconst C dX9_be_47 ?_
    refine r_aload_n C 0 dX9_be_48 rfl rfl ?_
    obtain ⟨v30, ev30, h⟩ := bs h
    refine r_getR C (c := 7) (r := (RX9, TX9, 10)) rfl 1 (by decide) rfl ev30 q379 dX9_be_49 ?_
    refine r_iload_n C 2 dX9_be_52 rfl rfl ?_
    obtain ⟨v31, ev31, h⟩ := bs h
    refine r_aald C (kt := 4) ev31 rfl rfl ⟨by decide, by decide⟩ dX9_be_53 ?_
    refine r_iconst C dX9_be_54 ?_
    refine r_iconst C dX9_be_55 ?_
    obtain ⟨m32, em32, h⟩ := bs h
    refine r_copyI C em32 q530 q516 q515 q138 (by decide) (Nat.le_of_ble_eq_true rfl) dX9_be_56 ?_
    refine r_iinc C 2 [(2, vI (x2 + 1)), (0, vO a0), (1, vO a1)] dX9_be_59 rfl (by decide) rfl ?_
    refine r_goto C dX9_be_62 (tgt := 33) (by decide) ?_
    cases h
    refine r_sub [1, 2, 0] rfl ?_
    exact hK
noncomputable def s_X9_be_l33 (a0 : Nat) (a1 : Nat) (x2 : Int) (μ : Me) : Option (Me) :=
  whileO (fun s : Int × Me => s_X9_be_l33_st a0 a1 s.1 s.2) (x2, μ)
theorem e_X9_be_l33 (a0 : Nat) (a1 : Nat) (x2 : Int) (μ : Me) : s_X9_be_l33 a0 a1 x2 μ = (s_X9_be_l33_st a0 a1 x2 μ).bind fun x => x.elim (fun s : Int × Me => s_X9_be_l33 a0 a1 s.1 s.2) some := whileO_eq _ _
theorem w_X9_be_l33 {Z : Zt} {fin : Me} {w : (Me)} (C : CX Z yX9_be cX9_be none 3 3) {a0 : Nat} {a1 : Nat} {x2 : Int} {μ : Me} (h : s_X9_be_l33 a0 a1 x2 μ = some w) (hK : (fun r : Me => r = fin) w) : WL Z (QN Z none fin) μ 33 [(0, vO a0), (1, vO a1), (2, vI x2)] [] := by
  refine whileO_walk (w := w) (fun s : Int × Me => WL Z (QN Z none fin) s.2 33 [(0, vO a0), (1, vO a1), (2, vI s.1)] []) (fun s v h2 hi hr => ?_) (x2, μ) h
  refine w_X9_be_l33_st (fin := fin) C h2 ?_
  cases v with
  | inl s2 => exact hi s2 rfl
  | inr r => have e := hr r rfl; subst e; exact hK
noncomputable def s_X9_be_l2_st (a0 : Nat) (a1 : Nat) (x2 : Int) (μ : Me) : Option ((Int × Me) ⊕ (Me)) :=
  (gI μ 7 a1 5).bind fun v1 =>
  (if w32 v1 ≤ w32 x2 then
  (s_X9_be_l33 a0 a1 0 μ).map Sum.inr
  else
  (gR μ 7 a0 0).bind fun v33 =>
  (aR μ 104 v33 x2).bind fun v34 =>
  (gR μ 7 a1 0).bind fun v35 =>
  (aR μ 104 v35 x2).bind fun v36 =>
  (ck μ 6 v34).bind fun _ =>
  (s_X8_be v34 v36 μ).bind fun q37 =>
  some (.inl ((x2 + 1), q37)))
theorem w_X9_be_l2_st {Z : Zt} {fin : Me} {w : ((Int × Me) ⊕ (Me))} (C : CX Z yX9_be cX9_be none 3 3) {a0 : Nat} {a1 : Nat} {x2 : Int} {μ : Me} (h : s_X9_be_l2_st a0 a1 x2 μ = some w) (hK : (Sum.elim (fun s : Int × Me => WL Z (QN Z none fin) s.2 2 [(0, vO a0), (1, vO a1), (2, vI s.1)] []) (fun r : Me => r = fin)) w) : WL Z (QN Z none fin) μ 2 [(0, vO a0), (1, vO a1), (2, vI x2)] [] := by
  unfold s_X9_be_l2_st at h
  refine r_iload_n C 2 dX9_be_2 rfl rfl ?_
  refine r_aload_n C 1 dX9_be_3 rfl rfl ?_
  obtain ⟨v1, ev1, h⟩ := bs h
  refine r_getI C (c := 7) (r := (RX9, TX9, 10)) rfl 5 (by decide) rfl ev1 q387 dX9_be_4 ?_
  refine r_icmp_ge C dX9_be_7 (tgt := 31) (by decide) (fun c2 => ?_) (fun c2 => ?_)
  · have h := it_ h c2
    refine r_iconst C dX9_be_31 ?_
    refine r_istore_n C [(2, vI 0), (0, vO a0), (1, vO a1)] dX9_be_32 rfl (by decide) rfl ?_
    obtain ⟨z, hz, ez⟩ := ms_ h; clear h; subst ez; have h := hz; clear hz
    refine r_sub [1, 2, 0] rfl ?_
    exact w_X9_be_l33 (fin := fin) C h hK
  · have h := ie_ h c2
    refine r_aload_n C 0 dX9_be_10 rfl rfl ?_
    obtain ⟨v33, ev33, h⟩ := bs h
    refine r_getR C (c := 7) (r := (RX9, TX9, 10)) rfl 0 (by decide) rfl ev33 q377 dX9_be_11 ?_
    refine r_iload_n C 2 dX9_be_14 rfl rfl ?_
    obtain ⟨v34, ev34, h⟩ := bs h
    refine r_aald C (kt := 3) ev34 rfl rfl ⟨by decide, by decide⟩ dX9_be_15 ?_
    refine r_aload_n C 1 dX9_be_16 rfl rfl ?_
    obtain ⟨v35, ev35, h⟩ := bs h
    refine r_getR C (c := 7) (r := (RX9, TX9, 10)) rfl 0 (by decide) rfl ev35 q377 dX9_be_17 ?_
    refine r_iload_n C 2 dX9_be_20 rfl rfl ?_
    obtain ⟨v36, ev36, h⟩ := bs h
    refine r_aald C (kt := 3) ev36 rfl rfl ⟨by decide, by decide⟩ dX9_be_21 ?_
    obtain ⟨u38, eu38, h⟩ := bs h
    obtain ⟨q37, eq37, h⟩ := bs h
    refine r_callV C (As := [vO v36]) (b := v34) (rest := []) (st1 := []) (v := none) (r := (RX8, TX8, 2)) (ci := 6) rfl eu38 (m_X8_be C.tr eq37) (lw_V q529 q511 q512 q130 q513) rfl hdX8_be rfl rfl (Nat.le_of_ble_eq_true rfl) ⟨by decide, by decide⟩ dX9_be_22 rfl ?_
    refine r_iinc C 2 [(2, vI (x2 + 1)), (0, vO a0), (1, vO a1)] dX9_be_25 rfl (by decide) rfl ?_
    refine r_goto C dX9_be_28 (tgt := 2) (by decide) ?_
    cases h
    refine r_sub [1, 2, 0] rfl ?_
    exact hK
noncomputable def s_X9_be_l2 (a0 : Nat) (a1 : Nat) (x2 : Int) (μ : Me) : Option (Me) :=
  whileO (fun s : Int × Me => s_X9_be_l2_st a0 a1 s.1 s.2) (x2, μ)
theorem e_X9_be_l2 (a0 : Nat) (a1 : Nat) (x2 : Int) (μ : Me) : s_X9_be_l2 a0 a1 x2 μ = (s_X9_be_l2_st a0 a1 x2 μ).bind fun x => x.elim (fun s : Int × Me => s_X9_be_l2 a0 a1 s.1 s.2) some := whileO_eq _ _
theorem w_X9_be_l2 {Z : Zt} {fin : Me} {w : (Me)} (C : CX Z yX9_be cX9_be none 3 3) {a0 : Nat} {a1 : Nat} {x2 : Int} {μ : Me} (h : s_X9_be_l2 a0 a1 x2 μ = some w) (hK : (fun r : Me => r = fin) w) : WL Z (QN Z none fin) μ 2 [(0, vO a0), (1, vO a1), (2, vI x2)] [] := by
  refine whileO_walk (w := w) (fun s : Int × Me => WL Z (QN Z none fin) s.2 2 [(0, vO a0), (1, vO a1), (2, vI s.1)] []) (fun s v h2 hi hr => ?_) (x2, μ) h
  refine w_X9_be_l2_st (fin := fin) C h2 ?_
  cases v with
  | inl s2 => exact hi s2 rfl
  | inr r => have e := hr r rfl; subst e; exact hK
noncomputable def s_X9_be (a0 : Nat) (a1 : Nat) (μ : Me) : Option (Me) :=
  s_X9_be_l2 a0 a1 0 μ
theorem w_X9_be {Z : Zt} {fin : Me} {w : Me} (C : CX Z yX9_be cX9_be none 3 3) {a0 : Nat} {a1 : Nat} {μ : Me} (h : s_X9_be a0 a1 μ = some w) (hK : w = fin) : WL Z (QN Z none fin) μ 0 [(0, vO a0), (1, vO a1)] [] := by
  unfold s_X9_be at h
  refine r_iconst C dX9_be_0 ?_
  refine r_istore_n C [(2, vI 0), (0, vO a0), (1, vO a1)] dX9_be_1 rfl (by decide) rfl ?_
  refine r_sub [1, 2, 0] rfl ?_
  exact w_X9_be_l2 (fin := fin) C h hK
theorem hdX9_be : zhd yX9_be 1 := by decide +kernel
theorem m_X9_be {l : Launch} {D : va_G} {b0 : Nat} (hl : l.stackTraces = false) {a0 : Nat} {a1 : Nat} {μ : Me} {w : Me} (h : s_X9_be a0 a1 μ = some w) : MN l D b0 yX9_be (ws_ yX9_be cX9_be 3 none) 3 [vO a0, vO a1] μ none w :=
  MN.of hl (by decide +kernel) (Nat.le_of_ble_eq_true rfl) (fun Z C _ _ => w_X9_be C h rfl)
noncomputable def s_X1_image (a0 : Nat) (μ : Me) : Option (Me) :=
  (gR μ 0 a0 3).bind fun v1 =>
  (gR μ 0 a0 2).bind fun v2 =>
  (ck μ 7 v1).bind fun _ =>
  (s_X9_be v1 v2 μ).bind fun q3 =>
  (pI q3 0 a0 18 1).bind fun m5 =>
  some m5
theorem w_X1_image {Z : Zt} {fin : Me} {w : Me} (C : CX Z yX1_image cX1_image none 4 1) {a0 : Nat} {μ : Me} (h : s_X1_image a0 μ = some w) (hK : w = fin) : WL Z (QN Z none fin) μ 0 [(0, vO a0)] [] := by
  unfold s_X1_image at h
  refine r_aload_n C 0 dX1_image_0 rfl rfl ?_
  obtain ⟨v1, ev1, h⟩ := bs h
  refine r_getR C (c := 0) (r := (RX1, TX1, 19)) rfl 3 (by decide) rfl ev1 q427 dX1_image_1 ?_
  refine r_aload_n C 0 dX1_image_4 rfl rfl ?_
  obtain ⟨v2, ev2, h⟩ := bs h
  refine r_getR C (c := 0) (r := (RX1, TX1, 19)) rfl 2 (by decide) rfl ev2 q426 dX1_image_5 ?_
  obtain ⟨u4, eu4, h⟩ := bs h
  obtain ⟨q3, eq3, h⟩ := bs h
  refine r_callV C (As := [vO v2]) (b := v1) (rest := []) (st1 := []) (v := none) (r := (RX9, TX9, 10)) (ci := 7) rfl eu4 (m_X9_be C.tr eq3) (lw_V q525 q526 q527 q131 q528) rfl hdX9_be rfl rfl (Nat.le_of_ble_eq_true rfl) ⟨by decide, by decide⟩ dX1_image_8 rfl ?_
  refine r_aload_n C 0 dX1_image_11 rfl rfl ?_
  refine r_iconst C dX1_image_12 ?_
  obtain ⟨m5, em5, h⟩ := bs h
  refine r_putI C (c := 0) (r := (RX1, TX1, 19)) rfl 18 (by decide) rfl (by decide) rfl em5 q446 dX1_image_13 ?_
  cases h
  exact r_vret C hK dX1_image_16
theorem hdX1_image : zhd yX1_image 0 := by decide +kernel
theorem m_X1_image {l : Launch} {D : va_G} {b0 : Nat} (hl : l.stackTraces = false) {a0 : Nat} {μ : Me} {w : Me} (h : s_X1_image a0 μ = some w) : MN l D b0 yX1_image (ws_ yX1_image cX1_image 1 none) 4 [vO a0] μ none w :=
  MN.of hl (by decide +kernel) (Nat.le_of_ble_eq_true rfl) (fun Z C _ _ => w_X1_image C h rfl)
noncomputable def s_X1_back (a0 : Nat) (μ : Me) : Option (Int × Me) :=
  (gI μ 0 a0 18).bind fun v1 =>
  (if w32 v1 = 0 then
  some (0, μ)
  else
  (gR μ 0 a0 2).bind fun v3 =>
  (gR μ 0 a0 3).bind fun v4 =>
  (ck μ 7 v3).bind fun _ =>
  (s_X9_be v3 v4 μ).bind fun q5 =>
  (gR q5 0 a0 1).bind fun v7 =>
  (gR q5 4 v7 0).bind fun v8 =>
  (gR q5 0 a0 2).bind fun v9 =>
  (gI q5 7 v9 4).bind fun v10 =>
  (pI q5 5 v8 0 v10).bind fun m11 =>
  some (1, m11))
theorem w_X1_back {Z : Zt} {fin : Int × Me} {w : Int × Me} (C : CX Z yX1_back cX1_back (some .boolean) 4 1) {a0 : Nat} {μ : Me} (h : s_X1_back a0 μ = some w) (hK : w = fin) : WL Z (QN Z (some (vI fin.1)) fin.2) μ 0 [(0, vO a0)] [] := by
  unfold s_X1_back at h
  refine r_aload_n C 0 dX1_back_0 rfl rfl ?_
  obtain ⟨v1, ev1, h⟩ := bs h
  refine r_getI C (c := 0) (r := (RX1, TX1, 19)) rfl 18 (by decide) rfl ev1 q446 dX1_back_1 ?_
  refine r_if_ne C dX1_back_4 (tgt := 9) (by decide) (fun c2 => ?_) (fun c2 => ?_)
  · have h := ie_ h c2
    refine r_aload_n C 0 dX1_back_9 rfl rfl ?_
    obtain ⟨v3, ev3, h⟩ := bs h
    refine r_getR C (c := 0) (r := (RX1, TX1, 19)) rfl 2 (by decide) rfl ev3 q426 dX1_back_10 ?_
    refine r_aload_n C 0 dX1_back_13 rfl rfl ?_
    obtain ⟨v4, ev4, h⟩ := bs h
    refine r_getR C (c := 0) (r := (RX1, TX1, 19)) rfl 3 (by decide) rfl ev4 q427 dX1_back_14 ?_
    obtain ⟨u6, eu6, h⟩ := bs h
    obtain ⟨q5, eq5, h⟩ := bs h
    refine r_callV C (As := [vO v4]) (b := v3) (rest := []) (st1 := []) (v := none) (r := (RX9, TX9, 10)) (ci := 7) rfl eu6 (m_X9_be C.tr eq5) (lw_V q525 q526 q527 q131 q528) rfl hdX9_be rfl rfl (Nat.le_of_ble_eq_true rfl) ⟨by decide, by decide⟩ dX1_back_17 rfl ?_
    refine r_aload_n C 0 dX1_back_20 rfl rfl ?_
    obtain ⟨v7, ev7, h⟩ := bs h
    refine r_getR C (c := 0) (r := (RX1, TX1, 19)) rfl 1 (by decide) rfl ev7 q422 dX1_back_21 ?_
    obtain ⟨v8, ev8, h⟩ := bs h
    refine r_getRN C (c := 4) (r := (RX6, TX6, 6)) rfl 0 (by decide) rfl ev8 (lw_n q320 rfl) dX1_back_24 ?_
    refine r_aload_n C 0 dX1_back_27 rfl rfl ?_
    obtain ⟨v9, ev9, h⟩ := bs h
    refine r_getR C (c := 0) (r := (RX1, TX1, 19)) rfl 2 (by decide) rfl ev9 q426 dX1_back_28 ?_
    obtain ⟨v10, ev10, h⟩ := bs h
    refine r_getIN C (c := 7) (r := (RX9, TX9, 10)) rfl 4 (by decide) rfl ev10 (lw_n q386 rfl) dX1_back_31 ?_
    obtain ⟨m11, em11, h⟩ := bs h
    refine r_putIN C (c := 5) (r := (RX7, TX7, 1)) rfl 0 (by decide) rfl ⟨rfl, rfl⟩ rfl em11 (lw_n q289 rfl) dX1_back_34 ?_
    refine r_iconst C dX1_back_37 ?_
    cases h
    exact r_zret C (Or.inr rfl) hK dX1_back_38
  · have h := it_ h c2
    refine r_iconst C dX1_back_7 ?_
    cases h
    exact r_zret C (Or.inl rfl) hK dX1_back_8
theorem hdX1_back : zhd yX1_back 0 := by decide +kernel
theorem m_X1_back {l : Launch} {D : va_G} {b0 : Nat} (hl : l.stackTraces = false) {a0 : Nat} {μ : Me} {w : Int × Me} (h : s_X1_back a0 μ = some w) : MN l D b0 yX1_back (ws_ yX1_back cX1_back 1 (some .boolean)) 4 [vO a0] μ (some (vI w.1)) w.2 :=
  MN.of hl (by decide +kernel) (Nat.le_of_ble_eq_true rfl) (fun Z C _ _ => w_X1_back C h rfl)
noncomputable def s_X1_stock_l102_st (a0 : Nat) (x2 : Int) (x3 : Int) (μ : Me) : Option ((Int × Int × Me) ⊕ (Int × Me)) :=
  (gR μ 0 a0 2).bind fun v21 =>
  (gI μ 7 v21 5).bind fun v22 =>
  (if w32 v22 ≤ w32 x3 then
  some (.inr (x2, μ))
  else
  (gR μ 0 a0 2).bind fun v24 =>
  (gR μ 7 v24 0).bind fun v25 =>
  (aR μ 104 v25 x3).bind fun v26 =>
  (ck μ 6 v26).bind fun _ =>
  (s_X8_isNought v26 μ).bind fun q27 =>
  (if w32 q27.1 = 0 then
  some (.inl ((x2 + 0), (x3 + 1), q27.2))
  else
  some (.inl ((x2 + 1), (x3 + 1), q27.2))))
theorem w_X1_stock_l102_st {Z : Zt} {fin : Int × Me} {w : ((Int × Int × Me) ⊕ (Int × Me))} (C : CX Z yX1_stock cX1_stock (some .int) 2 4) {a0 : Nat} {x2 : Int} {x3 : Int} {μ : Me} (h : s_X1_stock_l102_st a0 x2 x3 μ = some w) (hK : (Sum.elim (fun s : Int × Int × Me => WL Z (QN Z (some (vI fin.1)) fin.2) s.2.2 102 [(0, vO a0), (2, vI s.1), (3, vI s.2.1)] []) (fun r : Int × Me => r = fin)) w) : WL Z (QN Z (some (vI fin.1)) fin.2) μ 102 [(0, vO a0), (2, vI x2), (3, vI x3)] [] := by
  unfold s_X1_stock_l102_st at h
  refine r_iload_n C 2 dX1_stock_102 rfl rfl ?_
  refine r_aload_n C 0 dX1_stock_103 rfl rfl ?_
  obtain ⟨v21, ev21, h⟩ := bs h
  refine r_getR C (c := 0) (r := (RX1, TX1, 19)) rfl 2 (by decide) rfl ev21 q426 dX1_stock_104 ?_
  obtain ⟨v22, ev22, h⟩ := bs h
  refine r_getIN C (c := 7) (r := (RX9, TX9, 10)) rfl 5 (by decide) rfl ev22 (lw_n q388 rfl) dX1_stock_107 ?_
  refine r_icmp_ge C dX1_stock_110 (tgt := 142) (by decide) (fun c23 => ?_) (fun c23 => ?_)
  · have h := it_ h c23
    refine r_iload_n C 1 dX1_stock_142 rfl rfl ?_
    cases h
    exact r_iret C hK dX1_stock_143
  · have h := ie_ h c23
    refine r_iload_n C 1 dX1_stock_113 rfl rfl ?_
    refine r_aload_n C 0 dX1_stock_114 rfl rfl ?_
    obtain ⟨v24, ev24, h⟩ := bs h
    refine r_getR C (c := 0) (r := (RX1, TX1, 19)) rfl 2 (by decide) rfl ev24 q426 dX1_stock_115 ?_
    obtain ⟨v25, ev25, h⟩ := bs h
    refine r_getRN C (c := 7) (r := (RX9, TX9, 10)) rfl 0 (by decide) rfl ev25 (lw_n q378 rfl) dX1_stock_118 ?_
    refine r_iload_n C 2 dX1_stock_121 rfl rfl ?_
    obtain ⟨v26, ev26, h⟩ := bs h
    refine r_aald C (kt := 3) ev26 rfl rfl ⟨by decide, by decide⟩ dX1_stock_122 ?_
    obtain ⟨u28, eu28, h⟩ := bs h
    obtain ⟨q27, eq27, h⟩ := bs h
    refine r_callV C (As := []) (b := v26) (rest := [vI x2]) (st1 := [vI q27.1, vI x2]) (v := some (vI q27.1)) (r := (RX8, TX8, 2)) (ci := 6) rfl eu28 (m_X8_isNought C.tr eq27) (lw_V q544 q545 q546 q130 q547) rfl hdX8_isNought rfl rfl (Nat.le_of_ble_eq_true rfl) ⟨by decide, by decide⟩ dX1_stock_123 rfl ?_
    refine r_if_eq C dX1_stock_126 (tgt := 133) (by decide) (fun c29 => ?_) (fun c29 => ?_)
    · have h := it_ h c29
      refine r_iconst C dX1_stock_133 ?_
      refine r_iadd C dX1_stock_134 ?_
      refine r_istore_n C [(2, vI (x2 + 0)), (0, vO a0), (3, vI x3)] dX1_stock_135 rfl (by decide) rfl ?_
      refine r_iinc C 2 [(3, vI (x3 + 1)), (2, vI (x2 + 0)), (0, vO a0)] dX1_stock_136 rfl (by decide) rfl ?_
      refine r_goto C dX1_stock_139 (tgt := 102) (by decide) ?_
      cases h
      refine r_sub [2, 1, 0] rfl ?_
      exact hK
    · have h := ie_ h c29
      refine r_iconst C dX1_stock_129 ?_
      refine r_goto C dX1_stock_130 (tgt := 134) (by decide) ?_
      refine r_iadd C dX1_stock_134 ?_
      refine r_istore_n C [(2, vI (x2 + 1)), (0, vO a0), (3, vI x3)] dX1_stock_135 rfl (by decide) rfl ?_
      refine r_iinc C 2 [(3, vI (x3 + 1)), (2, vI (x2 + 1)), (0, vO a0)] dX1_stock_136 rfl (by decide) rfl ?_
      refine r_goto C dX1_stock_139 (tgt := 102) (by decide) ?_
      cases h
      refine r_sub [2, 1, 0] rfl ?_
      exact hK
noncomputable def s_X1_stock_l102 (a0 : Nat) (x2 : Int) (x3 : Int) (μ : Me) : Option (Int × Me) :=
  whileO (fun s : Int × Int × Me => s_X1_stock_l102_st a0 s.1 s.2.1 s.2.2) (x2, x3, μ)
theorem e_X1_stock_l102 (a0 : Nat) (x2 : Int) (x3 : Int) (μ : Me) : s_X1_stock_l102 a0 x2 x3 μ = (s_X1_stock_l102_st a0 x2 x3 μ).bind fun x => x.elim (fun s : Int × Int × Me => s_X1_stock_l102 a0 s.1 s.2.1 s.2.2) some := whileO_eq _ _
theorem w_X1_stock_l102 {Z : Zt} {fin : Int × Me} {w : (Int × Me)} (C : CX Z yX1_stock cX1_stock (some .int) 2 4) {a0 : Nat} {x2 : Int} {x3 : Int} {μ : Me} (h : s_X1_stock_l102 a0 x2 x3 μ = some w) (hK : (fun r : Int × Me => r = fin) w) : WL Z (QN Z (some (vI fin.1)) fin.2) μ 102 [(0, vO a0), (2, vI x2), (3, vI x3)] [] := by
  refine whileO_walk (w := w) (fun s : Int × Int × Me => WL Z (QN Z (some (vI fin.1)) fin.2) s.2.2 102 [(0, vO a0), (2, vI s.1), (3, vI s.2.1)] []) (fun s v h2 hi hr => ?_) (x2, x3, μ) h
  refine w_X1_stock_l102_st (fin := fin) C h2 ?_
  cases v with
  | inl s2 => exact hi s2 rfl
  | inr r => have e := hr r rfl; subst e; exact hK
noncomputable def s_X1_stock (a0 : Nat) (x1 : Int) (μ : Me) : Option (Int × Me) :=
  (if w32 x1 = 0 then
  (gR μ 0 a0 2).bind fun v1 =>
  (gI μ 7 v1 4).bind fun v2 =>
  some (v2, μ)
  else
  if w32 x1 = 1 then
  (gR μ 0 a0 2).bind fun v4 =>
  (gI μ 7 v4 5).bind fun v5 =>
  some (v5, μ)
  else
  if w32 x1 = 2 then
  (gR μ 0 a0 2).bind fun v7 =>
  (gI μ 7 v7 6).bind fun v8 =>
  some (v8, μ)
  else
  if w32 x1 = 3 then
  (gR μ 0 a0 2).bind fun v10 =>
  (gI μ 7 v10 7).bind fun v11 =>
  some (v11, μ)
  else
  if w32 x1 = 4 then
  (gR μ 0 a0 2).bind fun v13 =>
  (gI μ 7 v13 9).bind fun v14 =>
  some (v14, μ)
  else
  if w32 x1 = 5 then
  (gR μ 0 a0 2).bind fun v16 =>
  (gI μ 7 v16 8).bind fun v17 =>
  (gR μ 0 a0 2).bind fun v18 =>
  (gI μ 7 v18 9).bind fun v19 =>
  some ((v17 - v19), μ)
  else
  if w32 x1 = 6 then
  s_X1_stock_l102 a0 0 0 μ
  else
  some ((-1), μ))
theorem w_X1_stock {Z : Zt} {fin : Int × Me} {w : Int × Me} (C : CX Z yX1_stock cX1_stock (some .int) 2 4) {a0 : Nat} {x1 : Int} {μ : Me} (h : s_X1_stock a0 x1 μ = some w) (hK : w = fin) : WL Z (QN Z (some (vI fin.1)) fin.2) μ 0 [(0, vO a0), (1, vI x1)] [] := by
  unfold s_X1_stock at h
  refine r_iconst C dX1_stock_0 ?_
  refine r_istore_n C [(2, vI 0), (0, vO a0), (1, vI x1)] dX1_stock_1 rfl (by decide) rfl ?_
  refine r_iload_n C 2 dX1_stock_2 rfl rfl ?_
  by_cases c3 : w32 x1 = 0
  · have h := it_ h c3
    refine r_tsIn (tgt := 44) C dX1_stock_3 c3 (by decide) (by decide) rfl (by decide) ?_
    refine r_aload_n C 1 dX1_stock_44 rfl rfl ?_
    obtain ⟨v1, ev1, h⟩ := bs h
    refine r_getR C (c := 0) (r := (RX1, TX1, 19)) rfl 2 (by decide) rfl ev1 q426 dX1_stock_45 ?_
    obtain ⟨v2, ev2, h⟩ := bs h
    refine r_getIN C (c := 7) (r := (RX9, TX9, 10)) rfl 4 (by decide) rfl ev2 (lw_n q386 rfl) dX1_stock_48 ?_
    cases h
    exact r_iret C hK dX1_stock_51
  have h := ie_ h c3
  by_cases c6 : w32 x1 = 1
  · have h := it_ h c6
    refine r_tsIn (tgt := 52) C dX1_stock_3 c6 (by decide) (by decide) rfl (by decide) ?_
    refine r_aload_n C 1 dX1_stock_52 rfl rfl ?_
    obtain ⟨v4, ev4, h⟩ := bs h
    refine r_getR C (c := 0) (r := (RX1, TX1, 19)) rfl 2 (by decide) rfl ev4 q426 dX1_stock_53 ?_
    obtain ⟨v5, ev5, h⟩ := bs h
    refine r_getIN C (c := 7) (r := (RX9, TX9, 10)) rfl 5 (by decide) rfl ev5 (lw_n q388 rfl) dX1_stock_56 ?_
    cases h
    exact r_iret C hK dX1_stock_59
  have h := ie_ h c6
  by_cases c9 : w32 x1 = 2
  · have h := it_ h c9
    refine r_tsIn (tgt := 60) C dX1_stock_3 c9 (by decide) (by decide) rfl (by decide) ?_
    refine r_aload_n C 1 dX1_stock_60 rfl rfl ?_
    obtain ⟨v7, ev7, h⟩ := bs h
    refine r_getR C (c := 0) (r := (RX1, TX1, 19)) rfl 2 (by decide) rfl ev7 q426 dX1_stock_61 ?_
    obtain ⟨v8, ev8, h⟩ := bs h
    refine r_getIN C (c := 7) (r := (RX9, TX9, 10)) rfl 6 (by decide) rfl ev8 (lw_n q390 rfl) dX1_stock_64 ?_
    cases h
    exact r_iret C hK dX1_stock_67
  have h := ie_ h c9
  by_cases c12 : w32 x1 = 3
  · have h := it_ h c12
    refine r_tsIn (tgt := 68) C dX1_stock_3 c12 (by decide) (by decide) rfl (by decide) ?_
    refine r_aload_n C 1 dX1_stock_68 rfl rfl ?_
    obtain ⟨v10, ev10, h⟩ := bs h
    refine r_getR C (c := 0) (r := (RX1, TX1, 19)) rfl 2 (by decide) rfl ev10 q426 dX1_stock_69 ?_
    obtain ⟨v11, ev11, h⟩ := bs h
    refine r_getIN C (c := 7) (r := (RX9, TX9, 10)) rfl 7 (by decide) rfl ev11 (lw_n q392 rfl) dX1_stock_72 ?_
    cases h
    exact r_iret C hK dX1_stock_75
  have h := ie_ h c12
  by_cases c15 : w32 x1 = 4
  · have h := it_ h c15
    refine r_tsIn (tgt := 76) C dX1_stock_3 c15 (by decide) (by decide) rfl (by decide) ?_
    refine r_aload_n C 1 dX1_stock_76 rfl rfl ?_
    obtain ⟨v13, ev13, h⟩ := bs h
    refine r_getR C (c := 0) (r := (RX1, TX1, 19)) rfl 2 (by decide) rfl ev13 q426 dX1_stock_77 ?_
    obtain ⟨v14, ev14, h⟩ := bs h
    refine r_getIN C (c := 7) (r := (RX9, TX9, 10)) rfl 9 (by decide) rfl ev14 (lw_n q396 rfl) dX1_stock_80 ?_
    cases h
    exact r_iret C hK dX1_stock_83
  have h := ie_ h c15
  by_cases c20 : w32 x1 = 5
  · have h := it_ h c20
    refine r_tsIn (tgt := 84) C dX1_stock_3 c20 (by decide) (by decide) rfl (by decide) ?_
    refine r_aload_n C 1 dX1_stock_84 rfl rfl ?_
    obtain ⟨v16, ev16, h⟩ := bs h
    refine r_getR C (c := 0) (r := (RX1, TX1, 19)) rfl 2 (by decide) rfl ev16 q426 dX1_stock_85 ?_
    obtain ⟨v17, ev17, h⟩ := bs h
    refine r_getIN C (c := 7) (r := (RX9, TX9, 10)) rfl 8 (by decide) rfl ev17 (lw_n q394 rfl) dX1_stock_88 ?_
    refine r_aload_n C 1 dX1_stock_91 rfl rfl ?_
    obtain ⟨v18, ev18, h⟩ := bs h
    refine r_getR C (c := 0) (r := (RX1, TX1, 19)) rfl 2 (by decide) rfl ev18 q426 dX1_stock_92 ?_
    obtain ⟨v19, ev19, h⟩ := bs h
    refine r_getIN C (c := 7) (r := (RX9, TX9, 10)) rfl 9 (by decide) rfl ev19 (lw_n q396 rfl) dX1_stock_95 ?_
    refine r_isub C dX1_stock_98 ?_
    cases h
    exact r_iret C hK dX1_stock_99
  have h := ie_ h c20
  by_cases c30 : w32 x1 = 6
  · have h := it_ h c30
    refine r_tsIn (tgt := 100) C dX1_stock_3 c30 (by decide) (by decide) rfl (by decide) ?_
    refine r_iconst C dX1_stock_100 ?_
    refine r_istore_n C [(3, vI 0), (2, vI 0), (0, vO a0), (1, vI x1)] dX1_stock_101 rfl (by decide) rfl ?_
    refine r_sub [2, 1, 0] rfl ?_
    exact w_X1_stock_l102 (fin := fin) C h hK
  have h := ie_ h c30
  refine r_tsOut (tgt := 144) C dX1_stock_3 (by omega) (by decide) ?_
  refine r_iconst C dX1_stock_144 ?_
  cases h
  exact r_iret C hK dX1_stock_145
theorem hdX1_stock : zhd yX1_stock 1 := by decide +kernel
theorem m_X1_stock {l : Launch} {D : va_G} {b0 : Nat} (hl : l.stackTraces = false) {a0 : Nat} {x1 : Int} {μ : Me} {w : Int × Me} (h : s_X1_stock a0 x1 μ = some w) : MN l D b0 yX1_stock (ws_ yX1_stock cX1_stock 4 (some .int)) 2 [vO a0, vI x1] μ (some (vI w.1)) w.2 :=
  MN.of hl (by decide +kernel) (Nat.le_of_ble_eq_true rfl) (fun Z C _ _ => w_X1_stock C h rfl)
theorem at_X1_must_4 : ∀ w ∈ vx_at0 "LetterForms" 84 (exn 0) nm9, w ∈ lw_tbl ∧ (goodWord w || zNest w) = true := lw_pl _ [124, 197, 206, 214, 217, 219, 198, 199, 156, 157, 200, 205, 215, 236, 187, 237, 189, 238, 191, 201, 203, 193, 570, 571, 572, 573, 178, 573, 574, 575, 576, 180, 576, 577, 578, 198, 182, 569, 561, 562, 563, 209, 564, 565, 566, 567, 196, 195, 568] (by decide +kernel) (by decide +kernel)
noncomputable def s_X1_must (x0 : Int) (μ : Me) : Option (Ex ⊕ Me) :=
  (if w32 x0 = 0 then
  (tE μ 0).bind fun e2 =>
  some (.inl e2)
  else
  some (.inr μ))
theorem w_X1_must {Z : Zt} {fin : Ex ⊕ Me} {w : Ex ⊕ Me} (C : CX Z yX1_must cX1_must none 6 1) (X : XE Z) {x0 : Int} {μ : Me} (h : s_X1_must x0 μ = some w) (hK : w = fin) : WL Z (XQ Z (zoV fin) (zmV fin)) μ 0 [(0, vI x0)] [] := by
  unfold s_X1_must at h
  refine r_iload_n C 0 dX1_must_0 rfl rfl ?_
  refine r_if_ne C dX1_must_1 (tgt := 12) (by decide) (fun c1 => ?_) (fun c1 => ?_)
  · have h := ie_ h c1
    cases h
    exact r_xvret C hK dX1_must_12
  · have h := it_ h c1
    obtain ⟨e2, ee2, h⟩ := bs h
    cases h
    exact r_throwV C ee2 hK (by decide +kernel) q560 q134 at_X1_must_4 (by decide) (Nat.le_of_ble_eq_true rfl) dX1_must_4 dX1_must_7 dX1_must_8 dX1_must_11 X.out
theorem hdX1_must : zhd yX1_must 1 := by decide +kernel
theorem m_X1_must {l : Launch} {D : va_G} {b0 : Nat} (hl : l.stackTraces = false) {x0 : Int} {μ : Me} {w : Ex ⊕ Me} (h : s_X1_must x0 μ = some w) : XN l D b0 yX1_must (ws_ yX1_must cX1_must 1 none) 6 [vI x0] μ (zoV w) (zmV w) :=
  XN.of hl (by decide +kernel) (Nat.le_of_ble_eq_true rfl) (fun Z C X _ _ => w_X1_must C X h rfl)
theorem at_X1_field_50 : ∀ w ∈ vx_at0 "LetterForms" 137 (exn 1) nm9, w ∈ lw_tbl ∧ (goodWord w || zNest w) = true := lw_pl _ [124, 197, 206, 214, 217, 219, 198, 199, 156, 157, 200, 205, 215, 236, 187, 237, 189, 238, 191, 201, 203, 193, 591, 592, 593, 573, 178, 573, 574, 575, 576, 180, 576, 577, 578, 198, 182, 590, 582, 583, 584, 210, 585, 586, 587, 588, 196, 195, 589] (by decide +kernel) (by decide +kernel)
noncomputable def s_X1_field_b29 (a0 : Nat) (x1 : Int) (t0 : Int) (μ : Me) : Option (Ex ⊕ Me) :=
  xb (s_X1_must t0 μ) (fun e3 => some (.inl e3)) fun q2 =>
  (gR q2 0 a0 2).bind fun v4 =>
  (gI q2 7 v4 5).bind fun v5 =>
  (gR q2 0 a0 2).bind fun v6 =>
  (gI q2 7 v6 6).bind fun v7 =>
  (if w32 (v5 + v7) ≤ 0 then
  (gR q2 0 a0 2).bind fun v9 =>
  (pI q2 7 v9 4 x1).bind fun m10 =>
  (gR m10 0 a0 1).bind fun v11 =>
  (gR m10 4 v11 0).bind fun v12 =>
  (pI m10 5 v12 0 x1).bind fun m13 =>
  some (.inr m13)
  else
  (tE q2 1).bind fun e14 =>
  some (.inl e14))
theorem w_X1_field_b29 {Z : Zt} {fin : Ex ⊕ Me} {w : (Ex ⊕ Me)} (C : CX Z yX1_field cX1_field none 7 2) (X : XE Z) {a0 : Nat} {x1 : Int} {t0 : Int} {μ : Me} (h : s_X1_field_b29 a0 x1 t0 μ = some w) (hK : (fun r : Ex ⊕ Me => r = fin) w) : WL Z (XQ Z (zoV fin) (zmV fin)) μ 29 [(0, vO a0), (1, vI x1)] [vI t0] := by
  unfold s_X1_field_b29 at h
  rcases xbs h with ⟨e3, eq2, h⟩ | ⟨q2, eq2, h⟩
  · refine r_xSx C (As := [vI t0]) (rest := []) (μ1 := e3.2.2) (m_X1_must C.tr eq2) (lw_S q557 q558 q120 q559) hdX1_must rfl rfl (Nat.le_of_ble_eq_true rfl) ⟨by decide, by decide⟩ dX1_field_29 ?_
    cases h
    exact r_xoutV C X hK
  · refine r_xS C (As := [vI t0]) (rest := []) (st1 := []) (v := none) (μ1 := q2) (m_X1_must C.tr eq2) (lw_S q557 q558 q120 q559) hdX1_must rfl rfl (Nat.le_of_ble_eq_true rfl) ⟨by decide, by decide⟩ dX1_field_29 rfl ?_
    refine r_aload_n C 0 dX1_field_32 rfl rfl ?_
    obtain ⟨v4, ev4, h⟩ := bs h
    refine r_getR C (c := 0) (r := (RX1, TX1, 19)) rfl 2 (by decide) rfl ev4 q426 dX1_field_33 ?_
    obtain ⟨v5, ev5, h⟩ := bs h
    refine r_getIN C (c := 7) (r := (RX9, TX9, 10)) rfl 5 (by decide) rfl ev5 (lw_n q388 rfl) dX1_field_36 ?_
    refine r_aload_n C 0 dX1_field_39 rfl rfl ?_
    obtain ⟨v6, ev6, h⟩ := bs h
    refine r_getR C (c := 0) (r := (RX1, TX1, 19)) rfl 2 (by decide) rfl ev6 q426 dX1_field_40 ?_
    obtain ⟨v7, ev7, h⟩ := bs h
    refine r_getIN C (c := 7) (r := (RX9, TX9, 10)) rfl 6 (by decide) rfl ev7 (lw_n q390 rfl) dX1_field_43 ?_
    refine r_iadd C dX1_field_46 ?_
    refine r_if_le C dX1_field_47 (tgt := 58) (by decide) (fun c8 => ?_) (fun c8 => ?_)
    · have h := it_ h c8
      refine r_aload_n C 0 dX1_field_58 rfl rfl ?_
      obtain ⟨v9, ev9, h⟩ := bs h
      refine r_getR C (c := 0) (r := (RX1, TX1, 19)) rfl 2 (by decide) rfl ev9 q426 dX1_field_59 ?_
      refine r_iload_n C 1 dX1_field_62 rfl rfl ?_
      obtain ⟨m10, em10, h⟩ := bs h
      refine r_putIN C (c := 7) (r := (RX9, TX9, 10)) rfl 4 (by decide) rfl ⟨rfl, rfl⟩ rfl em10 (lw_n q386 rfl) dX1_field_63 ?_
      refine r_aload_n C 0 dX1_field_66 rfl rfl ?_
      obtain ⟨v11, ev11, h⟩ := bs h
      refine r_getR C (c := 0) (r := (RX1, TX1, 19)) rfl 1 (by decide) rfl ev11 q422 dX1_field_67 ?_
      obtain ⟨v12, ev12, h⟩ := bs h
      refine r_getRN C (c := 4) (r := (RX6, TX6, 6)) rfl 0 (by decide) rfl ev12 (lw_n q320 rfl) dX1_field_70 ?_
      refine r_iload_n C 1 dX1_field_73 rfl rfl ?_
      obtain ⟨m13, em13, h⟩ := bs h
      refine r_putIN C (c := 5) (r := (RX7, TX7, 1)) rfl 0 (by decide) rfl ⟨rfl, rfl⟩ rfl em13 (lw_n q289 rfl) dX1_field_74 ?_
      cases h
      exact r_xvret C hK dX1_field_77
    · have h := ie_ h c8
      obtain ⟨e14, ee14, h⟩ := bs h
      cases h
      exact r_throwV C ee14 hK (by decide +kernel) q581 q135 at_X1_field_50 (by decide) (Nat.le_of_ble_eq_true rfl) dX1_field_50 dX1_field_53 dX1_field_54 dX1_field_57 X.out
noncomputable def s_X1_field_b24 (a0 : Nat) (x1 : Int)  (μ : Me) : Option (Ex ⊕ Me) :=
  s_X1_field_b29 a0 x1 1 μ
theorem w_X1_field_b24 {Z : Zt} {fin : Ex ⊕ Me} {w : (Ex ⊕ Me)} (C : CX Z yX1_field cX1_field none 7 2) (X : XE Z) {a0 : Nat} {x1 : Int}  {μ : Me} (h : s_X1_field_b24 a0 x1 μ = some w) (hK : (fun r : Ex ⊕ Me => r = fin) w) : WL Z (XQ Z (zoV fin) (zmV fin)) μ 24 [(0, vO a0), (1, vI x1)] [] := by
  unfold s_X1_field_b24 at h
  refine r_iconst C dX1_field_24 ?_
  refine r_goto C dX1_field_25 (tgt := 29) (by decide) ?_
  exact w_X1_field_b29 (fin := fin) C X h hK
noncomputable def s_X1_field (a0 : Nat) (x1 : Int) (μ : Me) : Option (Ex ⊕ Me) :=
  (if w32 x1 = w32 11 then
  s_X1_field_b24 a0 x1 μ
  else
  (if w32 x1 = w32 13 then
  s_X1_field_b24 a0 x1 μ
  else
  (if w32 x1 = w32 17 then
  s_X1_field_b24 a0 x1 μ
  else
  (if w32 x1 = w32 19 then
  s_X1_field_b24 a0 x1 μ
  else
  s_X1_field_b29 a0 x1 0 μ))))
theorem w_X1_field {Z : Zt} {fin : Ex ⊕ Me} {w : Ex ⊕ Me} (C : CX Z yX1_field cX1_field none 7 2) (X : XE Z) {a0 : Nat} {x1 : Int} {μ : Me} (h : s_X1_field a0 x1 μ = some w) (hK : w = fin) : WL Z (XQ Z (zoV fin) (zmV fin)) μ 0 [(0, vO a0), (1, vI x1)] [] := by
  unfold s_X1_field at h
  refine r_iload_n C 1 dX1_field_0 rfl rfl ?_
  refine r_bipush C dX1_field_1 (by decide) ?_
  refine r_icmp_eq C dX1_field_3 (tgt := 24) (by decide) (fun c1 => ?_) (fun c1 => ?_)
  · have h := it_ h c1
    exact w_X1_field_b24 (fin := fin) C X h hK
  · have h := ie_ h c1
    refine r_iload_n C 1 dX1_field_6 rfl rfl ?_
    refine r_bipush C dX1_field_7 (by decide) ?_
    refine r_icmp_eq C dX1_field_9 (tgt := 24) (by decide) (fun c15 => ?_) (fun c15 => ?_)
    · have h := it_ h c15
      exact w_X1_field_b24 (fin := fin) C X h hK
    · have h := ie_ h c15
      refine r_iload_n C 1 dX1_field_12 rfl rfl ?_
      refine r_bipush C dX1_field_13 (by decide) ?_
      refine r_icmp_eq C dX1_field_15 (tgt := 24) (by decide) (fun c16 => ?_) (fun c16 => ?_)
      · have h := it_ h c16
        exact w_X1_field_b24 (fin := fin) C X h hK
      · have h := ie_ h c16
        refine r_iload_n C 1 dX1_field_18 rfl rfl ?_
        refine r_bipush C dX1_field_19 (by decide) ?_
        refine r_icmp_ne C dX1_field_21 (tgt := 28) (by decide) (fun c17 => ?_) (fun c17 => ?_)
        · have h := ie_ h c17
          refine r_iconst C dX1_field_28 ?_
          exact w_X1_field_b29 (fin := fin) C X h hK
        · have h := it_ h c17
          exact w_X1_field_b24 (fin := fin) C X h hK
theorem hdX1_field : zhd yX1_field 1 := by decide +kernel
theorem m_X1_field {l : Launch} {D : va_G} {b0 : Nat} (hl : l.stackTraces = false) {a0 : Nat} {x1 : Int} {μ : Me} {w : Ex ⊕ Me} (h : s_X1_field a0 x1 μ = some w) : XN l D b0 yX1_field (ws_ yX1_field cX1_field 2 none) 7 [vO a0, vI x1] μ (zoV w) (zmV w) :=
  XN.of hl (by decide +kernel) (Nat.le_of_ble_eq_true rfl) (fun Z C X _ _ => w_X1_field C X h rfl)
noncomputable def s_X1_took (a0 : Nat) (μ : Me) : Option (Int × Me) :=
  (gR μ 0 a0 0).bind fun v1 =>
  (gI μ 1 v1 3).bind fun v2 =>
  (gR μ 0 a0 0).bind fun v3 =>
  (pI μ 1 v3 3 0).bind fun m4 =>
  some (v2, m4)
theorem w_X1_took {Z : Zt} {fin : Int × Me} {w : Int × Me} (C : CX Z yX1_took cX1_took (some .int) 1 2) {a0 : Nat} {μ : Me} (h : s_X1_took a0 μ = some w) (hK : w = fin) : WL Z (QN Z (some (vI fin.1)) fin.2) μ 0 [(0, vO a0)] [] := by
  unfold s_X1_took at h
  refine r_aload_n C 0 dX1_took_0 rfl rfl ?_
  obtain ⟨v1, ev1, h⟩ := bs h
  refine r_getR C (c := 0) (r := (RX1, TX1, 19)) rfl 0 (by decide) rfl ev1 q421 dX1_took_1 ?_
  obtain ⟨v2, ev2, h⟩ := bs h
  refine r_getIN C (c := 1) (r := (RX2, TX2, 8)) rfl 3 (by decide) rfl ev2 (lw_n q253 rfl) dX1_took_4 ?_
  refine r_istore_n C [(1, vI v2), (0, vO a0)] dX1_took_7 rfl (by decide) rfl ?_
  refine r_aload_n C 1 dX1_took_8 rfl rfl ?_
  obtain ⟨v3, ev3, h⟩ := bs h
  refine r_getR C (c := 0) (r := (RX1, TX1, 19)) rfl 0 (by decide) rfl ev3 q421 dX1_took_9 ?_
  refine r_iconst C dX1_took_12 ?_
  obtain ⟨m4, em4, h⟩ := bs h
  refine r_putIN C (c := 1) (r := (RX2, TX2, 8)) rfl 3 (by decide) rfl ⟨rfl, rfl⟩ rfl em4 (lw_n q253 rfl) dX1_took_13 ?_
  refine r_iload_n C 0 dX1_took_16 rfl rfl ?_
  cases h
  exact r_iret C hK dX1_took_17
theorem hdX1_took : zhd yX1_took 0 := by decide +kernel
theorem m_X1_took {l : Launch} {D : va_G} {b0 : Nat} (hl : l.stackTraces = false) {a0 : Nat} {μ : Me} {w : Int × Me} (h : s_X1_took a0 μ = some w) : MN l D b0 yX1_took (ws_ yX1_took cX1_took 2 (some .int)) 1 [vO a0] μ (some (vI w.1)) w.2 :=
  MN.of hl (by decide +kernel) (Nat.le_of_ble_eq_true rfl) (fun Z C _ _ => w_X1_took C h rfl)
theorem at_X1_mayBe_4 : ∀ w ∈ vx_at0 "LetterForms" 87 (exn 2) nm9, w ∈ lw_tbl ∧ (goodWord w || zNest w) = true := lw_pl _ [124, 197, 206, 214, 217, 219, 198, 199, 156, 157, 200, 205, 215, 236, 187, 237, 189, 238, 191, 201, 203, 193, 622, 623, 624, 573, 178, 573, 574, 575, 576, 180, 576, 577, 578, 198, 182, 621, 613, 614, 615, 212, 616, 617, 618, 619, 196, 195, 620] (by decide +kernel) (by decide +kernel)
noncomputable def s_X1_mayBe (x0 : Int) (μ : Me) : Option (Ex ⊕ Me) :=
  (if w32 x0 = 0 then
  (tE μ 2).bind fun e2 =>
  some (.inl e2)
  else
  some (.inr μ))
theorem w_X1_mayBe {Z : Zt} {fin : Ex ⊕ Me} {w : Ex ⊕ Me} (C : CX Z yX1_mayBe cX1_mayBe none 6 1) (X : XE Z) {x0 : Int} {μ : Me} (h : s_X1_mayBe x0 μ = some w) (hK : w = fin) : WL Z (XQ Z (zoV fin) (zmV fin)) μ 0 [(0, vI x0)] [] := by
  unfold s_X1_mayBe at h
  refine r_iload_n C 0 dX1_mayBe_0 rfl rfl ?_
  refine r_if_ne C dX1_mayBe_1 (tgt := 12) (by decide) (fun c1 => ?_) (fun c1 => ?_)
  · have h := ie_ h c1
    cases h
    exact r_xvret C hK dX1_mayBe_12
  · have h := it_ h c1
    obtain ⟨e2, ee2, h⟩ := bs h
    cases h
    exact r_throwV C ee2 hK (by decide +kernel) q612 q136 at_X1_mayBe_4 (by decide) (Nat.le_of_ble_eq_true rfl) dX1_mayBe_4 dX1_mayBe_7 dX1_mayBe_8 dX1_mayBe_11 X.out
theorem hdX1_mayBe : zhd yX1_mayBe 1 := by decide +kernel
theorem m_X1_mayBe {l : Launch} {D : va_G} {b0 : Nat} (hl : l.stackTraces = false) {x0 : Int} {μ : Me} {w : Ex ⊕ Me} (h : s_X1_mayBe x0 μ = some w) : XN l D b0 yX1_mayBe (ws_ yX1_mayBe cX1_mayBe 1 none) 6 [vI x0] μ (zoV w) (zmV w) :=
  XN.of hl (by decide +kernel) (Nat.le_of_ble_eq_true rfl) (fun Z C X _ _ => w_X1_mayBe C X h rfl)
noncomputable def s_X1_form_b103 (a0 : Nat)  (μ : Me) : Option (Ex ⊕ (Int × Me)) :=
  (gR μ 0 a0 2).bind fun v19 =>
  (gI μ 7 v19 5).bind fun v20 =>
  (pI μ 7 v19 5 (v20 + 1)).bind fun m21 =>
  (gR m21 0 a0 2).bind fun v22 =>
  (gR m21 0 a0 2).bind fun v23 =>
  (gI m21 7 v23 9).bind fun v24 =>
  (pI m21 7 v22 8 v24).bind fun m25 =>
  (gR m25 0 a0 2).bind fun v26 =>
  (gI m25 7 v26 5).bind fun v27 =>
  some (.inr ((v27 - 1), m25))
theorem w_X1_form_b103 {Z : Zt} {fin : Ex ⊕ (Int × Me)} {w : (Ex ⊕ (Int × Me))} (C : CX Z yX1_form cX1_form (some .int) 7 4) (X : XE Z) {a0 : Nat}  {μ : Me} (h : s_X1_form_b103 a0 μ = some w) (hK : (fun r : Ex ⊕ (Int × Me) => r = fin) w) : WL Z (XQ Z (zoI fin) (zmI fin)) μ 103 [(0, vO a0)] [] := by
  unfold s_X1_form_b103 at h
  refine r_aload_n C 0 dX1_form_103 rfl rfl ?_
  obtain ⟨v19, ev19, h⟩ := bs h
  refine r_getR C (c := 0) (r := (RX1, TX1, 19)) rfl 2 (by decide) rfl ev19 q426 dX1_form_104 ?_
  refine r_dup C dX1_form_107 rfl ?_
  obtain ⟨v20, ev20, h⟩ := bs h
  refine r_getIN C (c := 7) (r := (RX9, TX9, 10)) rfl 5 (by decide) rfl ev20 (lw_n q388 rfl) dX1_form_108 ?_
  refine r_iconst C dX1_form_111 ?_
  refine r_iadd C dX1_form_112 ?_
  obtain ⟨m21, em21, h⟩ := bs h
  refine r_putIN C (c := 7) (r := (RX9, TX9, 10)) rfl 5 (by decide) rfl ⟨rfl, rfl⟩ rfl em21 (lw_n q388 rfl) dX1_form_113 ?_
  refine r_aload_n C 0 dX1_form_116 rfl rfl ?_
  obtain ⟨v22, ev22, h⟩ := bs h
  refine r_getR C (c := 0) (r := (RX1, TX1, 19)) rfl 2 (by decide) rfl ev22 q426 dX1_form_117 ?_
  refine r_aload_n C 0 dX1_form_120 rfl rfl ?_
  obtain ⟨v23, ev23, h⟩ := bs h
  refine r_getR C (c := 0) (r := (RX1, TX1, 19)) rfl 2 (by decide) rfl ev23 q426 dX1_form_121 ?_
  obtain ⟨v24, ev24, h⟩ := bs h
  refine r_getIN C (c := 7) (r := (RX9, TX9, 10)) rfl 9 (by decide) rfl ev24 (lw_n q396 rfl) dX1_form_124 ?_
  obtain ⟨m25, em25, h⟩ := bs h
  refine r_putIN C (c := 7) (r := (RX9, TX9, 10)) rfl 8 (by decide) rfl ⟨rfl, rfl⟩ rfl em25 (lw_n q394 rfl) dX1_form_127 ?_
  refine r_aload_n C 0 dX1_form_130 rfl rfl ?_
  obtain ⟨v26, ev26, h⟩ := bs h
  refine r_getR C (c := 0) (r := (RX1, TX1, 19)) rfl 2 (by decide) rfl ev26 q426 dX1_form_131 ?_
  obtain ⟨v27, ev27, h⟩ := bs h
  refine r_getIN C (c := 7) (r := (RX9, TX9, 10)) rfl 5 (by decide) rfl ev27 (lw_n q388 rfl) dX1_form_134 ?_
  refine r_iconst C dX1_form_137 ?_
  refine r_isub C dX1_form_138 ?_
  cases h
  exact r_xiret C hK dX1_form_139
noncomputable def s_X1_form_l62_st (a0 : Nat) (x1 : Int) (a2 : Nat) (x3 : Int) (μ : Me) : Option ((Int × Me) ⊕ (Ex ⊕ (Int × Me))) :=
  (if w32 x1 ≤ w32 x3 then
  (s_X1_form_b103 a0 μ).map Sum.inr
  else
  (gR μ 6 a2 0).bind fun v28 =>
  (gR μ 0 a0 1).bind fun v29 =>
  (gR μ 4 v29 0).bind fun v30 =>
  (gR μ 0 a0 0).bind fun v31 =>
  (gR μ 1 v31 0).bind fun v32 =>
  (aI μ 102 v32 x3).bind fun v33 =>
  (ck μ 5 v30).bind fun _ =>
  (s_X7_of v30 (w32 (anI v33 255)) μ).bind fun q34 =>
  (uI q34.2 v28 x3 q34.1).bind fun m36 =>
  some (.inl ((x3 + 1), m36)))
theorem w_X1_form_l62_st {Z : Zt} {fin : Ex ⊕ (Int × Me)} {w : ((Int × Me) ⊕ (Ex ⊕ (Int × Me)))} (C : CX Z yX1_form cX1_form (some .int) 7 4) (X : XE Z) {a0 : Nat} {x1 : Int} {a2 : Nat} {x3 : Int} {μ : Me} (h : s_X1_form_l62_st a0 x1 a2 x3 μ = some w) (hK : (Sum.elim (fun s : Int × Me => WL Z (XQ Z (zoI fin) (zmI fin)) s.2 62 [(0, vO a0), (1, vI x1), (2, vO a2), (3, vI s.1)] []) (fun r : Ex ⊕ (Int × Me) => r = fin)) w) : WL Z (XQ Z (zoI fin) (zmI fin)) μ 62 [(0, vO a0), (1, vI x1), (2, vO a2), (3, vI x3)] [] := by
  unfold s_X1_form_l62_st at h
  refine r_iload_n C 3 dX1_form_62 rfl rfl ?_
  refine r_iload_n C 1 dX1_form_63 rfl rfl ?_
  refine r_icmp_ge C dX1_form_64 (tgt := 103) (by decide) (fun c18 => ?_) (fun c18 => ?_)
  · have h := it_ h c18
    obtain ⟨z, hz, ez⟩ := ms_ h; clear h; subst ez; have h := hz; clear hz
    refine r_sub [0] rfl ?_
    exact w_X1_form_b103 (fin := fin) C X h hK
  · have h := ie_ h c18
    refine r_aload_n C 2 dX1_form_67 rfl rfl ?_
    obtain ⟨v28, ev28, h⟩ := bs h
    refine r_getRN C (c := 6) (r := (RX8, TX8, 2)) rfl 0 (by decide) rfl ev28 (lw_n q304 rfl) dX1_form_68 ?_
    refine r_iload_n C 3 dX1_form_71 rfl rfl ?_
    refine r_aload_n C 0 dX1_form_72 rfl rfl ?_
    obtain ⟨v29, ev29, h⟩ := bs h
    refine r_getR C (c := 0) (r := (RX1, TX1, 19)) rfl 1 (by decide) rfl ev29 q422 dX1_form_73 ?_
    obtain ⟨v30, ev30, h⟩ := bs h
    refine r_getRN C (c := 4) (r := (RX6, TX6, 6)) rfl 0 (by decide) rfl ev30 (lw_n q320 rfl) dX1_form_76 ?_
    refine r_aload_n C 0 dX1_form_79 rfl rfl ?_
    obtain ⟨v31, ev31, h⟩ := bs h
    refine r_getR C (c := 0) (r := (RX1, TX1, 19)) rfl 0 (by decide) rfl ev31 q421 dX1_form_80 ?_
    obtain ⟨v32, ev32, h⟩ := bs h
    refine r_getRN C (c := 1) (r := (RX2, TX2, 8)) rfl 0 (by decide) rfl ev32 (lw_n q250 rfl) dX1_form_83 ?_
    refine r_iload_n C 3 dX1_form_86 rfl rfl ?_
    obtain ⟨v33, ev33, h⟩ := bs h
    refine r_bald C ev33 dX1_form_87 ?_
    refine r_sipush C dX1_form_88 (by decide) ?_
    refine r_iand C dX1_form_91 ?_
    refine r_i2l C dX1_form_92 ?_
    obtain ⟨u35, eu35, h⟩ := bs h
    obtain ⟨q34, eq34, h⟩ := bs h
    refine r_callV C (As := [vJ (w32 (anI v33 255))]) (b := v30) (rest := [vI x3, vO v28]) (st1 := [vI q34.1, vI x3, vO v28]) (v := some (vI q34.1)) (r := (RX7, TX7, 1)) (ci := 5) rfl eu35 (m_X7_of C.tr eq34) (lw_V q631 q632 q633 q129 q634) rfl hdX7_of rfl rfl (Nat.le_of_ble_eq_true rfl) ⟨by decide, by decide⟩ dX1_form_93 rfl ?_
    obtain ⟨m36, em36, h⟩ := bs h
    refine r_iast C em36 dX1_form_96 ?_
    refine r_iinc C 3 [(3, vI (x3 + 1)), (0, vO a0), (1, vI x1), (2, vO a2)] dX1_form_97 rfl (by decide) rfl ?_
    refine r_goto C dX1_form_100 (tgt := 62) (by decide) ?_
    cases h
    refine r_sub [1, 2, 3, 0] rfl ?_
    exact hK
noncomputable def s_X1_form_l62 (a0 : Nat) (x1 : Int) (a2 : Nat) (x3 : Int) (μ : Me) : Option (Ex ⊕ (Int × Me)) :=
  whileO (fun s : Int × Me => s_X1_form_l62_st a0 x1 a2 s.1 s.2) (x3, μ)
theorem e_X1_form_l62 (a0 : Nat) (x1 : Int) (a2 : Nat) (x3 : Int) (μ : Me) : s_X1_form_l62 a0 x1 a2 x3 μ = (s_X1_form_l62_st a0 x1 a2 x3 μ).bind fun x => x.elim (fun s : Int × Me => s_X1_form_l62 a0 x1 a2 s.1 s.2) some := whileO_eq _ _
theorem w_X1_form_l62 {Z : Zt} {fin : Ex ⊕ (Int × Me)} {w : (Ex ⊕ (Int × Me))} (C : CX Z yX1_form cX1_form (some .int) 7 4) (X : XE Z) {a0 : Nat} {x1 : Int} {a2 : Nat} {x3 : Int} {μ : Me} (h : s_X1_form_l62 a0 x1 a2 x3 μ = some w) (hK : (fun r : Ex ⊕ (Int × Me) => r = fin) w) : WL Z (XQ Z (zoI fin) (zmI fin)) μ 62 [(0, vO a0), (1, vI x1), (2, vO a2), (3, vI x3)] [] := by
  refine whileO_walk (w := w) (fun s : Int × Me => WL Z (XQ Z (zoI fin) (zmI fin)) s.2 62 [(0, vO a0), (1, vI x1), (2, vO a2), (3, vI s.1)] []) (fun s v h2 hi hr => ?_) (x3, μ) h
  refine w_X1_form_l62_st (fin := fin) C X h2 ?_
  cases v with
  | inl s2 => exact hi s2 rfl
  | inr r => have e := hr r rfl; subst e; exact hK
noncomputable def s_X1_form_b34 (a0 : Nat) (x1 : Int) (t0 : Int) (μ : Me) : Option (Ex ⊕ (Int × Me)) :=
  xb (s_X1_mayBe t0 μ) (fun e10 => some (.inl e10)) fun q9 =>
  (gR q9 0 a0 2).bind fun v11 =>
  (gR q9 7 v11 0).bind fun v12 =>
  (gR q9 0 a0 2).bind fun v13 =>
  (gI q9 7 v13 5).bind fun v14 =>
  (aR q9 104 v12 v14).bind fun v15 =>
  (ck q9 6 v15).bind fun _ =>
  (s_X8_nought v15 (x1 - 1) q9).bind fun q16 =>
  s_X1_form_l62 a0 x1 v15 0 q16
theorem w_X1_form_b34 {Z : Zt} {fin : Ex ⊕ (Int × Me)} {w : (Ex ⊕ (Int × Me))} (C : CX Z yX1_form cX1_form (some .int) 7 4) (X : XE Z) {a0 : Nat} {x1 : Int} {t0 : Int} {μ : Me} (h : s_X1_form_b34 a0 x1 t0 μ = some w) (hK : (fun r : Ex ⊕ (Int × Me) => r = fin) w) : WL Z (XQ Z (zoI fin) (zmI fin)) μ 34 [(0, vO a0), (1, vI x1)] [vI t0] := by
  unfold s_X1_form_b34 at h
  rcases xbs h with ⟨e10, eq9, h⟩ | ⟨q9, eq9, h⟩
  · refine r_xSx C (As := [vI t0]) (rest := []) (μ1 := e10.2.2) (m_X1_mayBe C.tr eq9) (lw_S q609 q610 q120 q611) hdX1_mayBe rfl rfl (Nat.le_of_ble_eq_true rfl) ⟨by decide, by decide⟩ dX1_form_34 ?_
    cases h
    exact r_xoutI C X hK
  · refine r_xS C (As := [vI t0]) (rest := []) (st1 := []) (v := none) (μ1 := q9) (m_X1_mayBe C.tr eq9) (lw_S q609 q610 q120 q611) hdX1_mayBe rfl rfl (Nat.le_of_ble_eq_true rfl) ⟨by decide, by decide⟩ dX1_form_34 rfl ?_
    refine r_aload_n C 0 dX1_form_37 rfl rfl ?_
    obtain ⟨v11, ev11, h⟩ := bs h
    refine r_getR C (c := 0) (r := (RX1, TX1, 19)) rfl 2 (by decide) rfl ev11 q426 dX1_form_38 ?_
    obtain ⟨v12, ev12, h⟩ := bs h
    refine r_getRN C (c := 7) (r := (RX9, TX9, 10)) rfl 0 (by decide) rfl ev12 (lw_n q378 rfl) dX1_form_41 ?_
    refine r_aload_n C 0 dX1_form_44 rfl rfl ?_
    obtain ⟨v13, ev13, h⟩ := bs h
    refine r_getR C (c := 0) (r := (RX1, TX1, 19)) rfl 2 (by decide) rfl ev13 q426 dX1_form_45 ?_
    obtain ⟨v14, ev14, h⟩ := bs h
    refine r_getIN C (c := 7) (r := (RX9, TX9, 10)) rfl 5 (by decide) rfl ev14 (lw_n q388 rfl) dX1_form_48 ?_
    obtain ⟨v15, ev15, h⟩ := bs h
    refine r_aald C (kt := 3) ev15 rfl rfl ⟨by decide, by decide⟩ dX1_form_51 ?_
    refine r_astore_n C [(2, vO v15), (0, vO a0), (1, vI x1)] dX1_form_52 rfl (by decide) rfl ?_
    refine r_aload_n C 0 dX1_form_53 rfl rfl ?_
    refine r_iload_n C 2 dX1_form_54 rfl rfl ?_
    refine r_iconst C dX1_form_55 ?_
    refine r_isub C dX1_form_56 ?_
    obtain ⟨u17, eu17, h⟩ := bs h
    obtain ⟨q16, eq16, h⟩ := bs h
    refine r_callV C (As := [vI (x1 - 1)]) (b := v15) (rest := []) (st1 := []) (v := none) (r := (RX8, TX8, 2)) (ci := 6) rfl eu17 (m_X8_nought C.tr eq16) (lw_V q627 q628 q629 q130 q630) rfl hdX8_nought rfl rfl (Nat.le_of_ble_eq_true rfl) ⟨by decide, by decide⟩ dX1_form_57 rfl ?_
    refine r_iconst C dX1_form_60 ?_
    refine r_istore_n C [(3, vI 0), (2, vO v15), (0, vO a0), (1, vI x1)] dX1_form_61 rfl (by decide) rfl ?_
    refine r_sub [2, 3, 1, 0] rfl ?_
    exact w_X1_form_l62 (fin := fin) C X h hK
noncomputable def s_X1_form (a0 : Nat) (μ : Me) : Option (Ex ⊕ (Int × Me)) :=
  (ck μ 0 a0).bind fun _ =>
  (s_X1_took a0 μ).bind fun q1 =>
  (s_X1_isIn (w32 q1.1) 1 9 q1.2).bind fun q3 =>
  xb (s_X1_must q3.1 q3.2) (fun e5 => some (.inl e5)) fun q4 =>
  (gR q4 0 a0 2).bind fun v6 =>
  (gI q4 7 v6 5).bind fun v7 =>
  (if w32 16 ≤ w32 v7 then
  s_X1_form_b34 a0 q1.1 0 q4
  else
  s_X1_form_b34 a0 q1.1 1 q4)
theorem w_X1_form {Z : Zt} {fin : Ex ⊕ (Int × Me)} {w : Ex ⊕ (Int × Me)} (C : CX Z yX1_form cX1_form (some .int) 7 4) (X : XE Z) {a0 : Nat} {μ : Me} (h : s_X1_form a0 μ = some w) (hK : w = fin) : WL Z (XQ Z (zoI fin) (zmI fin)) μ 0 [(0, vO a0)] [] := by
  unfold s_X1_form at h
  refine r_aload_n C 0 dX1_form_0 rfl rfl ?_
  obtain ⟨u2, eu2, h⟩ := bs h
  obtain ⟨q1, eq1, h⟩ := bs h
  refine r_callV C (As := []) (b := a0) (rest := []) (st1 := [vI q1.1]) (v := some (vI q1.1)) (r := (RX1, TX1, 19)) (ci := 0) rfl eu2 (m_X1_took C.tr eq1) (lw_V q604 q606 qs2 q120 q607) rfl hdX1_took rfl rfl (Nat.le_of_ble_eq_true rfl) ⟨by decide, by decide⟩ dX1_form_1 rfl ?_
  refine r_istore_n C [(1, vI q1.1), (0, vO a0)] dX1_form_4 rfl (by decide) rfl ?_
  refine r_iload_n C 0 dX1_form_5 rfl rfl ?_
  refine r_i2l C dX1_form_6 ?_
  refine r_lconst (v := 1) C dX1_form_7 (by decide) ?_
  refine r_ldc2 (n := 9) C q608 dX1_form_8 (by decide) ?_
  obtain ⟨q3, eq3, h⟩ := bs h
  refine r_callS C (As := [vJ (w32 q1.1), vJ 1, vJ 9]) (rest := []) (st1 := [vI q3.1]) (v := some (vI q3.1)) (m_X1_isIn C.tr eq3) (lw_S q499 q500 q120 q501) hdX1_isIn rfl rfl (Nat.le_of_ble_eq_true rfl) ⟨by decide, by decide⟩ dX1_form_11 rfl ?_
  rcases xbs h with ⟨e5, eq4, h⟩ | ⟨q4, eq4, h⟩
  · refine r_xSx C (As := [vI q3.1]) (rest := []) (μ1 := e5.2.2) (m_X1_must C.tr eq4) (lw_S q557 q558 q120 q559) hdX1_must rfl rfl (Nat.le_of_ble_eq_true rfl) ⟨by decide, by decide⟩ dX1_form_14 ?_
    cases h
    exact r_xoutI C X hK
  · refine r_xS C (As := [vI q3.1]) (rest := []) (st1 := []) (v := none) (μ1 := q4) (m_X1_must C.tr eq4) (lw_S q557 q558 q120 q559) hdX1_must rfl rfl (Nat.le_of_ble_eq_true rfl) ⟨by decide, by decide⟩ dX1_form_14 rfl ?_
    refine r_aload_n C 1 dX1_form_17 rfl rfl ?_
    obtain ⟨v6, ev6, h⟩ := bs h
    refine r_getR C (c := 0) (r := (RX1, TX1, 19)) rfl 2 (by decide) rfl ev6 q426 dX1_form_18 ?_
    obtain ⟨v7, ev7, h⟩ := bs h
    refine r_getIN C (c := 7) (r := (RX9, TX9, 10)) rfl 5 (by decide) rfl ev7 (lw_n q388 rfl) dX1_form_21 ?_
    refine r_bipush C dX1_form_24 (by decide) ?_
    refine r_icmp_ge C dX1_form_26 (tgt := 33) (by decide) (fun c8 => ?_) (fun c8 => ?_)
    · have h := it_ h c8
      refine r_iconst C dX1_form_33 ?_
      refine r_sub [1, 0] rfl ?_
      exact w_X1_form_b34 (fin := fin) C X h hK
    · have h := ie_ h c8
      refine r_iconst C dX1_form_29 ?_
      refine r_goto C dX1_form_30 (tgt := 34) (by decide) ?_
      refine r_sub [1, 0] rfl ?_
      exact w_X1_form_b34 (fin := fin) C X h hK
theorem hdX1_form : zhd yX1_form 0 := by decide +kernel
theorem m_X1_form {l : Launch} {D : va_G} {b0 : Nat} (hl : l.stackTraces = false) {a0 : Nat} {μ : Me} {w : Ex ⊕ (Int × Me)} (h : s_X1_form a0 μ = some w) : XN l D b0 yX1_form (ws_ yX1_form cX1_form 4 (some .int)) 7 [vO a0] μ (zoI w) (zmI w) :=
  XN.of hl (by decide +kernel) (Nat.le_of_ble_eq_true rfl) (fun Z C X _ _ => w_X1_form C X h rfl)
noncomputable def s_X1_detOf (a0 : Nat) (x1 : Int) (x2 : Int) (x3 : Int) (x4 : Int) (μ : Me) : Option (Int × Me) :=
  (gR μ 0 a0 1).bind fun v1 =>
  (gR μ 4 v1 0).bind fun v2 =>
  (ck μ 5 v2).bind fun _ =>
  (s_X7_of v2 (((w32 x1) * (w32 x4)) - ((w32 x2) * (w32 x3))) μ).bind fun q3 =>
  some (q3.1, q3.2)
theorem w_X1_detOf {Z : Zt} {fin : Int × Me} {w : Int × Me} (C : CX Z yX1_detOf cX1_detOf (some .int) 2 5) {a0 : Nat} {x1 : Int} {x2 : Int} {x3 : Int} {x4 : Int} {μ : Me} (h : s_X1_detOf a0 x1 x2 x3 x4 μ = some w) (hK : w = fin) : WL Z (QN Z (some (vI fin.1)) fin.2) μ 0 [(0, vO a0), (1, vI x1), (2, vI x2), (3, vI x3), (4, vI x4)] [] := by
  unfold s_X1_detOf at h
  refine r_aload_n C 0 dX1_detOf_0 rfl rfl ?_
  obtain ⟨v1, ev1, h⟩ := bs h
  refine r_getR C (c := 0) (r := (RX1, TX1, 19)) rfl 1 (by decide) rfl ev1 q422 dX1_detOf_1 ?_
  obtain ⟨v2, ev2, h⟩ := bs h
  refine r_getRN C (c := 4) (r := (RX6, TX6, 6)) rfl 0 (by decide) rfl ev2 (lw_n q320 rfl) dX1_detOf_4 ?_
  refine r_iload_n C 1 dX1_detOf_7 rfl rfl ?_
  refine r_i2l C dX1_detOf_8 ?_
  refine r_iload C 4 dX1_detOf_9 rfl ?_
  refine r_i2l C dX1_detOf_11 ?_
  refine r_lmul C dX1_detOf_12 ?_
  refine r_iload_n C 2 dX1_detOf_13 rfl rfl ?_
  refine r_i2l C dX1_detOf_14 ?_
  refine r_iload_n C 3 dX1_detOf_15 rfl rfl ?_
  refine r_i2l C dX1_detOf_16 ?_
  refine r_lmul C dX1_detOf_17 ?_
  refine r_lsub C dX1_detOf_18 ?_
  obtain ⟨u4, eu4, h⟩ := bs h
  obtain ⟨q3, eq3, h⟩ := bs h
  refine r_callV C (As := [vJ (((w32 x1) * (w32 x4)) - ((w32 x2) * (w32 x3)))]) (b := v2) (rest := []) (st1 := [vI q3.1]) (v := some (vI q3.1)) (r := (RX7, TX7, 1)) (ci := 5) rfl eu4 (m_X7_of C.tr eq3) (lw_V q631 q632 q633 q129 q634) rfl hdX7_of rfl rfl (Nat.le_of_ble_eq_true rfl) ⟨by decide, by decide⟩ dX1_detOf_19 rfl ?_
  cases h
  exact r_iret C hK dX1_detOf_22
theorem hdX1_detOf : zhd yX1_detOf 4 := by decide +kernel
theorem m_X1_detOf {l : Launch} {D : va_G} {b0 : Nat} (hl : l.stackTraces = false) {a0 : Nat} {x1 : Int} {x2 : Int} {x3 : Int} {x4 : Int} {μ : Me} {w : Int × Me} (h : s_X1_detOf a0 x1 x2 x3 x4 μ = some w) : MN l D b0 yX1_detOf (ws_ yX1_detOf cX1_detOf 5 (some .int)) 2 [vO a0, vI x1, vI x2, vI x3, vI x4] μ (some (vI w.1)) w.2 :=
  MN.of hl (by decide +kernel) (Nat.le_of_ble_eq_true rfl) (fun Z C _ _ => w_X1_detOf C h rfl)
noncomputable def s_X1_table_b114 (a0 : Nat) (a5 : Nat) (t0 : Int) (μ : Me) : Option (Ex ⊕ (Int × Me)) :=
  xb (s_X1_mayBe t0 μ) (fun e35 => some (.inl e35)) fun q34 =>
  (gR q34 0 a0 2).bind fun v36 =>
  (gR q34 7 v36 1).bind fun v37 =>
  (gR q34 0 a0 2).bind fun v38 =>
  (gI q34 7 v38 6).bind fun v39 =>
  (aR q34 105 v37 v39).bind fun v40 =>
  (cpI q34 a5 0 v40 0 4).bind fun m41 =>
  (gR m41 0 a0 2).bind fun v42 =>
  (gI m41 7 v42 6).bind fun v43 =>
  (pI m41 7 v42 6 (v43 + 1)).bind fun m44 =>
  (gR m44 0 a0 2).bind fun v45 =>
  (gI m44 7 v45 6).bind fun v46 =>
  some (.inr ((v46 - 1), m44))
theorem w_X1_table_b114 {Z : Zt} {fin : Ex ⊕ (Int × Me)} {w : (Ex ⊕ (Int × Me))} (C : CX Z yX1_table cX1_table (some .int) 7 6) (X : XE Z) {a0 : Nat} {a5 : Nat} {t0 : Int} {μ : Me} (h : s_X1_table_b114 a0 a5 t0 μ = some w) (hK : (fun r : Ex ⊕ (Int × Me) => r = fin) w) : WL Z (XQ Z (zoI fin) (zmI fin)) μ 114 [(0, vO a0), (5, vO a5)] [vI t0] := by
  unfold s_X1_table_b114 at h
  rcases xbs h with ⟨e35, eq34, h⟩ | ⟨q34, eq34, h⟩
  · refine r_xSx C (As := [vI t0]) (rest := []) (μ1 := e35.2.2) (m_X1_mayBe C.tr eq34) (lw_S q609 q610 q120 q611) hdX1_mayBe rfl rfl (Nat.le_of_ble_eq_true rfl) ⟨by decide, by decide⟩ dX1_table_114 ?_
    cases h
    exact r_xoutI C X hK
  · refine r_xS C (As := [vI t0]) (rest := []) (st1 := []) (v := none) (μ1 := q34) (m_X1_mayBe C.tr eq34) (lw_S q609 q610 q120 q611) hdX1_mayBe rfl rfl (Nat.le_of_ble_eq_true rfl) ⟨by decide, by decide⟩ dX1_table_114 rfl ?_
    refine r_aload C 1 dX1_table_117 rfl ?_
    refine r_iconst C dX1_table_119 ?_
    refine r_aload_n C 0 dX1_table_120 rfl rfl ?_
    obtain ⟨v36, ev36, h⟩ := bs h
    refine r_getR C (c := 0) (r := (RX1, TX1, 19)) rfl 2 (by decide) rfl ev36 q426 dX1_table_121 ?_
    obtain ⟨v37, ev37, h⟩ := bs h
    refine r_getRN C (c := 7) (r := (RX9, TX9, 10)) rfl 1 (by decide) rfl ev37 (lw_n q380 rfl) dX1_table_124 ?_
    refine r_aload_n C 0 dX1_table_127 rfl rfl ?_
    obtain ⟨v38, ev38, h⟩ := bs h
    refine r_getR C (c := 0) (r := (RX1, TX1, 19)) rfl 2 (by decide) rfl ev38 q426 dX1_table_128 ?_
    obtain ⟨v39, ev39, h⟩ := bs h
    refine r_getIN C (c := 7) (r := (RX9, TX9, 10)) rfl 6 (by decide) rfl ev39 (lw_n q390 rfl) dX1_table_131 ?_
    obtain ⟨v40, ev40, h⟩ := bs h
    refine r_aald C (kt := 4) ev40 rfl rfl ⟨by decide, by decide⟩ dX1_table_134 ?_
    refine r_iconst C dX1_table_135 ?_
    refine r_iconst C dX1_table_136 ?_
    obtain ⟨m41, em41, h⟩ := bs h
    refine r_copyI C em41 q646 q516 q515 q138 (by decide) (Nat.le_of_ble_eq_true rfl) dX1_table_137 ?_
    refine r_aload_n C 0 dX1_table_140 rfl rfl ?_
    obtain ⟨v42, ev42, h⟩ := bs h
    refine r_getR C (c := 0) (r := (RX1, TX1, 19)) rfl 2 (by decide) rfl ev42 q426 dX1_table_141 ?_
    refine r_dup C dX1_table_144 rfl ?_
    obtain ⟨v43, ev43, h⟩ := bs h
    refine r_getIN C (c := 7) (r := (RX9, TX9, 10)) rfl 6 (by decide) rfl ev43 (lw_n q390 rfl) dX1_table_145 ?_
    refine r_iconst C dX1_table_148 ?_
    refine r_iadd C dX1_table_149 ?_
    obtain ⟨m44, em44, h⟩ := bs h
    refine r_putIN C (c := 7) (r := (RX9, TX9, 10)) rfl 6 (by decide) rfl ⟨rfl, rfl⟩ rfl em44 (lw_n q390 rfl) dX1_table_150 ?_
    refine r_aload_n C 0 dX1_table_153 rfl rfl ?_
    obtain ⟨v45, ev45, h⟩ := bs h
    refine r_getR C (c := 0) (r := (RX1, TX1, 19)) rfl 2 (by decide) rfl ev45 q426 dX1_table_154 ?_
    obtain ⟨v46, ev46, h⟩ := bs h
    refine r_getIN C (c := 7) (r := (RX9, TX9, 10)) rfl 6 (by decide) rfl ev46 (lw_n q390 rfl) dX1_table_157 ?_
    refine r_iconst C dX1_table_160 ?_
    refine r_isub C dX1_table_161 ?_
    cases h
    exact r_xiret C hK dX1_table_162
noncomputable def s_X1_table_b94 (a0 : Nat) (a5 : Nat) (t0 : Int) (μ : Me) : Option (Ex ⊕ (Int × Me)) :=
  xb (s_X1_must t0 μ) (fun e30 => some (.inl e30)) fun q29 =>
  (gR q29 0 a0 2).bind fun v31 =>
  (gI q29 7 v31 6).bind fun v32 =>
  (if w32 8 ≤ w32 v32 then
  s_X1_table_b114 a0 a5 0 q29
  else
  s_X1_table_b114 a0 a5 1 q29)
theorem w_X1_table_b94 {Z : Zt} {fin : Ex ⊕ (Int × Me)} {w : (Ex ⊕ (Int × Me))} (C : CX Z yX1_table cX1_table (some .int) 7 6) (X : XE Z) {a0 : Nat} {a5 : Nat} {t0 : Int} {μ : Me} (h : s_X1_table_b94 a0 a5 t0 μ = some w) (hK : (fun r : Ex ⊕ (Int × Me) => r = fin) w) : WL Z (XQ Z (zoI fin) (zmI fin)) μ 94 [(0, vO a0), (5, vO a5)] [vI t0] := by
  unfold s_X1_table_b94 at h
  rcases xbs h with ⟨e30, eq29, h⟩ | ⟨q29, eq29, h⟩
  · refine r_xSx C (As := [vI t0]) (rest := []) (μ1 := e30.2.2) (m_X1_must C.tr eq29) (lw_S q557 q558 q120 q559) hdX1_must rfl rfl (Nat.le_of_ble_eq_true rfl) ⟨by decide, by decide⟩ dX1_table_94 ?_
    cases h
    exact r_xoutI C X hK
  · refine r_xS C (As := [vI t0]) (rest := []) (st1 := []) (v := none) (μ1 := q29) (m_X1_must C.tr eq29) (lw_S q557 q558 q120 q559) hdX1_must rfl rfl (Nat.le_of_ble_eq_true rfl) ⟨by decide, by decide⟩ dX1_table_94 rfl ?_
    refine r_aload_n C 0 dX1_table_97 rfl rfl ?_
    obtain ⟨v31, ev31, h⟩ := bs h
    refine r_getR C (c := 0) (r := (RX1, TX1, 19)) rfl 2 (by decide) rfl ev31 q426 dX1_table_98 ?_
    obtain ⟨v32, ev32, h⟩ := bs h
    refine r_getIN C (c := 7) (r := (RX9, TX9, 10)) rfl 6 (by decide) rfl ev32 (lw_n q390 rfl) dX1_table_101 ?_
    refine r_bipush C dX1_table_104 (by decide) ?_
    refine r_icmp_ge C dX1_table_106 (tgt := 113) (by decide) (fun c33 => ?_) (fun c33 => ?_)
    · have h := it_ h c33
      refine r_iconst C dX1_table_113 ?_
      exact w_X1_table_b114 (fin := fin) C X h hK
    · have h := ie_ h c33
      refine r_iconst C dX1_table_109 ?_
      refine r_goto C dX1_table_110 (tgt := 114) (by decide) ?_
      exact w_X1_table_b114 (fin := fin) C X h hK
noncomputable def s_X1_table (a0 : Nat) (x1 : Int) (x2 : Int) (x3 : Int) (x4 : Int) (μ : Me) : Option (Ex ⊕ (Int × Me)) :=
  (nA μ 101 4).bind fun q1 =>
  (gR q1.2 0 a0 1).bind fun v2 =>
  (gR q1.2 4 v2 0).bind fun v3 =>
  (ck q1.2 5 v3).bind fun _ =>
  (s_X7_of v3 (w32 x1) q1.2).bind fun q4 =>
  (uI q4.2 q1.1 0 q4.1).bind fun m6 =>
  (gR m6 0 a0 1).bind fun v7 =>
  (gR m6 4 v7 0).bind fun v8 =>
  (ck m6 5 v8).bind fun _ =>
  (s_X7_of v8 (w32 x2) m6).bind fun q9 =>
  (uI q9.2 q1.1 1 q9.1).bind fun m11 =>
  (gR m11 0 a0 1).bind fun v12 =>
  (gR m11 4 v12 0).bind fun v13 =>
  (ck m11 5 v13).bind fun _ =>
  (s_X7_of v13 (w32 x3) m11).bind fun q14 =>
  (uI q14.2 q1.1 2 q14.1).bind fun m16 =>
  (gR m16 0 a0 1).bind fun v17 =>
  (gR m16 4 v17 0).bind fun v18 =>
  (ck m16 5 v18).bind fun _ =>
  (s_X7_of v18 (w32 x4) m16).bind fun q19 =>
  (uI q19.2 q1.1 3 q19.1).bind fun m21 =>
  (aI m21 101 q1.1 0).bind fun v22 =>
  (aI m21 101 q1.1 1).bind fun v23 =>
  (aI m21 101 q1.1 2).bind fun v24 =>
  (aI m21 101 q1.1 3).bind fun v25 =>
  (ck m21 0 a0).bind fun _ =>
  (s_X1_detOf a0 v22 v23 v24 v25 m21).bind fun q26 =>
  (if w32 q26.1 = 0 then
  s_X1_table_b94 a0 q1.1 0 q26.2
  else
  s_X1_table_b94 a0 q1.1 1 q26.2)
theorem w_X1_table {Z : Zt} {fin : Ex ⊕ (Int × Me)} {w : Ex ⊕ (Int × Me)} (C : CX Z yX1_table cX1_table (some .int) 7 6) (X : XE Z) {a0 : Nat} {x1 : Int} {x2 : Int} {x3 : Int} {x4 : Int} {μ : Me} (h : s_X1_table a0 x1 x2 x3 x4 μ = some w) (hK : w = fin) : WL Z (XQ Z (zoI fin) (zmI fin)) μ 0 [(0, vO a0), (1, vI x1), (2, vI x2), (3, vI x3), (4, vI x4)] [] := by
  unfold s_X1_table at h
  refine r_iconst C dX1_table_0 ?_
  obtain ⟨q1, eq1, h⟩ := bs h
  refine r_newa C (t := 101) (kt := 0) (ty := .int) eq1 rfl (Or.inl ⟨rfl, rfl, rfl⟩) q315 dX1_table_1 ?_
  refine r_dup C dX1_table_3 rfl ?_
  refine r_iconst C dX1_table_4 ?_
  refine r_aload_n C 0 dX1_table_5 rfl rfl ?_
  obtain ⟨v2, ev2, h⟩ := bs h
  refine r_getR C (c := 0) (r := (RX1, TX1, 19)) rfl 1 (by decide) rfl ev2 q422 dX1_table_6 ?_
  obtain ⟨v3, ev3, h⟩ := bs h
  refine r_getRN C (c := 4) (r := (RX6, TX6, 6)) rfl 0 (by decide) rfl ev3 (lw_n q320 rfl) dX1_table_9 ?_
  refine r_iload_n C 1 dX1_table_12 rfl rfl ?_
  refine r_i2l C dX1_table_13 ?_
  obtain ⟨u5, eu5, h⟩ := bs h
  obtain ⟨q4, eq4, h⟩ := bs h
  refine r_callV C (As := [vJ (w32 x1)]) (b := v3) (rest := [vI 0, vO q1.1, vO q1.1]) (st1 := [vI q4.1, vI 0, vO q1.1, vO q1.1]) (v := some (vI q4.1)) (r := (RX7, TX7, 1)) (ci := 5) rfl eu5 (m_X7_of C.tr eq4) (lw_V q631 q632 q633 q129 q634) rfl hdX7_of rfl rfl (Nat.le_of_ble_eq_true rfl) ⟨by decide, by decide⟩ dX1_table_14 rfl ?_
  obtain ⟨m6, em6, h⟩ := bs h
  refine r_iast C em6 dX1_table_17 ?_
  refine r_dup C dX1_table_18 rfl ?_
  refine r_iconst C dX1_table_19 ?_
  refine r_aload_n C 0 dX1_table_20 rfl rfl ?_
  obtain ⟨v7, ev7, h⟩ := bs h
  refine r_getR C (c := 0) (r := (RX1, TX1, 19)) rfl 1 (by decide) rfl ev7 q422 dX1_table_21 ?_
  obtain ⟨v8, ev8, h⟩ := bs h
  refine r_getRN C (c := 4) (r := (RX6, TX6, 6)) rfl 0 (by decide) rfl ev8 (lw_n q320 rfl) dX1_table_24 ?_
  refine r_iload_n C 2 dX1_table_27 rfl rfl ?_
  refine r_i2l C dX1_table_28 ?_
  obtain ⟨u10, eu10, h⟩ := bs h
  obtain ⟨q9, eq9, h⟩ := bs h
  refine r_callV C (As := [vJ (w32 x2)]) (b := v8) (rest := [vI 1, vO q1.1, vO q1.1]) (st1 := [vI q9.1, vI 1, vO q1.1, vO q1.1]) (v := some (vI q9.1)) (r := (RX7, TX7, 1)) (ci := 5) rfl eu10 (m_X7_of C.tr eq9) (lw_V q631 q632 q633 q129 q634) rfl hdX7_of rfl rfl (Nat.le_of_ble_eq_true rfl) ⟨by decide, by decide⟩ dX1_table_29 rfl ?_
  obtain ⟨m11, em11, h⟩ := bs h
  refine r_iast C em11 dX1_table_32 ?_
  refine r_dup C dX1_table_33 rfl ?_
  refine r_iconst C dX1_table_34 ?_
  refine r_aload_n C 0 dX1_table_35 rfl rfl ?_
  obtain ⟨v12, ev12, h⟩ := bs h
  refine r_getR C (c := 0) (r := (RX1, TX1, 19)) rfl 1 (by decide) rfl ev12 q422 dX1_table_36 ?_
  obtain ⟨v13, ev13, h⟩ := bs h
  refine r_getRN C (c := 4) (r := (RX6, TX6, 6)) rfl 0 (by decide) rfl ev13 (lw_n q320 rfl) dX1_table_39 ?_
  refine r_iload_n C 3 dX1_table_42 rfl rfl ?_
  refine r_i2l C dX1_table_43 ?_
  obtain ⟨u15, eu15, h⟩ := bs h
  obtain ⟨q14, eq14, h⟩ := bs h
  refine r_callV C (As := [vJ (w32 x3)]) (b := v13) (rest := [vI 2, vO q1.1, vO q1.1]) (st1 := [vI q14.1, vI 2, vO q1.1, vO q1.1]) (v := some (vI q14.1)) (r := (RX7, TX7, 1)) (ci := 5) rfl eu15 (m_X7_of C.tr eq14) (lw_V q631 q632 q633 q129 q634) rfl hdX7_of rfl rfl (Nat.le_of_ble_eq_true rfl) ⟨by decide, by decide⟩ dX1_table_44 rfl ?_
  obtain ⟨m16, em16, h⟩ := bs h
  refine r_iast C em16 dX1_table_47 ?_
  refine r_dup C dX1_table_48 rfl ?_
  refine r_iconst C dX1_table_49 ?_
  refine r_aload_n C 0 dX1_table_50 rfl rfl ?_
  obtain ⟨v17, ev17, h⟩ := bs h
  refine r_getR C (c := 0) (r := (RX1, TX1, 19)) rfl 1 (by decide) rfl ev17 q422 dX1_table_51 ?_
  obtain ⟨v18, ev18, h⟩ := bs h
  refine r_getRN C (c := 4) (r := (RX6, TX6, 6)) rfl 0 (by decide) rfl ev18 (lw_n q320 rfl) dX1_table_54 ?_
  refine r_iload C 4 dX1_table_57 rfl ?_
  refine r_i2l C dX1_table_59 ?_
  obtain ⟨u20, eu20, h⟩ := bs h
  obtain ⟨q19, eq19, h⟩ := bs h
  refine r_callV C (As := [vJ (w32 x4)]) (b := v18) (rest := [vI 3, vO q1.1, vO q1.1]) (st1 := [vI q19.1, vI 3, vO q1.1, vO q1.1]) (v := some (vI q19.1)) (r := (RX7, TX7, 1)) (ci := 5) rfl eu20 (m_X7_of C.tr eq19) (lw_V q631 q632 q633 q129 q634) rfl hdX7_of rfl rfl (Nat.le_of_ble_eq_true rfl) ⟨by decide, by decide⟩ dX1_table_60 rfl ?_
  obtain ⟨m21, em21, h⟩ := bs h
  refine r_iast C em21 dX1_table_63 ?_
  refine r_astore C [(5, vO q1.1), (0, vO a0), (1, vI x1), (2, vI x2), (3, vI x3), (4, vI x4)] dX1_table_64 (by decide) rfl ?_
  refine r_aload_n C 1 dX1_table_66 rfl rfl ?_
  refine r_aload C 0 dX1_table_67 rfl ?_
  refine r_iconst C dX1_table_69 ?_
  obtain ⟨v22, ev22, h⟩ := bs h
  refine r_iald C ev22 dX1_table_70 ?_
  refine r_aload C 0 dX1_table_71 rfl ?_
  refine r_iconst C dX1_table_73 ?_
  obtain ⟨v23, ev23, h⟩ := bs h
  refine r_iald C ev23 dX1_table_74 ?_
  refine r_aload C 0 dX1_table_75 rfl ?_
  refine r_iconst C dX1_table_77 ?_
  obtain ⟨v24, ev24, h⟩ := bs h
  refine r_iald C ev24 dX1_table_78 ?_
  refine r_aload C 0 dX1_table_79 rfl ?_
  refine r_iconst C dX1_table_81 ?_
  obtain ⟨v25, ev25, h⟩ := bs h
  refine r_iald C ev25 dX1_table_82 ?_
  obtain ⟨u27, eu27, h⟩ := bs h
  obtain ⟨q26, eq26, h⟩ := bs h
  refine r_callV C (As := [vI v22, vI v23, vI v24, vI v25]) (b := a0) (rest := []) (st1 := [vI q26.1]) (v := some (vI q26.1)) (r := (RX1, TX1, 19)) (ci := 0) rfl eu27 (m_X1_detOf C.tr eq26) (lw_V q642 q644 qs3 q120 q645) rfl hdX1_detOf rfl rfl (Nat.le_of_ble_eq_true rfl) ⟨by decide, by decide⟩ dX1_table_83 rfl ?_
  refine r_if_eq C dX1_table_86 (tgt := 93) (by decide) (fun c28 => ?_) (fun c28 => ?_)
  · have h := it_ h c28
    refine r_iconst C dX1_table_93 ?_
    refine r_sub [1, 0] rfl ?_
    exact w_X1_table_b94 (fin := fin) C X h hK
  · have h := ie_ h c28
    refine r_iconst C dX1_table_89 ?_
    refine r_goto C dX1_table_90 (tgt := 94) (by decide) ?_
    refine r_sub [1, 0] rfl ?_
    exact w_X1_table_b94 (fin := fin) C X h hK
theorem hdX1_table : zhd yX1_table 4 := by decide +kernel
theorem m_X1_table {l : Launch} {D : va_G} {b0 : Nat} (hl : l.stackTraces = false) {a0 : Nat} {x1 : Int} {x2 : Int} {x3 : Int} {x4 : Int} {μ : Me} {w : Ex ⊕ (Int × Me)} (h : s_X1_table a0 x1 x2 x3 x4 μ = some w) : XN l D b0 yX1_table (ws_ yX1_table cX1_table 6 (some .int)) 7 [vO a0, vI x1, vI x2, vI x3, vI x4] μ (zoI w) (zmI w) :=
  XN.of hl (by decide +kernel) (Nat.le_of_ble_eq_true rfl) (fun Z C X _ _ => w_X1_table C X h rfl)
noncomputable def s_X2_sign_b38 (a0 : Nat)  (μ : Me) : Option (Int × Me) :=
  (gI μ 1 a0 5).bind fun v4 =>
  (gI μ 1 a0 4).bind fun v5 =>
  (if w32 v5 ≤ w32 v4 then
  some ((-1), μ)
  else
  (gR μ 1 a0 0).bind fun v7 =>
  (gI μ 1 a0 5).bind fun v8 =>
  (aI μ 102 v7 v8).bind fun v9 =>
  some ((anI v9 255), μ))
theorem w_X2_sign_b38 {Z : Zt} {fin : Int × Me} {w : (Int × Me)} (C : CX Z yX2_sign cX2_sign (some .int) 1 1) {a0 : Nat}  {μ : Me} (h : s_X2_sign_b38 a0 μ = some w) (hK : (fun r : Int × Me => r = fin) w) : WL Z (QN Z (some (vI fin.1)) fin.2) μ 38 [(0, vO a0)] [] := by
  unfold s_X2_sign_b38 at h
  refine r_aload_n C 0 dX2_sign_38 rfl rfl ?_
  obtain ⟨v4, ev4, h⟩ := bs h
  refine r_getI C (c := 1) (r := (RX2, TX2, 8)) rfl 5 (by decide) rfl ev4 q255 dX2_sign_39 ?_
  refine r_aload_n C 0 dX2_sign_42 rfl rfl ?_
  obtain ⟨v5, ev5, h⟩ := bs h
  refine r_getI C (c := 1) (r := (RX2, TX2, 8)) rfl 4 (by decide) rfl ev5 q254 dX2_sign_43 ?_
  refine r_icmp_ge C dX2_sign_46 (tgt := 65) (by decide) (fun c6 => ?_) (fun c6 => ?_)
  · have h := it_ h c6
    refine r_iconst C dX2_sign_65 ?_
    cases h
    exact r_iret C hK dX2_sign_66
  · have h := ie_ h c6
    refine r_aload_n C 0 dX2_sign_49 rfl rfl ?_
    obtain ⟨v7, ev7, h⟩ := bs h
    refine r_getR C (c := 1) (r := (RX2, TX2, 8)) rfl 0 (by decide) rfl ev7 q249 dX2_sign_50 ?_
    refine r_aload_n C 0 dX2_sign_53 rfl rfl ?_
    obtain ⟨v8, ev8, h⟩ := bs h
    refine r_getI C (c := 1) (r := (RX2, TX2, 8)) rfl 5 (by decide) rfl ev8 q255 dX2_sign_54 ?_
    obtain ⟨v9, ev9, h⟩ := bs h
    refine r_bald C ev9 dX2_sign_57 ?_
    refine r_sipush C dX2_sign_58 (by decide) ?_
    refine r_iand C dX2_sign_61 ?_
    refine r_goto C dX2_sign_62 (tgt := 66) (by decide) ?_
    cases h
    exact r_iret C hK dX2_sign_66
noncomputable def s_X2_sign_l0_st (a0 : Nat) (μ : Me) : Option ((Me) ⊕ (Int × Me)) :=
  (gI μ 1 a0 5).bind fun v1 =>
  (gI μ 1 a0 4).bind fun v2 =>
  (if w32 v2 ≤ w32 v1 then
  (s_X2_sign_b38 a0 μ).map Sum.inr
  else
  (gR μ 1 a0 0).bind fun v10 =>
  (gI μ 1 a0 5).bind fun v11 =>
  (aI μ 102 v10 v11).bind fun v12 =>
  (if w32 v12 = w32 32 then
  (gI μ 1 a0 5).bind fun v14 =>
  (pI μ 1 a0 5 (v14 + 1)).bind fun m15 =>
  some (.inl m15)
  else
  (s_X2_sign_b38 a0 μ).map Sum.inr))
theorem w_X2_sign_l0_st {Z : Zt} {fin : Int × Me} {w : ((Me) ⊕ (Int × Me))} (C : CX Z yX2_sign cX2_sign (some .int) 1 1) {a0 : Nat} {μ : Me} (h : s_X2_sign_l0_st a0 μ = some w) (hK : (Sum.elim (fun s : Me => WL Z (QN Z (some (vI fin.1)) fin.2) s 0 [(0, vO a0)] []) (fun r : Int × Me => r = fin)) w) : WL Z (QN Z (some (vI fin.1)) fin.2) μ 0 [(0, vO a0)] [] := by
  unfold s_X2_sign_l0_st at h
  refine r_aload_n C 0 dX2_sign_0 rfl rfl ?_
  obtain ⟨v1, ev1, h⟩ := bs h
  refine r_getI C (c := 1) (r := (RX2, TX2, 8)) rfl 5 (by decide) rfl ev1 q255 dX2_sign_1 ?_
  refine r_aload_n C 0 dX2_sign_4 rfl rfl ?_
  obtain ⟨v2, ev2, h⟩ := bs h
  refine r_getI C (c := 1) (r := (RX2, TX2, 8)) rfl 4 (by decide) rfl ev2 q254 dX2_sign_5 ?_
  refine r_icmp_ge C dX2_sign_8 (tgt := 38) (by decide) (fun c3 => ?_) (fun c3 => ?_)
  · have h := it_ h c3
    obtain ⟨z, hz, ez⟩ := ms_ h; clear h; subst ez; have h := hz; clear hz
    exact w_X2_sign_b38 (fin := fin) C h hK
  · have h := ie_ h c3
    refine r_aload_n C 0 dX2_sign_11 rfl rfl ?_
    obtain ⟨v10, ev10, h⟩ := bs h
    refine r_getR C (c := 1) (r := (RX2, TX2, 8)) rfl 0 (by decide) rfl ev10 q249 dX2_sign_12 ?_
    refine r_aload_n C 0 dX2_sign_15 rfl rfl ?_
    obtain ⟨v11, ev11, h⟩ := bs h
    refine r_getI C (c := 1) (r := (RX2, TX2, 8)) rfl 5 (by decide) rfl ev11 q255 dX2_sign_16 ?_
    obtain ⟨v12, ev12, h⟩ := bs h
    refine r_bald C ev12 dX2_sign_19 ?_
    refine r_bipush C dX2_sign_20 (by decide) ?_
    refine r_icmp_ne C dX2_sign_22 (tgt := 38) (by decide) (fun c13 => ?_) (fun c13 => ?_)
    · have h := ie_ h c13
      obtain ⟨z, hz, ez⟩ := ms_ h; clear h; subst ez; have h := hz; clear hz
      exact w_X2_sign_b38 (fin := fin) C h hK
    · have h := it_ h c13
      refine r_aload_n C 0 dX2_sign_25 rfl rfl ?_
      refine r_dup C dX2_sign_26 rfl ?_
      obtain ⟨v14, ev14, h⟩ := bs h
      refine r_getI C (c := 1) (r := (RX2, TX2, 8)) rfl 5 (by decide) rfl ev14 q255 dX2_sign_27 ?_
      refine r_iconst C dX2_sign_30 ?_
      refine r_iadd C dX2_sign_31 ?_
      obtain ⟨m15, em15, h⟩ := bs h
      refine r_putI C (c := 1) (r := (RX2, TX2, 8)) rfl 5 (by decide) rfl ⟨rfl, rfl⟩ rfl em15 q255 dX2_sign_32 ?_
      refine r_goto C dX2_sign_35 (tgt := 0) (by decide) ?_
      cases h
      exact hK
noncomputable def s_X2_sign_l0 (a0 : Nat) (μ : Me) : Option (Int × Me) :=
  whileO (fun s : Me => s_X2_sign_l0_st a0 s) μ
theorem e_X2_sign_l0 (a0 : Nat) (μ : Me) : s_X2_sign_l0 a0 μ = (s_X2_sign_l0_st a0 μ).bind fun x => x.elim (fun s : Me => s_X2_sign_l0 a0 s) some := whileO_eq _ _
theorem w_X2_sign_l0 {Z : Zt} {fin : Int × Me} {w : (Int × Me)} (C : CX Z yX2_sign cX2_sign (some .int) 1 1) {a0 : Nat} {μ : Me} (h : s_X2_sign_l0 a0 μ = some w) (hK : (fun r : Int × Me => r = fin) w) : WL Z (QN Z (some (vI fin.1)) fin.2) μ 0 [(0, vO a0)] [] := by
  refine whileO_walk (w := w) (fun s : Me => WL Z (QN Z (some (vI fin.1)) fin.2) s 0 [(0, vO a0)] []) (fun s v h2 hi hr => ?_) μ h
  refine w_X2_sign_l0_st (fin := fin) C h2 ?_
  cases v with
  | inl s2 => exact hi s2 rfl
  | inr r => have e := hr r rfl; subst e; exact hK
noncomputable def s_X2_sign (a0 : Nat) (μ : Me) : Option (Int × Me) :=
  s_X2_sign_l0 a0 μ
theorem w_X2_sign {Z : Zt} {fin : Int × Me} {w : Int × Me} (C : CX Z yX2_sign cX2_sign (some .int) 1 1) {a0 : Nat} {μ : Me} (h : s_X2_sign a0 μ = some w) (hK : w = fin) : WL Z (QN Z (some (vI fin.1)) fin.2) μ 0 [(0, vO a0)] [] := by
  unfold s_X2_sign at h
  exact w_X2_sign_l0 (fin := fin) C h hK
theorem hdX2_sign : zhd yX2_sign 0 := by decide +kernel
theorem m_X2_sign {l : Launch} {D : va_G} {b0 : Nat} (hl : l.stackTraces = false) {a0 : Nat} {μ : Me} {w : Int × Me} (h : s_X2_sign a0 μ = some w) : MN l D b0 yX2_sign (ws_ yX2_sign cX2_sign 1 (some .int)) 1 [vO a0] μ (some (vI w.1)) w.2 :=
  MN.of hl (by decide +kernel) (Nat.le_of_ble_eq_true rfl) (fun Z C _ _ => w_X2_sign C h rfl)
noncomputable def s_X2_fail (a0 : Nat) (x1 : Int) (μ : Me) : Option (Ex ⊕ Me) :=
  (gR μ 1 a0 2).bind fun v1 =>
  (pI μ 3 v1 6 x1).bind fun m2 =>
  (gR m2 1 a0 2).bind fun v3 =>
  (ck m2 3 v3).bind fun _ =>
  some (.inl (5, v3, m2))
theorem w_X2_fail {Z : Zt} {fin : Ex ⊕ Me} {w : Ex ⊕ Me} (C : CX Z yX2_fail cX2_fail none 1 2) (X : XE Z) {a0 : Nat} {x1 : Int} {μ : Me} (h : s_X2_fail a0 x1 μ = some w) (hK : w = fin) : WL Z (XQ Z (zoV fin) (zmV fin)) μ 0 [(0, vO a0), (1, vI x1)] [] := by
  unfold s_X2_fail at h
  refine r_aload_n C 0 dX2_fail_0 rfl rfl ?_
  obtain ⟨v1, ev1, h⟩ := bs h
  refine r_getR C (c := 1) (r := (RX2, TX2, 8)) rfl 2 (by decide) rfl ev1 q252 dX2_fail_1 ?_
  refine r_iload_n C 1 dX2_fail_4 rfl rfl ?_
  obtain ⟨m2, em2, h⟩ := bs h
  refine r_putIN C (c := 3) (r := (RX5, TX5, 7)) rfl 6 (by decide) rfl ⟨rfl, rfl⟩ rfl em2 (lw_n q232 rfl) dX2_fail_5 ?_
  refine r_aload_n C 0 dX2_fail_8 rfl rfl ?_
  obtain ⟨v3, ev3, h⟩ := bs h
  refine r_getR C (c := 1) (r := (RX2, TX2, 8)) rfl 2 (by decide) rfl ev3 q252 dX2_fail_9 ?_
  obtain ⟨u4, eu4, h⟩ := bs h
  cases h
  exact r_athrow C eu4 dX2_fail_12 (r_xoutV C X hK)
theorem hdX2_fail : zhd yX2_fail 1 := by decide +kernel
theorem m_X2_fail {l : Launch} {D : va_G} {b0 : Nat} (hl : l.stackTraces = false) {a0 : Nat} {x1 : Int} {μ : Me} {w : Ex ⊕ Me} (h : s_X2_fail a0 x1 μ = some w) : XN l D b0 yX2_fail (ws_ yX2_fail cX2_fail 2 none) 1 [vO a0, vI x1] μ (zoV w) (zmV w) :=
  XN.of hl (by decide +kernel) (Nat.le_of_ble_eq_true rfl) (fun Z C X _ _ => w_X2_fail C X h rfl)
noncomputable def s_X2_counts (a0 : Nat) (x1 : Int) (μ : Me) : Option (Ex ⊕ Me) :=
  (gI μ 1 a0 7).bind fun v1 =>
  (if w32 v1 = w32 40 then
  (ck μ 1 a0).bind fun _ =>
  xb (s_X2_fail a0 x1 μ) (fun e6 => some (.inl e6)) fun q5 =>
  (gI q5 1 a0 7).bind fun v8 =>
  (pI q5 1 a0 7 (v8 + 1)).bind fun m9 =>
  some (.inr m9)
  else
  (gI μ 1 a0 7).bind fun v3 =>
  (pI μ 1 a0 7 (v3 + 1)).bind fun m4 =>
  some (.inr m4))
theorem w_X2_counts {Z : Zt} {fin : Ex ⊕ Me} {w : Ex ⊕ Me} (C : CX Z yX2_counts cX2_counts none 2 2) (X : XE Z) {a0 : Nat} {x1 : Int} {μ : Me} (h : s_X2_counts a0 x1 μ = some w) (hK : w = fin) : WL Z (XQ Z (zoV fin) (zmV fin)) μ 0 [(0, vO a0), (1, vI x1)] [] := by
  unfold s_X2_counts at h
  refine r_aload_n C 0 dX2_counts_0 rfl rfl ?_
  obtain ⟨v1, ev1, h⟩ := bs h
  refine r_getI C (c := 1) (r := (RX2, TX2, 8)) rfl 7 (by decide) rfl ev1 q257 dX2_counts_1 ?_
  refine r_bipush C dX2_counts_4 (by decide) ?_
  refine r_icmp_ne C dX2_counts_6 (tgt := 14) (by decide) (fun c2 => ?_) (fun c2 => ?_)
  · have h := ie_ h c2
    refine r_aload_n C 0 dX2_counts_14 rfl rfl ?_
    refine r_dup C dX2_counts_15 rfl ?_
    obtain ⟨v3, ev3, h⟩ := bs h
    refine r_getI C (c := 1) (r := (RX2, TX2, 8)) rfl 7 (by decide) rfl ev3 q257 dX2_counts_16 ?_
    refine r_iconst C dX2_counts_19 ?_
    refine r_iadd C dX2_counts_20 ?_
    obtain ⟨m4, em4, h⟩ := bs h
    refine r_putI C (c := 1) (r := (RX2, TX2, 8)) rfl 7 (by decide) rfl ⟨rfl, rfl⟩ rfl em4 q257 dX2_counts_21 ?_
    cases h
    exact r_xvret C hK dX2_counts_24
  · have h := it_ h c2
    refine r_aload_n C 0 dX2_counts_9 rfl rfl ?_
    refine r_iload_n C 1 dX2_counts_10 rfl rfl ?_
    obtain ⟨u7, eu7, h⟩ := bs h
    rcases xbs h with ⟨e6, eq5, h⟩ | ⟨q5, eq5, h⟩
    · refine r_xVx C (As := [vI x1]) (b := a0) (rest := []) (μ1 := e6.2.2) (r := (RX2, TX2, 8)) (ci := 1) rfl eu7 (m_X2_fail C.tr eq5) (lw_V q679 q681 qs9 q121 q682) rfl hdX2_fail rfl rfl (Nat.le_of_ble_eq_true rfl) ⟨by decide, by decide⟩ dX2_counts_11 ?_
      cases h
      exact r_xoutV C X hK
    · refine r_xV C (As := [vI x1]) (b := a0) (rest := []) (st1 := []) (v := none) (μ1 := q5) (r := (RX2, TX2, 8)) (ci := 1) rfl eu7 (m_X2_fail C.tr eq5) (lw_V q679 q681 qs9 q121 q682) rfl hdX2_fail rfl rfl (Nat.le_of_ble_eq_true rfl) ⟨by decide, by decide⟩ dX2_counts_11 rfl ?_
      refine r_aload_n C 0 dX2_counts_14 rfl rfl ?_
      refine r_dup C dX2_counts_15 rfl ?_
      obtain ⟨v8, ev8, h⟩ := bs h
      refine r_getI C (c := 1) (r := (RX2, TX2, 8)) rfl 7 (by decide) rfl ev8 q257 dX2_counts_16 ?_
      refine r_iconst C dX2_counts_19 ?_
      refine r_iadd C dX2_counts_20 ?_
      obtain ⟨m9, em9, h⟩ := bs h
      refine r_putI C (c := 1) (r := (RX2, TX2, 8)) rfl 7 (by decide) rfl ⟨rfl, rfl⟩ rfl em9 q257 dX2_counts_21 ?_
      cases h
      exact r_xvret C hK dX2_counts_24
theorem hdX2_counts : zhd yX2_counts 1 := by decide +kernel
theorem m_X2_counts {l : Launch} {D : va_G} {b0 : Nat} (hl : l.stackTraces = false) {a0 : Nat} {x1 : Int} {μ : Me} {w : Ex ⊕ Me} (h : s_X2_counts a0 x1 μ = some w) : XN l D b0 yX2_counts (ws_ yX2_counts cX2_counts 2 none) 2 [vO a0, vI x1] μ (zoV w) (zmV w) :=
  XN.of hl (by decide +kernel) (Nat.le_of_ble_eq_true rfl) (fun Z C X _ _ => w_X2_counts C X h rfl)
noncomputable def s_X2_number_b100 (a0 : Nat) (x1 : Int) (x3 : Int) (x4 : Int)  (μ : Me) : Option (Ex ⊕ (Int × Me)) :=
  (gI μ 1 a0 5).bind fun v7 =>
  (if w32 v7 = w32 x3 then
  (ck μ 1 a0).bind fun _ =>
  xb (s_X2_fail a0 x3 μ) (fun e10 => some (.inl e10)) fun q9 =>
  some (.inr (x4, q9))
  else
  (if w32 x4 ≤ w32 x1 then
  some (.inr (x4, μ))
  else
  (ck μ 1 a0).bind fun _ =>
  xb (s_X2_fail a0 x3 μ) (fun e14 => some (.inl e14)) fun q13 =>
  some (.inr (x4, q13))))
theorem w_X2_number_b100 {Z : Zt} {fin : Ex ⊕ (Int × Me)} {w : (Ex ⊕ (Int × Me))} (C : CX Z yX2_number cX2_number (some .int) 2 5) (X : XE Z) {a0 : Nat} {x1 : Int} {x3 : Int} {x4 : Int}  {μ : Me} (h : s_X2_number_b100 a0 x1 x3 x4 μ = some w) (hK : (fun r : Ex ⊕ (Int × Me) => r = fin) w) : WL Z (XQ Z (zoI fin) (zmI fin)) μ 100 [(0, vO a0), (1, vI x1), (3, vI x3), (4, vI x4)] [] := by
  unfold s_X2_number_b100 at h
  refine r_aload_n C 0 dX2_number_100 rfl rfl ?_
  obtain ⟨v7, ev7, h⟩ := bs h
  refine r_getI C (c := 1) (r := (RX2, TX2, 8)) rfl 5 (by decide) rfl ev7 q255 dX2_number_101 ?_
  refine r_iload_n C 2 dX2_number_104 rfl rfl ?_
  refine r_icmp_eq C dX2_number_105 (tgt := 114) (by decide) (fun c8 => ?_) (fun c8 => ?_)
  · have h := it_ h c8
    refine r_aload_n C 0 dX2_number_114 rfl rfl ?_
    refine r_iload_n C 2 dX2_number_115 rfl rfl ?_
    obtain ⟨u11, eu11, h⟩ := bs h
    rcases xbs h with ⟨e10, eq9, h⟩ | ⟨q9, eq9, h⟩
    · refine r_xVx C (As := [vI x3]) (b := a0) (rest := []) (μ1 := e10.2.2) (r := (RX2, TX2, 8)) (ci := 1) rfl eu11 (m_X2_fail C.tr eq9) (lw_V q679 q681 qs9 q121 q682) rfl hdX2_fail rfl rfl (Nat.le_of_ble_eq_true rfl) ⟨by decide, by decide⟩ dX2_number_116 ?_
      cases h
      exact r_xoutI C X hK
    · refine r_xV C (As := [vI x3]) (b := a0) (rest := []) (st1 := []) (v := none) (μ1 := q9) (r := (RX2, TX2, 8)) (ci := 1) rfl eu11 (m_X2_fail C.tr eq9) (lw_V q679 q681 qs9 q121 q682) rfl hdX2_fail rfl rfl (Nat.le_of_ble_eq_true rfl) ⟨by decide, by decide⟩ dX2_number_116 rfl ?_
      refine r_iload C 3 dX2_number_119 rfl ?_
      cases h
      exact r_xiret C hK dX2_number_121
  · have h := ie_ h c8
    refine r_iload C 3 dX2_number_108 rfl ?_
    refine r_iload_n C 1 dX2_number_110 rfl rfl ?_
    refine r_icmp_le C dX2_number_111 (tgt := 119) (by decide) (fun c12 => ?_) (fun c12 => ?_)
    · have h := it_ h c12
      refine r_iload C 3 dX2_number_119 rfl ?_
      cases h
      exact r_xiret C hK dX2_number_121
    · have h := ie_ h c12
      refine r_aload_n C 0 dX2_number_114 rfl rfl ?_
      refine r_iload_n C 2 dX2_number_115 rfl rfl ?_
      obtain ⟨u15, eu15, h⟩ := bs h
      rcases xbs h with ⟨e14, eq13, h⟩ | ⟨q13, eq13, h⟩
      · refine r_xVx C (As := [vI x3]) (b := a0) (rest := []) (μ1 := e14.2.2) (r := (RX2, TX2, 8)) (ci := 1) rfl eu15 (m_X2_fail C.tr eq13) (lw_V q679 q681 qs9 q121 q682) rfl hdX2_fail rfl rfl (Nat.le_of_ble_eq_true rfl) ⟨by decide, by decide⟩ dX2_number_116 ?_
        cases h
        exact r_xoutI C X hK
      · refine r_xV C (As := [vI x3]) (b := a0) (rest := []) (st1 := []) (v := none) (μ1 := q13) (r := (RX2, TX2, 8)) (ci := 1) rfl eu15 (m_X2_fail C.tr eq13) (lw_V q679 q681 qs9 q121 q682) rfl hdX2_fail rfl rfl (Nat.le_of_ble_eq_true rfl) ⟨by decide, by decide⟩ dX2_number_116 rfl ?_
        refine r_iload C 3 dX2_number_119 rfl ?_
        cases h
        exact r_xiret C hK dX2_number_121
noncomputable def s_X2_number_b67 (a0 : Nat) (x1 : Int) (x3 : Int) (x4 : Int)  (μ : Me) : Option ((Int × Me) ⊕ (Ex ⊕ (Int × Me))) :=
  (gR μ 1 a0 0).bind fun v26 =>
  (gI μ 1 a0 5).bind fun v27 =>
  (aI μ 102 v26 v27).bind fun v28 =>
  (gI μ 1 a0 5).bind fun v29 =>
  (pI μ 1 a0 5 (v29 + 1)).bind fun m30 =>
  some (.inl ((((10 * x4) + v28) - 48), m30))
theorem w_X2_number_b67 {Z : Zt} {fin : Ex ⊕ (Int × Me)} {w : ((Int × Me) ⊕ (Ex ⊕ (Int × Me)))} (C : CX Z yX2_number cX2_number (some .int) 2 5) (X : XE Z) {a0 : Nat} {x1 : Int} {x3 : Int} {x4 : Int}  {μ : Me} (h : s_X2_number_b67 a0 x1 x3 x4 μ = some w) (hK : (Sum.elim (fun s : Int × Me => WL Z (XQ Z (zoI fin) (zmI fin)) s.2 13 [(0, vO a0), (1, vI x1), (3, vI x3), (4, vI s.1)] []) (fun r : Ex ⊕ (Int × Me) => r = fin)) w) : WL Z (XQ Z (zoI fin) (zmI fin)) μ 67 [(0, vO a0), (1, vI x1), (3, vI x3), (4, vI x4)] [] := by
  unfold s_X2_number_b67 at h
  refine r_bipush C dX2_number_67 (by decide) ?_
  refine r_iload C 3 dX2_number_69 rfl ?_
  refine r_imul C dX2_number_71 ?_
  refine r_aload_n C 0 dX2_number_72 rfl rfl ?_
  obtain ⟨v26, ev26, h⟩ := bs h
  refine r_getR C (c := 1) (r := (RX2, TX2, 8)) rfl 0 (by decide) rfl ev26 q249 dX2_number_73 ?_
  refine r_aload_n C 0 dX2_number_76 rfl rfl ?_
  obtain ⟨v27, ev27, h⟩ := bs h
  refine r_getI C (c := 1) (r := (RX2, TX2, 8)) rfl 5 (by decide) rfl ev27 q255 dX2_number_77 ?_
  obtain ⟨v28, ev28, h⟩ := bs h
  refine r_bald C ev28 dX2_number_80 ?_
  refine r_iadd C dX2_number_81 ?_
  refine r_bipush C dX2_number_82 (by decide) ?_
  refine r_isub C dX2_number_84 ?_
  refine r_istore C [(4, vI (((10 * x4) + v28) - 48)), (0, vO a0), (1, vI x1), (3, vI x3)] dX2_number_85 (by decide) rfl ?_
  refine r_aload_n C 1 dX2_number_87 rfl rfl ?_
  refine r_dup C dX2_number_88 rfl ?_
  obtain ⟨v29, ev29, h⟩ := bs h
  refine r_getI C (c := 1) (r := (RX2, TX2, 8)) rfl 5 (by decide) rfl ev29 q255 dX2_number_89 ?_
  refine r_iconst C dX2_number_92 ?_
  refine r_iadd C dX2_number_93 ?_
  obtain ⟨m30, em30, h⟩ := bs h
  refine r_putI C (c := 1) (r := (RX2, TX2, 8)) rfl 5 (by decide) rfl ⟨rfl, rfl⟩ rfl em30 q255 dX2_number_94 ?_
  refine r_goto C dX2_number_97 (tgt := 13) (by decide) ?_
  cases h
  refine r_sub [1, 2, 3, 0] rfl ?_
  exact hK
noncomputable def s_X2_number_l13_st (a0 : Nat) (x1 : Int) (x3 : Int) (x4 : Int) (μ : Me) : Option ((Int × Me) ⊕ (Ex ⊕ (Int × Me))) :=
  (gI μ 1 a0 5).bind fun v4 =>
  (gI μ 1 a0 4).bind fun v5 =>
  (if w32 v5 ≤ w32 v4 then
  (s_X2_number_b100 a0 x1 x3 x4 μ).map Sum.inr
  else
  (gR μ 1 a0 0).bind fun v16 =>
  (gI μ 1 a0 5).bind fun v17 =>
  (aI μ 102 v16 v17).bind fun v18 =>
  (if w32 v18 < w32 48 then
  (s_X2_number_b100 a0 x1 x3 x4 μ).map Sum.inr
  else
  (gR μ 1 a0 0).bind fun v20 =>
  (gI μ 1 a0 5).bind fun v21 =>
  (aI μ 102 v20 v21).bind fun v22 =>
  (if w32 57 < w32 v22 then
  (s_X2_number_b100 a0 x1 x3 x4 μ).map Sum.inr
  else
  (gI μ 1 a0 5).bind fun v24 =>
  (if w32 (v24 - x3) = w32 3 then
  (ck μ 1 a0).bind fun _ =>
  xb (s_X2_fail a0 x3 μ) (fun e32 => some (.inr (.inl e32))) fun q31 =>
  s_X2_number_b67 a0 x1 x3 x4 q31
  else
  s_X2_number_b67 a0 x1 x3 x4 μ))))
theorem w_X2_number_l13_st {Z : Zt} {fin : Ex ⊕ (Int × Me)} {w : ((Int × Me) ⊕ (Ex ⊕ (Int × Me)))} (C : CX Z yX2_number cX2_number (some .int) 2 5) (X : XE Z) {a0 : Nat} {x1 : Int} {x3 : Int} {x4 : Int} {μ : Me} (h : s_X2_number_l13_st a0 x1 x3 x4 μ = some w) (hK : (Sum.elim (fun s : Int × Me => WL Z (XQ Z (zoI fin) (zmI fin)) s.2 13 [(0, vO a0), (1, vI x1), (3, vI x3), (4, vI s.1)] []) (fun r : Ex ⊕ (Int × Me) => r = fin)) w) : WL Z (XQ Z (zoI fin) (zmI fin)) μ 13 [(0, vO a0), (1, vI x1), (3, vI x3), (4, vI x4)] [] := by
  unfold s_X2_number_l13_st at h
  refine r_aload_n C 0 dX2_number_13 rfl rfl ?_
  obtain ⟨v4, ev4, h⟩ := bs h
  refine r_getI C (c := 1) (r := (RX2, TX2, 8)) rfl 5 (by decide) rfl ev4 q255 dX2_number_14 ?_
  refine r_aload_n C 0 dX2_number_17 rfl rfl ?_
  obtain ⟨v5, ev5, h⟩ := bs h
  refine r_getI C (c := 1) (r := (RX2, TX2, 8)) rfl 4 (by decide) rfl ev5 q254 dX2_number_18 ?_
  refine r_icmp_ge C dX2_number_21 (tgt := 100) (by decide) (fun c6 => ?_) (fun c6 => ?_)
  · have h := it_ h c6
    obtain ⟨z, hz, ez⟩ := ms_ h; clear h; subst ez; have h := hz; clear hz
    exact w_X2_number_b100 (fin := fin) C X h hK
  · have h := ie_ h c6
    refine r_aload_n C 0 dX2_number_24 rfl rfl ?_
    obtain ⟨v16, ev16, h⟩ := bs h
    refine r_getR C (c := 1) (r := (RX2, TX2, 8)) rfl 0 (by decide) rfl ev16 q249 dX2_number_25 ?_
    refine r_aload_n C 0 dX2_number_28 rfl rfl ?_
    obtain ⟨v17, ev17, h⟩ := bs h
    refine r_getI C (c := 1) (r := (RX2, TX2, 8)) rfl 5 (by decide) rfl ev17 q255 dX2_number_29 ?_
    obtain ⟨v18, ev18, h⟩ := bs h
    refine r_bald C ev18 dX2_number_32 ?_
    refine r_bipush C dX2_number_33 (by decide) ?_
    refine r_icmp_lt C dX2_number_35 (tgt := 100) (by decide) (fun c19 => ?_) (fun c19 => ?_)
    · have h := it_ h c19
      obtain ⟨z, hz, ez⟩ := ms_ h; clear h; subst ez; have h := hz; clear hz
      exact w_X2_number_b100 (fin := fin) C X h hK
    · have h := ie_ h c19
      refine r_aload_n C 0 dX2_number_38 rfl rfl ?_
      obtain ⟨v20, ev20, h⟩ := bs h
      refine r_getR C (c := 1) (r := (RX2, TX2, 8)) rfl 0 (by decide) rfl ev20 q249 dX2_number_39 ?_
      refine r_aload_n C 0 dX2_number_42 rfl rfl ?_
      obtain ⟨v21, ev21, h⟩ := bs h
      refine r_getI C (c := 1) (r := (RX2, TX2, 8)) rfl 5 (by decide) rfl ev21 q255 dX2_number_43 ?_
      obtain ⟨v22, ev22, h⟩ := bs h
      refine r_bald C ev22 dX2_number_46 ?_
      refine r_bipush C dX2_number_47 (by decide) ?_
      refine r_icmp_gt C dX2_number_49 (tgt := 100) (by decide) (fun c23 => ?_) (fun c23 => ?_)
      · have h := it_ h c23
        obtain ⟨z, hz, ez⟩ := ms_ h; clear h; subst ez; have h := hz; clear hz
        exact w_X2_number_b100 (fin := fin) C X h hK
      · have h := ie_ h c23
        refine r_aload_n C 0 dX2_number_52 rfl rfl ?_
        obtain ⟨v24, ev24, h⟩ := bs h
        refine r_getI C (c := 1) (r := (RX2, TX2, 8)) rfl 5 (by decide) rfl ev24 q255 dX2_number_53 ?_
        refine r_iload_n C 2 dX2_number_56 rfl rfl ?_
        refine r_isub C dX2_number_57 ?_
        refine r_iconst C dX2_number_58 ?_
        refine r_icmp_ne C dX2_number_59 (tgt := 67) (by decide) (fun c25 => ?_) (fun c25 => ?_)
        · have h := ie_ h c25
          exact w_X2_number_b67 (fin := fin) C X h hK
        · have h := it_ h c25
          refine r_aload_n C 0 dX2_number_62 rfl rfl ?_
          refine r_iload_n C 2 dX2_number_63 rfl rfl ?_
          obtain ⟨u33, eu33, h⟩ := bs h
          rcases xbs h with ⟨e32, eq31, h⟩ | ⟨q31, eq31, h⟩
          · refine r_xVx C (As := [vI x3]) (b := a0) (rest := []) (μ1 := e32.2.2) (r := (RX2, TX2, 8)) (ci := 1) rfl eu33 (m_X2_fail C.tr eq31) (lw_V q679 q681 qs9 q121 q682) rfl hdX2_fail rfl rfl (Nat.le_of_ble_eq_true rfl) ⟨by decide, by decide⟩ dX2_number_64 ?_
            cases h
            exact r_xoutI C X hK
          · refine r_xV C (As := [vI x3]) (b := a0) (rest := []) (st1 := []) (v := none) (μ1 := q31) (r := (RX2, TX2, 8)) (ci := 1) rfl eu33 (m_X2_fail C.tr eq31) (lw_V q679 q681 qs9 q121 q682) rfl hdX2_fail rfl rfl (Nat.le_of_ble_eq_true rfl) ⟨by decide, by decide⟩ dX2_number_64 rfl ?_
            exact w_X2_number_b67 (fin := fin) C X h hK
noncomputable def s_X2_number_l13 (a0 : Nat) (x1 : Int) (x3 : Int) (x4 : Int) (μ : Me) : Option (Ex ⊕ (Int × Me)) :=
  whileO (fun s : Int × Me => s_X2_number_l13_st a0 x1 x3 s.1 s.2) (x4, μ)
theorem e_X2_number_l13 (a0 : Nat) (x1 : Int) (x3 : Int) (x4 : Int) (μ : Me) : s_X2_number_l13 a0 x1 x3 x4 μ = (s_X2_number_l13_st a0 x1 x3 x4 μ).bind fun x => x.elim (fun s : Int × Me => s_X2_number_l13 a0 x1 x3 s.1 s.2) some := whileO_eq _ _
theorem w_X2_number_l13 {Z : Zt} {fin : Ex ⊕ (Int × Me)} {w : (Ex ⊕ (Int × Me))} (C : CX Z yX2_number cX2_number (some .int) 2 5) (X : XE Z) {a0 : Nat} {x1 : Int} {x3 : Int} {x4 : Int} {μ : Me} (h : s_X2_number_l13 a0 x1 x3 x4 μ = some w) (hK : (fun r : Ex ⊕ (Int × Me) => r = fin) w) : WL Z (XQ Z (zoI fin) (zmI fin)) μ 13 [(0, vO a0), (1, vI x1), (3, vI x3), (4, vI x4)] [] := by
  refine whileO_walk (w := w) (fun s : Int × Me => WL Z (XQ Z (zoI fin) (zmI fin)) s.2 13 [(0, vO a0), (1, vI x1), (3, vI x3), (4, vI s.1)] []) (fun s v h2 hi hr => ?_) (x4, μ) h
  refine w_X2_number_l13_st (fin := fin) C X h2 ?_
  cases v with
  | inl s2 => exact hi s2 rfl
  | inr r => have e := hr r rfl; subst e; exact hK
noncomputable def s_X2_number (a0 : Nat) (x1 : Int) (μ : Me) : Option (Ex ⊕ (Int × Me)) :=
  (ck μ 1 a0).bind fun _ =>
  (s_X2_sign a0 μ).bind fun q1 =>
  (gI q1.2 1 a0 5).bind fun v3 =>
  s_X2_number_l13 a0 x1 v3 0 q1.2
theorem w_X2_number {Z : Zt} {fin : Ex ⊕ (Int × Me)} {w : Ex ⊕ (Int × Me)} (C : CX Z yX2_number cX2_number (some .int) 2 5) (X : XE Z) {a0 : Nat} {x1 : Int} {μ : Me} (h : s_X2_number a0 x1 μ = some w) (hK : w = fin) : WL Z (XQ Z (zoI fin) (zmI fin)) μ 0 [(0, vO a0), (1, vI x1)] [] := by
  unfold s_X2_number at h
  refine r_aload_n C 0 dX2_number_0 rfl rfl ?_
  obtain ⟨u2, eu2, h⟩ := bs h
  obtain ⟨q1, eq1, h⟩ := bs h
  refine r_callV C (As := []) (b := a0) (rest := []) (st1 := [vI q1.1]) (v := some (vI q1.1)) (r := (RX2, TX2, 8)) (ci := 1) rfl eu2 (m_X2_sign C.tr eq1) (lw_V q671 q673 qs7 q121 q674) rfl hdX2_sign rfl rfl (Nat.le_of_ble_eq_true rfl) ⟨by decide, by decide⟩ dX2_number_1 rfl ?_
  refine r_istore_n C [(2, vI q1.1), (0, vO a0), (1, vI x1)] dX2_number_4 rfl (by decide) rfl ?_
  refine r_aload_n C 1 dX2_number_5 rfl rfl ?_
  obtain ⟨v3, ev3, h⟩ := bs h
  refine r_getI C (c := 1) (r := (RX2, TX2, 8)) rfl 5 (by decide) rfl ev3 q255 dX2_number_6 ?_
  refine r_istore_n C [(3, vI v3), (2, vI q1.1), (0, vO a0), (1, vI x1)] dX2_number_9 rfl (by decide) rfl ?_
  refine r_iconst C dX2_number_10 ?_
  refine r_istore C [(4, vI 0), (3, vI v3), (2, vI q1.1), (0, vO a0), (1, vI x1)] dX2_number_11 (by decide) rfl ?_
  refine r_sub [3, 4, 1, 0] rfl ?_
  exact w_X2_number_l13 (fin := fin) C X h hK
theorem hdX2_number : zhd yX2_number 1 := by decide +kernel
theorem m_X2_number {l : Launch} {D : va_G} {b0 : Nat} (hl : l.stackTraces = false) {a0 : Nat} {x1 : Int} {μ : Me} {w : Ex ⊕ (Int × Me)} (h : s_X2_number a0 x1 μ = some w) : XN l D b0 yX2_number (ws_ yX2_number cX2_number 5 (some .int)) 2 [vO a0, vI x1] μ (zoI w) (zmI w) :=
  XN.of hl (by decide +kernel) (Nat.le_of_ble_eq_true rfl) (fun Z C X _ _ => w_X2_number C X h rfl)
noncomputable def s_X12_init (a0 : Nat) (x1 : Int) (μ : Me) : Option (Me) :=
  (s_X3_init a0  μ).bind fun q1 =>
  (pI q1 10 a0 0 x1).bind fun m2 =>
  some m2
theorem w_X12_init {Z : Zt} {fin : Me} {w : Me} (C : CX Z yX12_init cX12_init none 2 2) {a0 : Nat} {x1 : Int} {μ : Me} (h : s_X12_init a0 x1 μ = some w) (hK : w = fin) : WL Z (QN Z none fin) μ 0 [(0, vO a0), (1, vI x1)] [] := by
  unfold s_X12_init at h
  refine r_aload_n C 0 dX12_init_0 rfl rfl ?_
  obtain ⟨q1, eq1, h⟩ := bs h
  refine r_callIN C (As := []) (b := a0) (rest := []) (st1 := []) (v := none) (m_X3_init C.tr eq1) (lw_n q692 rfl) q171 q122 q170 rfl hdX3_init rfl rfl (Nat.le_of_ble_eq_true rfl) ⟨by decide, by decide⟩ dX12_init_1 rfl ?_
  refine r_aload_n C 0 dX12_init_4 rfl rfl ?_
  refine r_iload_n C 1 dX12_init_5 rfl rfl ?_
  obtain ⟨m2, em2, h⟩ := bs h
  refine r_putIF C (c := 10) (r := (RX12, TX12, 1)) rfl 0 (by decide) rfl ⟨rfl, rfl⟩ rfl rfl rfl em2 q693 dX12_init_6 ?_
  cases h
  exact r_vret C hK dX12_init_9
theorem hdX12_init : zhd yX12_init 1 := by decide +kernel
theorem m_X12_init {l : Launch} {D : va_G} {b0 : Nat} (hl : l.stackTraces = false) {a0 : Nat} {x1 : Int} {μ : Me} {w : Me} (h : s_X12_init a0 x1 μ = some w) : MN l D b0 yX12_init (ws_ yX12_init cX12_init 2 none) 2 [vO a0, vI x1] μ none w :=
  MN.of hl (by decide +kernel) (Nat.le_of_ble_eq_true rfl) (fun Z C _ _ => w_X12_init C h rfl)
noncomputable def s_X2_enters (a0 : Nat) (x1 : Int) (μ : Me) : Option (Ex ⊕ Me) :=
  (gI μ 1 a0 6).bind fun v1 =>
  (if w32 v1 = w32 6 then
  (ck μ 1 a0).bind fun _ =>
  xb (s_X2_fail a0 x1 μ) (fun e6 => some (.inl e6)) fun q5 =>
  (gI q5 1 a0 6).bind fun v8 =>
  (pI q5 1 a0 6 (v8 + 1)).bind fun m9 =>
  some (.inr m9)
  else
  (gI μ 1 a0 6).bind fun v3 =>
  (pI μ 1 a0 6 (v3 + 1)).bind fun m4 =>
  some (.inr m4))
theorem w_X2_enters {Z : Zt} {fin : Ex ⊕ Me} {w : Ex ⊕ Me} (C : CX Z yX2_enters cX2_enters none 2 2) (X : XE Z) {a0 : Nat} {x1 : Int} {μ : Me} (h : s_X2_enters a0 x1 μ = some w) (hK : w = fin) : WL Z (XQ Z (zoV fin) (zmV fin)) μ 0 [(0, vO a0), (1, vI x1)] [] := by
  unfold s_X2_enters at h
  refine r_aload_n C 0 dX2_enters_0 rfl rfl ?_
  obtain ⟨v1, ev1, h⟩ := bs h
  refine r_getI C (c := 1) (r := (RX2, TX2, 8)) rfl 6 (by decide) rfl ev1 q256 dX2_enters_1 ?_
  refine r_bipush C dX2_enters_4 (by decide) ?_
  refine r_icmp_ne C dX2_enters_6 (tgt := 14) (by decide) (fun c2 => ?_) (fun c2 => ?_)
  · have h := ie_ h c2
    refine r_aload_n C 0 dX2_enters_14 rfl rfl ?_
    refine r_dup C dX2_enters_15 rfl ?_
    obtain ⟨v3, ev3, h⟩ := bs h
    refine r_getI C (c := 1) (r := (RX2, TX2, 8)) rfl 6 (by decide) rfl ev3 q256 dX2_enters_16 ?_
    refine r_iconst C dX2_enters_19 ?_
    refine r_iadd C dX2_enters_20 ?_
    obtain ⟨m4, em4, h⟩ := bs h
    refine r_putI C (c := 1) (r := (RX2, TX2, 8)) rfl 6 (by decide) rfl ⟨rfl, rfl⟩ rfl em4 q256 dX2_enters_21 ?_
    cases h
    exact r_xvret C hK dX2_enters_24
  · have h := it_ h c2
    refine r_aload_n C 0 dX2_enters_9 rfl rfl ?_
    refine r_iload_n C 1 dX2_enters_10 rfl rfl ?_
    obtain ⟨u7, eu7, h⟩ := bs h
    rcases xbs h with ⟨e6, eq5, h⟩ | ⟨q5, eq5, h⟩
    · refine r_xVx C (As := [vI x1]) (b := a0) (rest := []) (μ1 := e6.2.2) (r := (RX2, TX2, 8)) (ci := 1) rfl eu7 (m_X2_fail C.tr eq5) (lw_V q679 q681 qs9 q121 q682) rfl hdX2_fail rfl rfl (Nat.le_of_ble_eq_true rfl) ⟨by decide, by decide⟩ dX2_enters_11 ?_
      cases h
      exact r_xoutV C X hK
    · refine r_xV C (As := [vI x1]) (b := a0) (rest := []) (st1 := []) (v := none) (μ1 := q5) (r := (RX2, TX2, 8)) (ci := 1) rfl eu7 (m_X2_fail C.tr eq5) (lw_V q679 q681 qs9 q121 q682) rfl hdX2_fail rfl rfl (Nat.le_of_ble_eq_true rfl) ⟨by decide, by decide⟩ dX2_enters_11 rfl ?_
      refine r_aload_n C 0 dX2_enters_14 rfl rfl ?_
      refine r_dup C dX2_enters_15 rfl ?_
      obtain ⟨v8, ev8, h⟩ := bs h
      refine r_getI C (c := 1) (r := (RX2, TX2, 8)) rfl 6 (by decide) rfl ev8 q256 dX2_enters_16 ?_
      refine r_iconst C dX2_enters_19 ?_
      refine r_iadd C dX2_enters_20 ?_
      obtain ⟨m9, em9, h⟩ := bs h
      refine r_putI C (c := 1) (r := (RX2, TX2, 8)) rfl 6 (by decide) rfl ⟨rfl, rfl⟩ rfl em9 q256 dX2_enters_21 ?_
      cases h
      exact r_xvret C hK dX2_enters_24
theorem hdX2_enters : zhd yX2_enters 1 := by decide +kernel
theorem m_X2_enters {l : Launch} {D : va_G} {b0 : Nat} (hl : l.stackTraces = false) {a0 : Nat} {x1 : Int} {μ : Me} {w : Ex ⊕ Me} (h : s_X2_enters a0 x1 μ = some w) : XN l D b0 yX2_enters (ws_ yX2_enters cX2_enters 2 none) 2 [vO a0, vI x1] μ (zoV w) (zmV w) :=
  XN.of hl (by decide +kernel) (Nat.le_of_ble_eq_true rfl) (fun Z C X _ _ => w_X2_enters C X h rfl)
noncomputable def s_X13_init (a0 : Nat) (a1 : Nat) (μ : Me) : Option (Me) :=
  (s_X3_init a0  μ).bind fun q1 =>
  (pR q1 11 a0 0 a1).bind fun m2 =>
  some m2
theorem w_X13_init {Z : Zt} {fin : Me} {w : Me} (C : CX Z yX13_init cX13_init none 2 2) {a0 : Nat} {a1 : Nat} {μ : Me} (h : s_X13_init a0 a1 μ = some w) (hK : w = fin) : WL Z (QN Z none fin) μ 0 [(0, vO a0), (1, vO a1)] [] := by
  unfold s_X13_init at h
  refine r_aload_n C 0 dX13_init_0 rfl rfl ?_
  obtain ⟨q1, eq1, h⟩ := bs h
  refine r_callIN C (As := []) (b := a0) (rest := []) (st1 := []) (v := none) (m_X3_init C.tr eq1) (lw_n q706 rfl) q171 q122 q170 rfl hdX3_init rfl rfl (Nat.le_of_ble_eq_true rfl) ⟨by decide, by decide⟩ dX13_init_1 rfl ?_
  refine r_aload_n C 0 dX13_init_4 rfl rfl ?_
  refine r_aload_n C 1 dX13_init_5 rfl rfl ?_
  obtain ⟨m2, em2, h⟩ := bs h
  refine r_putRF C (c := 11) (r := (RX13, TX13, 1)) rfl 0 (by decide) rfl rfl rfl rfl em2 q707 dX13_init_6 ?_
  cases h
  exact r_vret C hK dX13_init_9
theorem hdX13_init : zhd yX13_init 1 := by decide +kernel
theorem m_X13_init {l : Launch} {D : va_G} {b0 : Nat} (hl : l.stackTraces = false) {a0 : Nat} {a1 : Nat} {μ : Me} {w : Me} (h : s_X13_init a0 a1 μ = some w) : MN l D b0 yX13_init (ws_ yX13_init cX13_init 2 none) 2 [vO a0, vO a1] μ none w :=
  MN.of hl (by decide +kernel) (Nat.le_of_ble_eq_true rfl) (fun Z C _ _ => w_X13_init C h rfl)
noncomputable def s_X2_expect (a0 : Nat) (x1 : Int) (μ : Me) : Option (Ex ⊕ Me) :=
  (ck μ 1 a0).bind fun _ =>
  (s_X2_sign a0 μ).bind fun q1 =>
  (if w32 q1.1 = w32 x1 then
  (gI q1.2 1 a0 5).bind fun v4 =>
  (pI q1.2 1 a0 5 (v4 + 1)).bind fun m5 =>
  some (.inr m5)
  else
  (gI q1.2 1 a0 5).bind fun v6 =>
  (ck q1.2 1 a0).bind fun _ =>
  xb (s_X2_fail a0 v6 q1.2) (fun e8 => some (.inl e8)) fun q7 =>
  (gI q7 1 a0 5).bind fun v10 =>
  (pI q7 1 a0 5 (v10 + 1)).bind fun m11 =>
  some (.inr m11))
theorem w_X2_expect {Z : Zt} {fin : Ex ⊕ Me} {w : Ex ⊕ Me} (C : CX Z yX2_expect cX2_expect none 2 2) (X : XE Z) {a0 : Nat} {x1 : Int} {μ : Me} (h : s_X2_expect a0 x1 μ = some w) (hK : w = fin) : WL Z (XQ Z (zoV fin) (zmV fin)) μ 0 [(0, vO a0), (1, vI x1)] [] := by
  unfold s_X2_expect at h
  refine r_aload_n C 0 dX2_expect_0 rfl rfl ?_
  obtain ⟨u2, eu2, h⟩ := bs h
  obtain ⟨q1, eq1, h⟩ := bs h
  refine r_callV C (As := []) (b := a0) (rest := []) (st1 := [vI q1.1]) (v := some (vI q1.1)) (r := (RX2, TX2, 8)) (ci := 1) rfl eu2 (m_X2_sign C.tr eq1) (lw_V q671 q673 qs7 q121 q674) rfl hdX2_sign rfl rfl (Nat.le_of_ble_eq_true rfl) ⟨by decide, by decide⟩ dX2_expect_1 rfl ?_
  refine r_iload_n C 1 dX2_expect_4 rfl rfl ?_
  refine r_icmp_eq C dX2_expect_5 (tgt := 16) (by decide) (fun c3 => ?_) (fun c3 => ?_)
  · have h := it_ h c3
    refine r_aload_n C 0 dX2_expect_16 rfl rfl ?_
    refine r_dup C dX2_expect_17 rfl ?_
    obtain ⟨v4, ev4, h⟩ := bs h
    refine r_getI C (c := 1) (r := (RX2, TX2, 8)) rfl 5 (by decide) rfl ev4 q255 dX2_expect_18 ?_
    refine r_iconst C dX2_expect_21 ?_
    refine r_iadd C dX2_expect_22 ?_
    obtain ⟨m5, em5, h⟩ := bs h
    refine r_putI C (c := 1) (r := (RX2, TX2, 8)) rfl 5 (by decide) rfl ⟨rfl, rfl⟩ rfl em5 q255 dX2_expect_23 ?_
    cases h
    exact r_xvret C hK dX2_expect_26
  · have h := ie_ h c3
    refine r_aload_n C 0 dX2_expect_8 rfl rfl ?_
    refine r_aload_n C 0 dX2_expect_9 rfl rfl ?_
    obtain ⟨v6, ev6, h⟩ := bs h
    refine r_getI C (c := 1) (r := (RX2, TX2, 8)) rfl 5 (by decide) rfl ev6 q255 dX2_expect_10 ?_
    obtain ⟨u9, eu9, h⟩ := bs h
    rcases xbs h with ⟨e8, eq7, h⟩ | ⟨q7, eq7, h⟩
    · refine r_xVx C (As := [vI v6]) (b := a0) (rest := []) (μ1 := e8.2.2) (r := (RX2, TX2, 8)) (ci := 1) rfl eu9 (m_X2_fail C.tr eq7) (lw_V q679 q681 qs9 q121 q682) rfl hdX2_fail rfl rfl (Nat.le_of_ble_eq_true rfl) ⟨by decide, by decide⟩ dX2_expect_13 ?_
      cases h
      exact r_xoutV C X hK
    · refine r_xV C (As := [vI v6]) (b := a0) (rest := []) (st1 := []) (v := none) (μ1 := q7) (r := (RX2, TX2, 8)) (ci := 1) rfl eu9 (m_X2_fail C.tr eq7) (lw_V q679 q681 qs9 q121 q682) rfl hdX2_fail rfl rfl (Nat.le_of_ble_eq_true rfl) ⟨by decide, by decide⟩ dX2_expect_13 rfl ?_
      refine r_aload_n C 0 dX2_expect_16 rfl rfl ?_
      refine r_dup C dX2_expect_17 rfl ?_
      obtain ⟨v10, ev10, h⟩ := bs h
      refine r_getI C (c := 1) (r := (RX2, TX2, 8)) rfl 5 (by decide) rfl ev10 q255 dX2_expect_18 ?_
      refine r_iconst C dX2_expect_21 ?_
      refine r_iadd C dX2_expect_22 ?_
      obtain ⟨m11, em11, h⟩ := bs h
      refine r_putI C (c := 1) (r := (RX2, TX2, 8)) rfl 5 (by decide) rfl ⟨rfl, rfl⟩ rfl em11 q255 dX2_expect_23 ?_
      cases h
      exact r_xvret C hK dX2_expect_26
theorem hdX2_expect : zhd yX2_expect 1 := by decide +kernel
theorem m_X2_expect {l : Launch} {D : va_G} {b0 : Nat} (hl : l.stackTraces = false) {a0 : Nat} {x1 : Int} {μ : Me} {w : Ex ⊕ Me} (h : s_X2_expect a0 x1 μ = some w) : XN l D b0 yX2_expect (ws_ yX2_expect cX2_expect 2 none) 2 [vO a0, vI x1] μ (zoV w) (zmV w) :=
  XN.of hl (by decide +kernel) (Nat.le_of_ble_eq_true rfl) (fun Z C X _ _ => w_X2_expect C X h rfl)
noncomputable def s_X2_takesF_b61 (a0 : Nat) (t0 : Int) (μ : Me) : Option (Int × Me) :=
  (if w32 t0 = 0 then
  (bz2 t0).bind fun _ =>
  some (t0, μ)
  else
  (gI μ 1 a0 5).bind fun v6 =>
  (pI μ 1 a0 5 (v6 + 1)).bind fun m7 =>
  (bz2 t0).bind fun _ =>
  some (t0, m7))
theorem w_X2_takesF_b61 {Z : Zt} {fin : Int × Me} {w : (Int × Me)} (C : CX Z yX2_takesF cX2_takesF (some .boolean) 2 3) {a0 : Nat} {t0 : Int} {μ : Me} (h : s_X2_takesF_b61 a0 t0 μ = some w) (hK : (fun r : Int × Me => r = fin) w) : WL Z (QN Z (some (vI fin.1)) fin.2) μ 61 [(0, vO a0)] [vI t0] := by
  unfold s_X2_takesF_b61 at h
  refine r_istore_n C [(2, vI t0), (0, vO a0)] dX2_takesF_61 rfl (by decide) rfl ?_
  refine r_iload_n C 0 dX2_takesF_62 rfl rfl ?_
  refine r_if_eq C dX2_takesF_63 (tgt := 76) (by decide) (fun c4 => ?_) (fun c4 => ?_)
  · have h := it_ h c4
    refine r_iload_n C 0 dX2_takesF_76 rfl rfl ?_
    obtain ⟨u5, eu5, h⟩ := bs h
    cases h
    exact r_zret C (bz2_ok eu5) hK dX2_takesF_77
  · have h := ie_ h c4
    refine r_aload_n C 1 dX2_takesF_66 rfl rfl ?_
    refine r_dup C dX2_takesF_67 rfl ?_
    obtain ⟨v6, ev6, h⟩ := bs h
    refine r_getI C (c := 1) (r := (RX2, TX2, 8)) rfl 5 (by decide) rfl ev6 q255 dX2_takesF_68 ?_
    refine r_iconst C dX2_takesF_71 ?_
    refine r_iadd C dX2_takesF_72 ?_
    obtain ⟨m7, em7, h⟩ := bs h
    refine r_putI C (c := 1) (r := (RX2, TX2, 8)) rfl 5 (by decide) rfl ⟨rfl, rfl⟩ rfl em7 q255 dX2_takesF_73 ?_
    refine r_iload_n C 0 dX2_takesF_76 rfl rfl ?_
    obtain ⟨u8, eu8, h⟩ := bs h
    cases h
    exact r_zret C (bz2_ok eu8) hK dX2_takesF_77
noncomputable def s_X2_takesF_b60 (a0 : Nat)  (μ : Me) : Option (Int × Me) :=
  s_X2_takesF_b61 a0 0 μ
theorem w_X2_takesF_b60 {Z : Zt} {fin : Int × Me} {w : (Int × Me)} (C : CX Z yX2_takesF cX2_takesF (some .boolean) 2 3) {a0 : Nat}  {μ : Me} (h : s_X2_takesF_b60 a0 μ = some w) (hK : (fun r : Int × Me => r = fin) w) : WL Z (QN Z (some (vI fin.1)) fin.2) μ 60 [(0, vO a0)] [] := by
  unfold s_X2_takesF_b60 at h
  refine r_iconst C dX2_takesF_60 ?_
  exact w_X2_takesF_b61 (fin := fin) C h hK
noncomputable def s_X2_takesF_b56 (a0 : Nat)  (μ : Me) : Option (Int × Me) :=
  s_X2_takesF_b61 a0 1 μ
theorem w_X2_takesF_b56 {Z : Zt} {fin : Int × Me} {w : (Int × Me)} (C : CX Z yX2_takesF cX2_takesF (some .boolean) 2 3) {a0 : Nat}  {μ : Me} (h : s_X2_takesF_b56 a0 μ = some w) (hK : (fun r : Int × Me => r = fin) w) : WL Z (QN Z (some (vI fin.1)) fin.2) μ 56 [(0, vO a0)] [] := by
  unfold s_X2_takesF_b56 at h
  refine r_iconst C dX2_takesF_56 ?_
  refine r_goto C dX2_takesF_57 (tgt := 61) (by decide) ?_
  exact w_X2_takesF_b61 (fin := fin) C h hK
noncomputable def s_X2_takesF (a0 : Nat) (μ : Me) : Option (Int × Me) :=
  (ck μ 1 a0).bind fun _ =>
  (s_X2_sign a0 μ).bind fun q1 =>
  (if w32 q1.1 = w32 102 then
  (gI q1.2 1 a0 5).bind fun v9 =>
  (gI q1.2 1 a0 4).bind fun v10 =>
  (if w32 (v9 + 1) = w32 v10 then
  s_X2_takesF_b56 a0 q1.2
  else
  (gR q1.2 1 a0 0).bind fun v12 =>
  (gI q1.2 1 a0 5).bind fun v13 =>
  (aI q1.2 102 v12 (v13 + 1)).bind fun v14 =>
  (if w32 v14 < w32 97 then
  s_X2_takesF_b56 a0 q1.2
  else
  (gR q1.2 1 a0 0).bind fun v16 =>
  (gI q1.2 1 a0 5).bind fun v17 =>
  (aI q1.2 102 v16 (v17 + 1)).bind fun v18 =>
  (if w32 v18 ≤ w32 122 then
  s_X2_takesF_b60 a0 q1.2
  else
  s_X2_takesF_b56 a0 q1.2)))
  else
  s_X2_takesF_b60 a0 q1.2)
theorem w_X2_takesF {Z : Zt} {fin : Int × Me} {w : Int × Me} (C : CX Z yX2_takesF cX2_takesF (some .boolean) 2 3) {a0 : Nat} {μ : Me} (h : s_X2_takesF a0 μ = some w) (hK : w = fin) : WL Z (QN Z (some (vI fin.1)) fin.2) μ 0 [(0, vO a0)] [] := by
  unfold s_X2_takesF at h
  refine r_aload_n C 0 dX2_takesF_0 rfl rfl ?_
  obtain ⟨u2, eu2, h⟩ := bs h
  obtain ⟨q1, eq1, h⟩ := bs h
  refine r_callV C (As := []) (b := a0) (rest := []) (st1 := [vI q1.1]) (v := some (vI q1.1)) (r := (RX2, TX2, 8)) (ci := 1) rfl eu2 (m_X2_sign C.tr eq1) (lw_V q671 q673 qs7 q121 q674) rfl hdX2_sign rfl rfl (Nat.le_of_ble_eq_true rfl) ⟨by decide, by decide⟩ dX2_takesF_1 rfl ?_
  refine r_istore_n C [(1, vI q1.1), (0, vO a0)] dX2_takesF_4 rfl (by decide) rfl ?_
  refine r_iload_n C 0 dX2_takesF_5 rfl rfl ?_
  refine r_bipush C dX2_takesF_6 (by decide) ?_
  refine r_icmp_ne C dX2_takesF_8 (tgt := 60) (by decide) (fun c3 => ?_) (fun c3 => ?_)
  · have h := ie_ h c3
    refine r_sub [1] rfl ?_
    exact w_X2_takesF_b60 (fin := fin) C h hK
  · have h := it_ h c3
    refine r_aload_n C 1 dX2_takesF_11 rfl rfl ?_
    obtain ⟨v9, ev9, h⟩ := bs h
    refine r_getI C (c := 1) (r := (RX2, TX2, 8)) rfl 5 (by decide) rfl ev9 q255 dX2_takesF_12 ?_
    refine r_iconst C dX2_takesF_15 ?_
    refine r_iadd C dX2_takesF_16 ?_
    refine r_aload_n C 1 dX2_takesF_17 rfl rfl ?_
    obtain ⟨v10, ev10, h⟩ := bs h
    refine r_getI C (c := 1) (r := (RX2, TX2, 8)) rfl 4 (by decide) rfl ev10 q254 dX2_takesF_18 ?_
    refine r_icmp_eq C dX2_takesF_21 (tgt := 56) (by decide) (fun c11 => ?_) (fun c11 => ?_)
    · have h := it_ h c11
      refine r_sub [1] rfl ?_
      exact w_X2_takesF_b56 (fin := fin) C h hK
    · have h := ie_ h c11
      refine r_aload_n C 1 dX2_takesF_24 rfl rfl ?_
      obtain ⟨v12, ev12, h⟩ := bs h
      refine r_getR C (c := 1) (r := (RX2, TX2, 8)) rfl 0 (by decide) rfl ev12 q249 dX2_takesF_25 ?_
      refine r_aload_n C 1 dX2_takesF_28 rfl rfl ?_
      obtain ⟨v13, ev13, h⟩ := bs h
      refine r_getI C (c := 1) (r := (RX2, TX2, 8)) rfl 5 (by decide) rfl ev13 q255 dX2_takesF_29 ?_
      refine r_iconst C dX2_takesF_32 ?_
      refine r_iadd C dX2_takesF_33 ?_
      obtain ⟨v14, ev14, h⟩ := bs h
      refine r_bald C ev14 dX2_takesF_34 ?_
      refine r_bipush C dX2_takesF_35 (by decide) ?_
      refine r_icmp_lt C dX2_takesF_37 (tgt := 56) (by decide) (fun c15 => ?_) (fun c15 => ?_)
      · have h := it_ h c15
        refine r_sub [1] rfl ?_
        exact w_X2_takesF_b56 (fin := fin) C h hK
      · have h := ie_ h c15
        refine r_aload_n C 1 dX2_takesF_40 rfl rfl ?_
        obtain ⟨v16, ev16, h⟩ := bs h
        refine r_getR C (c := 1) (r := (RX2, TX2, 8)) rfl 0 (by decide) rfl ev16 q249 dX2_takesF_41 ?_
        refine r_aload_n C 1 dX2_takesF_44 rfl rfl ?_
        obtain ⟨v17, ev17, h⟩ := bs h
        refine r_getI C (c := 1) (r := (RX2, TX2, 8)) rfl 5 (by decide) rfl ev17 q255 dX2_takesF_45 ?_
        refine r_iconst C dX2_takesF_48 ?_
        refine r_iadd C dX2_takesF_49 ?_
        obtain ⟨v18, ev18, h⟩ := bs h
        refine r_bald C ev18 dX2_takesF_50 ?_
        refine r_bipush C dX2_takesF_51 (by decide) ?_
        refine r_icmp_le C dX2_takesF_53 (tgt := 60) (by decide) (fun c19 => ?_) (fun c19 => ?_)
        · have h := it_ h c19
          refine r_sub [1] rfl ?_
          exact w_X2_takesF_b60 (fin := fin) C h hK
        · have h := ie_ h c19
          refine r_sub [1] rfl ?_
          exact w_X2_takesF_b56 (fin := fin) C h hK
theorem hdX2_takesF : zhd yX2_takesF 0 := by decide +kernel
theorem m_X2_takesF {l : Launch} {D : va_G} {b0 : Nat} (hl : l.stackTraces = false) {a0 : Nat} {μ : Me} {w : Int × Me} (h : s_X2_takesF a0 μ = some w) : MN l D b0 yX2_takesF (ws_ yX2_takesF cX2_takesF 3 (some .boolean)) 2 [vO a0] μ (some (vI w.1)) w.2 :=
  MN.of hl (by decide +kernel) (Nat.le_of_ble_eq_true rfl) (fun Z C _ _ => w_X2_takesF C h rfl)
theorem at_X1_mustBe_4 : ∀ w ∈ vx_at0 "LetterForms" 90 (exn 3) nm9, w ∈ lw_tbl ∧ (goodWord w || zNest w) = true := lw_pl _ [124, 197, 206, 214, 217, 219, 198, 199, 156, 157, 200, 205, 215, 236, 187, 237, 189, 238, 191, 201, 203, 193, 816, 817, 818, 573, 178, 573, 574, 575, 576, 180, 576, 577, 578, 198, 182, 815, 807, 808, 809, 211, 810, 811, 812, 813, 196, 195, 814] (by decide +kernel) (by decide +kernel)
noncomputable def s_X1_mustBe (x0 : Int) (μ : Me) : Option (Ex ⊕ Me) :=
  (if w32 x0 = 0 then
  (tE μ 3).bind fun e2 =>
  some (.inl e2)
  else
  some (.inr μ))
theorem w_X1_mustBe {Z : Zt} {fin : Ex ⊕ Me} {w : Ex ⊕ Me} (C : CX Z yX1_mustBe cX1_mustBe none 6 1) (X : XE Z) {x0 : Int} {μ : Me} (h : s_X1_mustBe x0 μ = some w) (hK : w = fin) : WL Z (XQ Z (zoV fin) (zmV fin)) μ 0 [(0, vI x0)] [] := by
  unfold s_X1_mustBe at h
  refine r_iload_n C 0 dX1_mustBe_0 rfl rfl ?_
  refine r_if_ne C dX1_mustBe_1 (tgt := 12) (by decide) (fun c1 => ?_) (fun c1 => ?_)
  · have h := ie_ h c1
    cases h
    exact r_xvret C hK dX1_mustBe_12
  · have h := it_ h c1
    obtain ⟨e2, ee2, h⟩ := bs h
    cases h
    exact r_throwV C ee2 hK (by decide +kernel) q806 q145 at_X1_mustBe_4 (by decide) (Nat.le_of_ble_eq_true rfl) dX1_mustBe_4 dX1_mustBe_7 dX1_mustBe_8 dX1_mustBe_11 X.out
theorem hdX1_mustBe : zhd yX1_mustBe 1 := by decide +kernel
theorem m_X1_mustBe {l : Launch} {D : va_G} {b0 : Nat} (hl : l.stackTraces = false) {x0 : Int} {μ : Me} {w : Ex ⊕ Me} (h : s_X1_mustBe x0 μ = some w) : XN l D b0 yX1_mustBe (ws_ yX1_mustBe cX1_mustBe 1 none) 6 [vI x0] μ (zoV w) (zmV w) :=
  XN.of hl (by decide +kernel) (Nat.le_of_ble_eq_true rfl) (fun Z C X _ _ => w_X1_mustBe C X h rfl)
noncomputable def s_X1_formAt (a0 : Nat) (x1 : Int) (μ : Me) : Option (Ex ⊕ (Nat × Me)) :=
  (gR μ 0 a0 2).bind fun v1 =>
  (gI μ 7 v1 5).bind fun v2 =>
  (s_X1_isIn (w32 x1) 0 (w32 (v2 - 1)) μ).bind fun q3 =>
  xb (s_X1_mustBe q3.1 q3.2) (fun e5 => some (.inl e5)) fun q4 =>
  (gR q4 0 a0 2).bind fun v6 =>
  (gR q4 7 v6 0).bind fun v7 =>
  (aR q4 104 v7 x1).bind fun v8 =>
  some (.inr (v8, q4))
theorem w_X1_formAt {Z : Zt} {fin : Ex ⊕ (Nat × Me)} {w : Ex ⊕ (Nat × Me)} (C : CX Z yX1_formAt cX1_formAt (some (.object "LetterForms$Form")) 7 2) (X : XE Z) {a0 : Nat} {x1 : Int} {μ : Me} (h : s_X1_formAt a0 x1 μ = some w) (hK : w = fin) : WL Z (XQ Z (zoA fin) (zmI fin)) μ 0 [(0, vO a0), (1, vI x1)] [] := by
  unfold s_X1_formAt at h
  refine r_iload_n C 1 dX1_formAt_0 rfl rfl ?_
  refine r_i2l C dX1_formAt_1 ?_
  refine r_lconst (v := 0) C dX1_formAt_2 (by decide) ?_
  refine r_aload_n C 0 dX1_formAt_3 rfl rfl ?_
  obtain ⟨v1, ev1, h⟩ := bs h
  refine r_getR C (c := 0) (r := (RX1, TX1, 19)) rfl 2 (by decide) rfl ev1 q426 dX1_formAt_4 ?_
  obtain ⟨v2, ev2, h⟩ := bs h
  refine r_getIN C (c := 7) (r := (RX9, TX9, 10)) rfl 5 (by decide) rfl ev2 (lw_n q388 rfl) dX1_formAt_7 ?_
  refine r_iconst C dX1_formAt_10 ?_
  refine r_isub C dX1_formAt_11 ?_
  refine r_i2l C dX1_formAt_12 ?_
  obtain ⟨q3, eq3, h⟩ := bs h
  refine r_callS C (As := [vJ (w32 x1), vJ 0, vJ (w32 (v2 - 1))]) (rest := []) (st1 := [vI q3.1]) (v := some (vI q3.1)) (m_X1_isIn C.tr eq3) (lw_S q499 q500 q120 q501) hdX1_isIn rfl rfl (Nat.le_of_ble_eq_true rfl) ⟨by decide, by decide⟩ dX1_formAt_13 rfl ?_
  rcases xbs h with ⟨e5, eq4, h⟩ | ⟨q4, eq4, h⟩
  · refine r_xSx C (As := [vI q3.1]) (rest := []) (μ1 := e5.2.2) (m_X1_mustBe C.tr eq4) (lw_S q803 q804 q120 q805) hdX1_mustBe rfl rfl (Nat.le_of_ble_eq_true rfl) ⟨by decide, by decide⟩ dX1_formAt_16 ?_
    cases h
    exact r_xoutA C X hK
  · refine r_xS C (As := [vI q3.1]) (rest := []) (st1 := []) (v := none) (μ1 := q4) (m_X1_mustBe C.tr eq4) (lw_S q803 q804 q120 q805) hdX1_mustBe rfl rfl (Nat.le_of_ble_eq_true rfl) ⟨by decide, by decide⟩ dX1_formAt_16 rfl ?_
    refine r_aload_n C 0 dX1_formAt_19 rfl rfl ?_
    obtain ⟨v6, ev6, h⟩ := bs h
    refine r_getR C (c := 0) (r := (RX1, TX1, 19)) rfl 2 (by decide) rfl ev6 q426 dX1_formAt_20 ?_
    obtain ⟨v7, ev7, h⟩ := bs h
    refine r_getRN C (c := 7) (r := (RX9, TX9, 10)) rfl 0 (by decide) rfl ev7 (lw_n q378 rfl) dX1_formAt_23 ?_
    refine r_iload_n C 1 dX1_formAt_26 rfl rfl ?_
    obtain ⟨v8, ev8, h⟩ := bs h
    refine r_aald C (kt := 3) ev8 rfl rfl ⟨by decide, by decide⟩ dX1_formAt_27 ?_
    cases h
    exact r_xaret C (Or.inl ⟨_, rfl⟩) hK dX1_formAt_28
theorem hdX1_formAt : zhd yX1_formAt 1 := by decide +kernel
theorem m_X1_formAt {l : Launch} {D : va_G} {b0 : Nat} (hl : l.stackTraces = false) {a0 : Nat} {x1 : Int} {μ : Me} {w : Ex ⊕ (Nat × Me)} (h : s_X1_formAt a0 x1 μ = some w) : XN l D b0 yX1_formAt (ws_ yX1_formAt cX1_formAt 2 (some (.object "LetterForms$Form"))) 7 [vO a0, vI x1] μ (zoA w) (zmI w) :=
  XN.of hl (by decide +kernel) (Nat.le_of_ble_eq_true rfl) (fun Z C X _ _ => w_X1_formAt C X h rfl)
noncomputable def s_X1_tells (a0 : Nat) (x1 : Int) (μ : Me) : Option (Int × Me) :=
  (if w32 x1 = w32 (-1) then
  (gI μ 6 a0 1).bind fun v7 =>
  some (v7, μ)
  else
  (gI μ 6 a0 1).bind fun v2 =>
  (s_X1_isIn (w32 x1) 0 (w32 v2) μ).bind fun q3 =>
  (if w32 q3.1 = 0 then
  some ((-1), q3.2)
  else
  (gR q3.2 6 a0 0).bind fun v5 =>
  (aI q3.2 101 v5 x1).bind fun v6 =>
  some (v6, q3.2)))
theorem w_X1_tells {Z : Zt} {fin : Int × Me} {w : Int × Me} (C : CX Z yX1_tells cX1_tells (some .int) 2 2) {a0 : Nat} {x1 : Int} {μ : Me} (h : s_X1_tells a0 x1 μ = some w) (hK : w = fin) : WL Z (QN Z (some (vI fin.1)) fin.2) μ 0 [(0, vO a0), (1, vI x1)] [] := by
  unfold s_X1_tells at h
  refine r_iload_n C 1 dX1_tells_0 rfl rfl ?_
  refine r_iconst C dX1_tells_1 ?_
  refine r_icmp_ne C dX1_tells_2 (tgt := 12) (by decide) (fun c1 => ?_) (fun c1 => ?_)
  · have h := ie_ h c1
    refine r_iload_n C 1 dX1_tells_12 rfl rfl ?_
    refine r_i2l C dX1_tells_13 ?_
    refine r_lconst (v := 0) C dX1_tells_14 (by decide) ?_
    refine r_aload_n C 0 dX1_tells_15 rfl rfl ?_
    obtain ⟨v2, ev2, h⟩ := bs h
    refine r_getIN C (c := 6) (r := (RX8, TX8, 2)) rfl 1 (by decide) rfl ev2 (lw_n q309 rfl) dX1_tells_16 ?_
    refine r_i2l C dX1_tells_19 ?_
    obtain ⟨q3, eq3, h⟩ := bs h
    refine r_callS C (As := [vJ (w32 x1), vJ 0, vJ (w32 v2)]) (rest := []) (st1 := [vI q3.1]) (v := some (vI q3.1)) (m_X1_isIn C.tr eq3) (lw_S q499 q500 q120 q501) hdX1_isIn rfl rfl (Nat.le_of_ble_eq_true rfl) ⟨by decide, by decide⟩ dX1_tells_20 rfl ?_
    refine r_if_eq C dX1_tells_23 (tgt := 35) (by decide) (fun c4 => ?_) (fun c4 => ?_)
    · have h := it_ h c4
      refine r_iconst C dX1_tells_35 ?_
      cases h
      exact r_iret C hK dX1_tells_36
    · have h := ie_ h c4
      refine r_aload_n C 0 dX1_tells_26 rfl rfl ?_
      obtain ⟨v5, ev5, h⟩ := bs h
      refine r_getRN C (c := 6) (r := (RX8, TX8, 2)) rfl 0 (by decide) rfl ev5 (lw_n q304 rfl) dX1_tells_27 ?_
      refine r_iload_n C 1 dX1_tells_30 rfl rfl ?_
      obtain ⟨v6, ev6, h⟩ := bs h
      refine r_iald C ev6 dX1_tells_31 ?_
      refine r_goto C dX1_tells_32 (tgt := 36) (by decide) ?_
      cases h
      exact r_iret C hK dX1_tells_36
  · have h := it_ h c1
    refine r_aload_n C 0 dX1_tells_5 rfl rfl ?_
    obtain ⟨v7, ev7, h⟩ := bs h
    refine r_getIN C (c := 6) (r := (RX8, TX8, 2)) rfl 1 (by decide) rfl ev7 (lw_n q309 rfl) dX1_tells_6 ?_
    refine r_goto C dX1_tells_9 (tgt := 36) (by decide) ?_
    cases h
    exact r_iret C hK dX1_tells_36
theorem hdX1_tells : zhd yX1_tells 2 := by decide +kernel
theorem m_X1_tells {l : Launch} {D : va_G} {b0 : Nat} (hl : l.stackTraces = false) {a0 : Nat} {x1 : Int} {μ : Me} {w : Int × Me} (h : s_X1_tells a0 x1 μ = some w) : MN l D b0 yX1_tells (ws_ yX1_tells cX1_tells 2 (some .int)) 2 [vO a0, vI x1] μ (some (vI w.1)) w.2 :=
  MN.of hl (by decide +kernel) (Nat.le_of_ble_eq_true rfl) (fun Z C _ _ => w_X1_tells C h rfl)
noncomputable def s_X1_look (a0 : Nat) (x1 : Int) (x2 : Int) (μ : Me) : Option (Ex ⊕ (Int × Me)) :=
  (ck μ 0 a0).bind fun _ =>
  xb (s_X1_formAt a0 x1 μ) (fun e2 => some (.inl e2)) fun q1 =>
  (s_X1_tells q1.1 x2 q1.2).bind fun q4 =>
  some (.inr (q4.1, q4.2))
theorem w_X1_look {Z : Zt} {fin : Ex ⊕ (Int × Me)} {w : Ex ⊕ (Int × Me)} (C : CX Z yX1_look cX1_look (some .int) 8 3) (X : XE Z) {a0 : Nat} {x1 : Int} {x2 : Int} {μ : Me} (h : s_X1_look a0 x1 x2 μ = some w) (hK : w = fin) : WL Z (XQ Z (zoI fin) (zmI fin)) μ 0 [(0, vO a0), (1, vI x1), (2, vI x2)] [] := by
  unfold s_X1_look at h
  refine r_aload_n C 0 dX1_look_0 rfl rfl ?_
  refine r_iload_n C 1 dX1_look_1 rfl rfl ?_
  obtain ⟨u3, eu3, h⟩ := bs h
  rcases xbs h with ⟨e2, eq1, h⟩ | ⟨q1, eq1, h⟩
  · refine r_xVx C (As := [vI x1]) (b := a0) (rest := []) (μ1 := e2.2.2) (r := (RX1, TX1, 19)) (ci := 0) rfl eu3 (m_X1_formAt C.tr eq1) (lw_V q799 q801 qs15 q120 q802) rfl hdX1_formAt rfl rfl (Nat.le_of_ble_eq_true rfl) ⟨by decide, by decide⟩ dX1_look_2 ?_
    cases h
    exact r_xoutI C X hK
  · refine r_xV C (As := [vI x1]) (b := a0) (rest := []) (st1 := [vO q1.1]) (v := some (vO q1.1)) (μ1 := q1.2) (r := (RX1, TX1, 19)) (ci := 0) rfl eu3 (m_X1_formAt C.tr eq1) (lw_V q799 q801 qs15 q120 q802) rfl hdX1_formAt rfl rfl (Nat.le_of_ble_eq_true rfl) ⟨by decide, by decide⟩ dX1_look_2 rfl ?_
    refine r_iload_n C 2 dX1_look_5 rfl rfl ?_
    obtain ⟨q4, eq4, h⟩ := bs h
    refine r_callS C (As := [vO q1.1, vI x2]) (rest := []) (st1 := [vI q4.1]) (v := some (vI q4.1)) (m_X1_tells C.tr eq4) (lw_S q821 q822 q120 q823) hdX1_tells rfl rfl (Nat.le_of_ble_eq_true rfl) ⟨by decide, by decide⟩ dX1_look_6 rfl ?_
    cases h
    exact r_xiret C hK dX1_look_9
theorem hdX1_look : zhd yX1_look 2 := by decide +kernel
theorem m_X1_look {l : Launch} {D : va_G} {b0 : Nat} (hl : l.stackTraces = false) {a0 : Nat} {x1 : Int} {x2 : Int} {μ : Me} {w : Ex ⊕ (Int × Me)} (h : s_X1_look a0 x1 x2 μ = some w) : XN l D b0 yX1_look (ws_ yX1_look cX1_look 3 (some .int)) 8 [vO a0, vI x1, vI x2] μ (zoI w) (zmI w) :=
  XN.of hl (by decide +kernel) (Nat.le_of_ble_eq_true rfl) (fun Z C X _ _ => w_X1_look C X h rfl)
noncomputable def s_X6_at_l6_st (a0 : Nat) (a1 : Nat) (x2 : Int) (x3 : Int) (x4 : Int) (x5 : Int) (μ : Me) : Option ((Int × Int × Me) ⊕ (Int × Me)) :=
  (gI μ 6 a1 1).bind fun v1 =>
  (if w32 v1 < w32 x5 then
  some (.inr (x4, μ))
  else
  (gR μ 4 a0 0).bind fun v3 =>
  (gR μ 6 a1 0).bind fun v4 =>
  (aI μ 101 v4 x5).bind fun v5 =>
  (gR μ 4 a0 0).bind fun v6 =>
  (gR μ 4 a0 0).bind fun v7 =>
  (gI μ 6 a1 1).bind fun v8 =>
  (ck μ 5 v7).bind fun _ =>
  (s_X7_power v7 x2 (v8 - x5) μ).bind fun q9 =>
  (gR q9.2 4 a0 0).bind fun v11 =>
  (ck q9.2 5 v11).bind fun _ =>
  (s_X7_power v11 x3 x5 q9.2).bind fun q12 =>
  (ck q12.2 5 v6).bind fun _ =>
  (s_X7_of v6 ((w32 q9.1) * (w32 q12.1)) q12.2).bind fun q14 =>
  (ck q14.2 5 v3).bind fun _ =>
  (s_X7_of v3 ((w32 x4) + ((w32 v5) * (w32 q14.1))) q14.2).bind fun q16 =>
  some (.inl (q16.1, (x5 + 1), q16.2)))
theorem w_X6_at_l6_st {Z : Zt} {fin : Int × Me} {w : ((Int × Int × Me) ⊕ (Int × Me))} (C : CX Z yX6_at cX6_at (some .int) 3 6) {a0 : Nat} {a1 : Nat} {x2 : Int} {x3 : Int} {x4 : Int} {x5 : Int} {μ : Me} (h : s_X6_at_l6_st a0 a1 x2 x3 x4 x5 μ = some w) (hK : (Sum.elim (fun s : Int × Int × Me => WL Z (QN Z (some (vI fin.1)) fin.2) s.2.2 6 [(0, vO a0), (1, vO a1), (2, vI x2), (3, vI x3), (4, vI s.1), (5, vI s.2.1)] []) (fun r : Int × Me => r = fin)) w) : WL Z (QN Z (some (vI fin.1)) fin.2) μ 6 [(0, vO a0), (1, vO a1), (2, vI x2), (3, vI x3), (4, vI x4), (5, vI x5)] [] := by
  unfold s_X6_at_l6_st at h
  refine r_iload C 5 dX6_at_6 rfl ?_
  refine r_aload_n C 1 dX6_at_8 rfl rfl ?_
  obtain ⟨v1, ev1, h⟩ := bs h
  refine r_getIN C (c := 6) (r := (RX8, TX8, 2)) rfl 1 (by decide) rfl ev1 (lw_n q305 rfl) dX6_at_9 ?_
  refine r_icmp_gt C dX6_at_12 (tgt := 79) (by decide) (fun c2 => ?_) (fun c2 => ?_)
  · have h := it_ h c2
    refine r_iload C 4 dX6_at_79 rfl ?_
    cases h
    exact r_iret C hK dX6_at_81
  · have h := ie_ h c2
    refine r_aload_n C 0 dX6_at_15 rfl rfl ?_
    obtain ⟨v3, ev3, h⟩ := bs h
    refine r_getR C (c := 4) (r := (RX6, TX6, 6)) rfl 0 (by decide) rfl ev3 q316 dX6_at_16 ?_
    refine r_iload C 4 dX6_at_19 rfl ?_
    refine r_i2l C dX6_at_21 ?_
    refine r_aload_n C 1 dX6_at_22 rfl rfl ?_
    obtain ⟨v4, ev4, h⟩ := bs h
    refine r_getRN C (c := 6) (r := (RX8, TX8, 2)) rfl 0 (by decide) rfl ev4 (lw_n q300 rfl) dX6_at_23 ?_
    refine r_iload C 5 dX6_at_26 rfl ?_
    obtain ⟨v5, ev5, h⟩ := bs h
    refine r_iald C ev5 dX6_at_28 ?_
    refine r_i2l C dX6_at_29 ?_
    refine r_aload_n C 0 dX6_at_30 rfl rfl ?_
    obtain ⟨v6, ev6, h⟩ := bs h
    refine r_getR C (c := 4) (r := (RX6, TX6, 6)) rfl 0 (by decide) rfl ev6 q316 dX6_at_31 ?_
    refine r_aload_n C 0 dX6_at_34 rfl rfl ?_
    obtain ⟨v7, ev7, h⟩ := bs h
    refine r_getR C (c := 4) (r := (RX6, TX6, 6)) rfl 0 (by decide) rfl ev7 q316 dX6_at_35 ?_
    refine r_iload_n C 2 dX6_at_38 rfl rfl ?_
    refine r_aload_n C 1 dX6_at_39 rfl rfl ?_
    obtain ⟨v8, ev8, h⟩ := bs h
    refine r_getIN C (c := 6) (r := (RX8, TX8, 2)) rfl 1 (by decide) rfl ev8 (lw_n q305 rfl) dX6_at_40 ?_
    refine r_iload C 5 dX6_at_43 rfl ?_
    refine r_isub C dX6_at_45 ?_
    obtain ⟨u10, eu10, h⟩ := bs h
    obtain ⟨q9, eq9, h⟩ := bs h
    refine r_callV C (As := [vI x2, vI (v8 - x5)]) (b := v7) (rest := [vO v6, vJ (w32 v5), vJ (w32 x4), vO v3]) (st1 := [vI q9.1, vO v6, vJ (w32 v5), vJ (w32 x4), vO v3]) (v := some (vI q9.1)) (r := (RX7, TX7, 1)) (ci := 5) rfl eu10 (m_X7_power C.tr eq9) (lw_V q835 q836 q837 q129 q838) rfl hdX7_power rfl rfl (Nat.le_of_ble_eq_true rfl) ⟨by decide, by decide⟩ dX6_at_46 rfl ?_
    refine r_i2l C dX6_at_49 ?_
    refine r_aload_n C 0 dX6_at_50 rfl rfl ?_
    obtain ⟨v11, ev11, h⟩ := bs h
    refine r_getR C (c := 4) (r := (RX6, TX6, 6)) rfl 0 (by decide) rfl ev11 q316 dX6_at_51 ?_
    refine r_iload_n C 3 dX6_at_54 rfl rfl ?_
    refine r_iload C 5 dX6_at_55 rfl ?_
    obtain ⟨u13, eu13, h⟩ := bs h
    obtain ⟨q12, eq12, h⟩ := bs h
    refine r_callV C (As := [vI x3, vI x5]) (b := v11) (rest := [vJ (w32 q9.1), vO v6, vJ (w32 v5), vJ (w32 x4), vO v3]) (st1 := [vI q12.1, vJ (w32 q9.1), vO v6, vJ (w32 v5), vJ (w32 x4), vO v3]) (v := some (vI q12.1)) (r := (RX7, TX7, 1)) (ci := 5) rfl eu13 (m_X7_power C.tr eq12) (lw_V q835 q836 q837 q129 q838) rfl hdX7_power rfl rfl (Nat.le_of_ble_eq_true rfl) ⟨by decide, by decide⟩ dX6_at_57 rfl ?_
    refine r_i2l C dX6_at_60 ?_
    refine r_lmul C dX6_at_61 ?_
    obtain ⟨u15, eu15, h⟩ := bs h
    obtain ⟨q14, eq14, h⟩ := bs h
    refine r_callV C (As := [vJ ((w32 q9.1) * (w32 q12.1))]) (b := v6) (rest := [vJ (w32 v5), vJ (w32 x4), vO v3]) (st1 := [vI q14.1, vJ (w32 v5), vJ (w32 x4), vO v3]) (v := some (vI q14.1)) (r := (RX7, TX7, 1)) (ci := 5) rfl eu15 (m_X7_of C.tr eq14) (lw_V q840 q632 q633 q129 q634) rfl hdX7_of rfl rfl (Nat.le_of_ble_eq_true rfl) ⟨by decide, by decide⟩ dX6_at_62 rfl ?_
    refine r_i2l C dX6_at_65 ?_
    refine r_lmul C dX6_at_66 ?_
    refine r_ladd C dX6_at_67 ?_
    obtain ⟨u17, eu17, h⟩ := bs h
    obtain ⟨q16, eq16, h⟩ := bs h
    refine r_callV C (As := [vJ ((w32 x4) + ((w32 v5) * (w32 q14.1)))]) (b := v3) (rest := []) (st1 := [vI q16.1]) (v := some (vI q16.1)) (r := (RX7, TX7, 1)) (ci := 5) rfl eu17 (m_X7_of C.tr eq16) (lw_V q840 q632 q633 q129 q634) rfl hdX7_of rfl rfl (Nat.le_of_ble_eq_true rfl) ⟨by decide, by decide⟩ dX6_at_68 rfl ?_
    refine r_istore C [(4, vI q16.1), (0, vO a0), (1, vO a1), (2, vI x2), (3, vI x3), (5, vI x5)] dX6_at_71 (by decide) rfl ?_
    refine r_iinc C 5 [(5, vI (x5 + 1)), (4, vI q16.1), (0, vO a0), (1, vO a1), (2, vI x2), (3, vI x3)] dX6_at_73 rfl (by decide) rfl ?_
    refine r_goto C dX6_at_76 (tgt := 6) (by decide) ?_
    cases h
    refine r_sub [2, 3, 4, 5, 1, 0] rfl ?_
    exact hK
noncomputable def s_X6_at_l6 (a0 : Nat) (a1 : Nat) (x2 : Int) (x3 : Int) (x4 : Int) (x5 : Int) (μ : Me) : Option (Int × Me) :=
  whileO (fun s : Int × Int × Me => s_X6_at_l6_st a0 a1 x2 x3 s.1 s.2.1 s.2.2) (x4, x5, μ)
theorem e_X6_at_l6 (a0 : Nat) (a1 : Nat) (x2 : Int) (x3 : Int) (x4 : Int) (x5 : Int) (μ : Me) : s_X6_at_l6 a0 a1 x2 x3 x4 x5 μ = (s_X6_at_l6_st a0 a1 x2 x3 x4 x5 μ).bind fun x => x.elim (fun s : Int × Int × Me => s_X6_at_l6 a0 a1 x2 x3 s.1 s.2.1 s.2.2) some := whileO_eq _ _
theorem w_X6_at_l6 {Z : Zt} {fin : Int × Me} {w : (Int × Me)} (C : CX Z yX6_at cX6_at (some .int) 3 6) {a0 : Nat} {a1 : Nat} {x2 : Int} {x3 : Int} {x4 : Int} {x5 : Int} {μ : Me} (h : s_X6_at_l6 a0 a1 x2 x3 x4 x5 μ = some w) (hK : (fun r : Int × Me => r = fin) w) : WL Z (QN Z (some (vI fin.1)) fin.2) μ 6 [(0, vO a0), (1, vO a1), (2, vI x2), (3, vI x3), (4, vI x4), (5, vI x5)] [] := by
  refine whileO_walk (w := w) (fun s : Int × Int × Me => WL Z (QN Z (some (vI fin.1)) fin.2) s.2.2 6 [(0, vO a0), (1, vO a1), (2, vI x2), (3, vI x3), (4, vI s.1), (5, vI s.2.1)] []) (fun s v h2 hi hr => ?_) (x4, x5, μ) h
  refine w_X6_at_l6_st (fin := fin) C h2 ?_
  cases v with
  | inl s2 => exact hi s2 rfl
  | inr r => have e := hr r rfl; subst e; exact hK
noncomputable def s_X6_at (a0 : Nat) (a1 : Nat) (x2 : Int) (x3 : Int) (μ : Me) : Option (Int × Me) :=
  s_X6_at_l6 a0 a1 x2 x3 0 0 μ
theorem w_X6_at {Z : Zt} {fin : Int × Me} {w : Int × Me} (C : CX Z yX6_at cX6_at (some .int) 3 6) {a0 : Nat} {a1 : Nat} {x2 : Int} {x3 : Int} {μ : Me} (h : s_X6_at a0 a1 x2 x3 μ = some w) (hK : w = fin) : WL Z (QN Z (some (vI fin.1)) fin.2) μ 0 [(0, vO a0), (1, vO a1), (2, vI x2), (3, vI x3)] [] := by
  unfold s_X6_at at h
  refine r_iconst C dX6_at_0 ?_
  refine r_istore C [(4, vI 0), (0, vO a0), (1, vO a1), (2, vI x2), (3, vI x3)] dX6_at_1 (by decide) rfl ?_
  refine r_iconst C dX6_at_3 ?_
  refine r_istore C [(5, vI 0), (4, vI 0), (0, vO a0), (1, vO a1), (2, vI x2), (3, vI x3)] dX6_at_4 (by decide) rfl ?_
  refine r_sub [2, 3, 4, 5, 1, 0] rfl ?_
  exact w_X6_at_l6 (fin := fin) C h hK
theorem hdX6_at : zhd yX6_at 3 := by decide +kernel
theorem m_X6_at {l : Launch} {D : va_G} {b0 : Nat} (hl : l.stackTraces = false) {a0 : Nat} {a1 : Nat} {x2 : Int} {x3 : Int} {μ : Me} {w : Int × Me} (h : s_X6_at a0 a1 x2 x3 μ = some w) : MN l D b0 yX6_at (ws_ yX6_at cX6_at 6 (some .int)) 3 [vO a0, vO a1, vI x2, vI x3] μ (some (vI w.1)) w.2 :=
  MN.of hl (by decide +kernel) (Nat.le_of_ble_eq_true rfl) (fun Z C _ _ => w_X6_at C h rfl)
noncomputable def s_X1_at (a0 : Nat) (x1 : Int) (x2 : Int) (x3 : Int) (μ : Me) : Option (Ex ⊕ (Int × Me)) :=
  (ck μ 0 a0).bind fun _ =>
  xb (s_X1_formAt a0 x1 μ) (fun e2 => some (.inl e2)) fun q1 =>
  (gR q1.2 0 a0 1).bind fun v4 =>
  (gR q1.2 0 a0 1).bind fun v5 =>
  (gR q1.2 4 v5 0).bind fun v6 =>
  (ck q1.2 5 v6).bind fun _ =>
  (s_X7_of v6 (w32 x2) q1.2).bind fun q7 =>
  (gR q7.2 0 a0 1).bind fun v9 =>
  (gR q7.2 4 v9 0).bind fun v10 =>
  (ck q7.2 5 v10).bind fun _ =>
  (s_X7_of v10 (w32 x3) q7.2).bind fun q11 =>
  (ck q11.2 4 v4).bind fun _ =>
  (s_X6_at v4 q1.1 q7.1 q11.1 q11.2).bind fun q13 =>
  some (.inr (q13.1, q13.2))
theorem w_X1_at {Z : Zt} {fin : Ex ⊕ (Int × Me)} {w : Ex ⊕ (Int × Me)} (C : CX Z yX1_at cX1_at (some .int) 8 5) (X : XE Z) {a0 : Nat} {x1 : Int} {x2 : Int} {x3 : Int} {μ : Me} (h : s_X1_at a0 x1 x2 x3 μ = some w) (hK : w = fin) : WL Z (XQ Z (zoI fin) (zmI fin)) μ 0 [(0, vO a0), (1, vI x1), (2, vI x2), (3, vI x3)] [] := by
  unfold s_X1_at at h
  refine r_aload_n C 0 dX1_at_0 rfl rfl ?_
  refine r_iload_n C 1 dX1_at_1 rfl rfl ?_
  obtain ⟨u3, eu3, h⟩ := bs h
  rcases xbs h with ⟨e2, eq1, h⟩ | ⟨q1, eq1, h⟩
  · refine r_xVx C (As := [vI x1]) (b := a0) (rest := []) (μ1 := e2.2.2) (r := (RX1, TX1, 19)) (ci := 0) rfl eu3 (m_X1_formAt C.tr eq1) (lw_V q799 q801 qs15 q120 q802) rfl hdX1_formAt rfl rfl (Nat.le_of_ble_eq_true rfl) ⟨by decide, by decide⟩ dX1_at_2 ?_
    cases h
    exact r_xoutI C X hK
  · refine r_xV C (As := [vI x1]) (b := a0) (rest := []) (st1 := [vO q1.1]) (v := some (vO q1.1)) (μ1 := q1.2) (r := (RX1, TX1, 19)) (ci := 0) rfl eu3 (m_X1_formAt C.tr eq1) (lw_V q799 q801 qs15 q120 q802) rfl hdX1_formAt rfl rfl (Nat.le_of_ble_eq_true rfl) ⟨by decide, by decide⟩ dX1_at_2 rfl ?_
    refine r_astore C [(4, vO q1.1), (0, vO a0), (1, vI x1), (2, vI x2), (3, vI x3)] dX1_at_5 (by decide) rfl ?_
    refine r_aload_n C 1 dX1_at_7 rfl rfl ?_
    obtain ⟨v4, ev4, h⟩ := bs h
    refine r_getR C (c := 0) (r := (RX1, TX1, 19)) rfl 1 (by decide) rfl ev4 q422 dX1_at_8 ?_
    refine r_aload C 0 dX1_at_11 rfl ?_
    refine r_aload_n C 1 dX1_at_13 rfl rfl ?_
    obtain ⟨v5, ev5, h⟩ := bs h
    refine r_getR C (c := 0) (r := (RX1, TX1, 19)) rfl 1 (by decide) rfl ev5 q422 dX1_at_14 ?_
    obtain ⟨v6, ev6, h⟩ := bs h
    refine r_getRN C (c := 4) (r := (RX6, TX6, 6)) rfl 0 (by decide) rfl ev6 (lw_n q320 rfl) dX1_at_17 ?_
    refine r_iload_n C 3 dX1_at_20 rfl rfl ?_
    refine r_i2l C dX1_at_21 ?_
    obtain ⟨u8, eu8, h⟩ := bs h
    obtain ⟨q7, eq7, h⟩ := bs h
    refine r_callV C (As := [vJ (w32 x2)]) (b := v6) (rest := [vO q1.1, vO v4]) (st1 := [vI q7.1, vO q1.1, vO v4]) (v := some (vI q7.1)) (r := (RX7, TX7, 1)) (ci := 5) rfl eu8 (m_X7_of C.tr eq7) (lw_V q631 q632 q633 q129 q634) rfl hdX7_of rfl rfl (Nat.le_of_ble_eq_true rfl) ⟨by decide, by decide⟩ dX1_at_22 rfl ?_
    refine r_aload_n C 1 dX1_at_25 rfl rfl ?_
    obtain ⟨v9, ev9, h⟩ := bs h
    refine r_getR C (c := 0) (r := (RX1, TX1, 19)) rfl 1 (by decide) rfl ev9 q422 dX1_at_26 ?_
    obtain ⟨v10, ev10, h⟩ := bs h
    refine r_getRN C (c := 4) (r := (RX6, TX6, 6)) rfl 0 (by decide) rfl ev10 (lw_n q320 rfl) dX1_at_29 ?_
    refine r_iload_n C 4 dX1_at_32 rfl rfl ?_
    refine r_i2l C dX1_at_33 ?_
    obtain ⟨u12, eu12, h⟩ := bs h
    obtain ⟨q11, eq11, h⟩ := bs h
    refine r_callV C (As := [vJ (w32 x3)]) (b := v10) (rest := [vI q7.1, vO q1.1, vO v4]) (st1 := [vI q11.1, vI q7.1, vO q1.1, vO v4]) (v := some (vI q11.1)) (r := (RX7, TX7, 1)) (ci := 5) rfl eu12 (m_X7_of C.tr eq11) (lw_V q631 q632 q633 q129 q634) rfl hdX7_of rfl rfl (Nat.le_of_ble_eq_true rfl) ⟨by decide, by decide⟩ dX1_at_34 rfl ?_
    obtain ⟨u14, eu14, h⟩ := bs h
    obtain ⟨q13, eq13, h⟩ := bs h
    refine r_callV C (As := [vO q1.1, vI q7.1, vI q11.1]) (b := v4) (rest := []) (st1 := [vI q13.1]) (v := some (vI q13.1)) (r := (RX6, TX6, 6)) (ci := 4) rfl eu14 (m_X6_at C.tr eq13) (lw_V q831 q832 q833 q128 q834) rfl hdX6_at rfl rfl (Nat.le_of_ble_eq_true rfl) ⟨by decide, by decide⟩ dX1_at_37 rfl ?_
    cases h
    exact r_xiret C hK dX1_at_40
theorem hdX1_at : zhd yX1_at 3 := by decide +kernel
theorem m_X1_at {l : Launch} {D : va_G} {b0 : Nat} (hl : l.stackTraces = false) {a0 : Nat} {x1 : Int} {x2 : Int} {x3 : Int} {μ : Me} {w : Ex ⊕ (Int × Me)} (h : s_X1_at a0 x1 x2 x3 μ = some w) : XN l D b0 yX1_at (ws_ yX1_at cX1_at 5 (some .int)) 8 [vO a0, vI x1, vI x2, vI x3] μ (zoI w) (zmI w) :=
  XN.of hl (by decide +kernel) (Nat.le_of_ble_eq_true rfl) (fun Z C X _ _ => w_X1_at C X h rfl)
noncomputable def s_X1_tableAt (a0 : Nat) (x1 : Int) (μ : Me) : Option (Ex ⊕ (Nat × Me)) :=
  (gR μ 0 a0 2).bind fun v1 =>
  (gI μ 7 v1 6).bind fun v2 =>
  (s_X1_isIn (w32 x1) 0 (w32 (v2 - 1)) μ).bind fun q3 =>
  xb (s_X1_mustBe q3.1 q3.2) (fun e5 => some (.inl e5)) fun q4 =>
  (gR q4 0 a0 2).bind fun v6 =>
  (gR q4 7 v6 1).bind fun v7 =>
  (aR q4 105 v7 x1).bind fun v8 =>
  some (.inr (v8, q4))
theorem w_X1_tableAt {Z : Zt} {fin : Ex ⊕ (Nat × Me)} {w : Ex ⊕ (Nat × Me)} (C : CX Z yX1_tableAt cX1_tableAt (some (.array .int)) 7 2) (X : XE Z) {a0 : Nat} {x1 : Int} {μ : Me} (h : s_X1_tableAt a0 x1 μ = some w) (hK : w = fin) : WL Z (XQ Z (zoA fin) (zmI fin)) μ 0 [(0, vO a0), (1, vI x1)] [] := by
  unfold s_X1_tableAt at h
  refine r_iload_n C 1 dX1_tableAt_0 rfl rfl ?_
  refine r_i2l C dX1_tableAt_1 ?_
  refine r_lconst (v := 0) C dX1_tableAt_2 (by decide) ?_
  refine r_aload_n C 0 dX1_tableAt_3 rfl rfl ?_
  obtain ⟨v1, ev1, h⟩ := bs h
  refine r_getR C (c := 0) (r := (RX1, TX1, 19)) rfl 2 (by decide) rfl ev1 q426 dX1_tableAt_4 ?_
  obtain ⟨v2, ev2, h⟩ := bs h
  refine r_getIN C (c := 7) (r := (RX9, TX9, 10)) rfl 6 (by decide) rfl ev2 (lw_n q390 rfl) dX1_tableAt_7 ?_
  refine r_iconst C dX1_tableAt_10 ?_
  refine r_isub C dX1_tableAt_11 ?_
  refine r_i2l C dX1_tableAt_12 ?_
  obtain ⟨q3, eq3, h⟩ := bs h
  refine r_callS C (As := [vJ (w32 x1), vJ 0, vJ (w32 (v2 - 1))]) (rest := []) (st1 := [vI q3.1]) (v := some (vI q3.1)) (m_X1_isIn C.tr eq3) (lw_S q499 q500 q120 q501) hdX1_isIn rfl rfl (Nat.le_of_ble_eq_true rfl) ⟨by decide, by decide⟩ dX1_tableAt_13 rfl ?_
  rcases xbs h with ⟨e5, eq4, h⟩ | ⟨q4, eq4, h⟩
  · refine r_xSx C (As := [vI q3.1]) (rest := []) (μ1 := e5.2.2) (m_X1_mustBe C.tr eq4) (lw_S q803 q804 q120 q805) hdX1_mustBe rfl rfl (Nat.le_of_ble_eq_true rfl) ⟨by decide, by decide⟩ dX1_tableAt_16 ?_
    cases h
    exact r_xoutA C X hK
  · refine r_xS C (As := [vI q3.1]) (rest := []) (st1 := []) (v := none) (μ1 := q4) (m_X1_mustBe C.tr eq4) (lw_S q803 q804 q120 q805) hdX1_mustBe rfl rfl (Nat.le_of_ble_eq_true rfl) ⟨by decide, by decide⟩ dX1_tableAt_16 rfl ?_
    refine r_aload_n C 0 dX1_tableAt_19 rfl rfl ?_
    obtain ⟨v6, ev6, h⟩ := bs h
    refine r_getR C (c := 0) (r := (RX1, TX1, 19)) rfl 2 (by decide) rfl ev6 q426 dX1_tableAt_20 ?_
    obtain ⟨v7, ev7, h⟩ := bs h
    refine r_getRN C (c := 7) (r := (RX9, TX9, 10)) rfl 1 (by decide) rfl ev7 (lw_n q380 rfl) dX1_tableAt_23 ?_
    refine r_iload_n C 1 dX1_tableAt_26 rfl rfl ?_
    obtain ⟨v8, ev8, h⟩ := bs h
    refine r_aald C (kt := 4) ev8 rfl rfl ⟨by decide, by decide⟩ dX1_tableAt_27 ?_
    cases h
    exact r_xaret C (Or.inr ⟨_, rfl⟩) hK dX1_tableAt_28
theorem hdX1_tableAt : zhd yX1_tableAt 1 := by decide +kernel
theorem m_X1_tableAt {l : Launch} {D : va_G} {b0 : Nat} (hl : l.stackTraces = false) {a0 : Nat} {x1 : Int} {μ : Me} {w : Ex ⊕ (Nat × Me)} (h : s_X1_tableAt a0 x1 μ = some w) : XN l D b0 yX1_tableAt (ws_ yX1_tableAt cX1_tableAt 2 (some (.array .int))) 7 [vO a0, vI x1] μ (zoA w) (zmI w) :=
  XN.of hl (by decide +kernel) (Nat.le_of_ble_eq_true rfl) (fun Z C X _ _ => w_X1_tableAt C X h rfl)
noncomputable def s_X1_det (a0 : Nat) (x1 : Int) (μ : Me) : Option (Ex ⊕ (Int × Me)) :=
  (ck μ 0 a0).bind fun _ =>
  xb (s_X1_tableAt a0 x1 μ) (fun e2 => some (.inl e2)) fun q1 =>
  (aI q1.2 101 q1.1 0).bind fun v4 =>
  (aI q1.2 101 q1.1 1).bind fun v5 =>
  (aI q1.2 101 q1.1 2).bind fun v6 =>
  (aI q1.2 101 q1.1 3).bind fun v7 =>
  (ck q1.2 0 a0).bind fun _ =>
  (s_X1_detOf a0 v4 v5 v6 v7 q1.2).bind fun q8 =>
  some (.inr (q8.1, q8.2))
theorem w_X1_det {Z : Zt} {fin : Ex ⊕ (Int × Me)} {w : Ex ⊕ (Int × Me)} (C : CX Z yX1_det cX1_det (some .int) 8 3) (X : XE Z) {a0 : Nat} {x1 : Int} {μ : Me} (h : s_X1_det a0 x1 μ = some w) (hK : w = fin) : WL Z (XQ Z (zoI fin) (zmI fin)) μ 0 [(0, vO a0), (1, vI x1)] [] := by
  unfold s_X1_det at h
  refine r_aload_n C 0 dX1_det_0 rfl rfl ?_
  refine r_iload_n C 1 dX1_det_1 rfl rfl ?_
  obtain ⟨u3, eu3, h⟩ := bs h
  rcases xbs h with ⟨e2, eq1, h⟩ | ⟨q1, eq1, h⟩
  · refine r_xVx C (As := [vI x1]) (b := a0) (rest := []) (μ1 := e2.2.2) (r := (RX1, TX1, 19)) (ci := 0) rfl eu3 (m_X1_tableAt C.tr eq1) (lw_V q848 q850 qs16 q120 q851) rfl hdX1_tableAt rfl rfl (Nat.le_of_ble_eq_true rfl) ⟨by decide, by decide⟩ dX1_det_2 ?_
    cases h
    exact r_xoutI C X hK
  · refine r_xV C (As := [vI x1]) (b := a0) (rest := []) (st1 := [vO q1.1]) (v := some (vO q1.1)) (μ1 := q1.2) (r := (RX1, TX1, 19)) (ci := 0) rfl eu3 (m_X1_tableAt C.tr eq1) (lw_V q848 q850 qs16 q120 q851) rfl hdX1_tableAt rfl rfl (Nat.le_of_ble_eq_true rfl) ⟨by decide, by decide⟩ dX1_det_2 rfl ?_
    refine r_astore_n C [(2, vO q1.1), (0, vO a0), (1, vI x1)] dX1_det_5 rfl (by decide) rfl ?_
    refine r_aload_n C 1 dX1_det_6 rfl rfl ?_
    refine r_aload_n C 0 dX1_det_7 rfl rfl ?_
    refine r_iconst C dX1_det_8 ?_
    obtain ⟨v4, ev4, h⟩ := bs h
    refine r_iald C ev4 dX1_det_9 ?_
    refine r_aload_n C 0 dX1_det_10 rfl rfl ?_
    refine r_iconst C dX1_det_11 ?_
    obtain ⟨v5, ev5, h⟩ := bs h
    refine r_iald C ev5 dX1_det_12 ?_
    refine r_aload_n C 0 dX1_det_13 rfl rfl ?_
    refine r_iconst C dX1_det_14 ?_
    obtain ⟨v6, ev6, h⟩ := bs h
    refine r_iald C ev6 dX1_det_15 ?_
    refine r_aload_n C 0 dX1_det_16 rfl rfl ?_
    refine r_iconst C dX1_det_17 ?_
    obtain ⟨v7, ev7, h⟩ := bs h
    refine r_iald C ev7 dX1_det_18 ?_
    obtain ⟨u9, eu9, h⟩ := bs h
    obtain ⟨q8, eq8, h⟩ := bs h
    refine r_callV C (As := [vI v4, vI v5, vI v6, vI v7]) (b := a0) (rest := []) (st1 := [vI q8.1]) (v := some (vI q8.1)) (r := (RX1, TX1, 19)) (ci := 0) rfl eu9 (m_X1_detOf C.tr eq8) (lw_V q642 q644 qs3 q120 q645) rfl hdX1_detOf rfl rfl (Nat.le_of_ble_eq_true rfl) ⟨by decide, by decide⟩ dX1_det_19 rfl ?_
    cases h
    exact r_xiret C hK dX1_det_22
theorem hdX1_det : zhd yX1_det 1 := by decide +kernel
theorem m_X1_det {l : Launch} {D : va_G} {b0 : Nat} (hl : l.stackTraces = false) {a0 : Nat} {x1 : Int} {μ : Me} {w : Ex ⊕ (Int × Me)} (h : s_X1_det a0 x1 μ = some w) : XN l D b0 yX1_det (ws_ yX1_det cX1_det 3 (some .int)) 8 [vO a0, vI x1] μ (zoI w) (zmI w) :=
  XN.of hl (by decide +kernel) (Nat.le_of_ble_eq_true rfl) (fun Z C X _ _ => w_X1_det C X h rfl)
noncomputable def s_X6_times_b77 (a0 : Nat) (a1 : Nat) (x2 : Int) (x3 : Int) (x4 : Int) (t0 : Int) (t1 : Int) (t2 : Nat) (t3 : Int) (t4 : Nat) (μ : Me) : Option ((Int × Me) ⊕ (Me)) :=
  (ck μ 5 t2).bind fun _ =>
  (s_X7_of t2 (t1 + t0) μ).bind fun q10 =>
  (uI q10.2 t4 t3 q10.1).bind fun m12 =>
  some (.inl ((x4 + (-1)), m12))
theorem w_X6_times_b77 {Z : Zt} {fin : Me} {w : ((Int × Me) ⊕ (Me))} (C : CX Z yX6_times cX6_times none 2 5) {a0 : Nat} {a1 : Nat} {x2 : Int} {x3 : Int} {x4 : Int} {t0 : Int} {t1 : Int} {t2 : Nat} {t3 : Int} {t4 : Nat} {μ : Me} (h : s_X6_times_b77 a0 a1 x2 x3 x4 t0 t1 t2 t3 t4 μ = some w) (hK : (Sum.elim (fun s : Int × Me => WL Z (QN Z none fin) s.2 16 [(0, vO a0), (1, vO a1), (2, vI x2), (3, vI x3), (4, vI s.1)] []) (fun r : Me => r = fin)) w) : WL Z (QN Z none fin) μ 77 [(0, vO a0), (1, vO a1), (2, vI x2), (3, vI x3), (4, vI x4)] [vJ t0, vJ t1, vO t2, vI t3, vO t4] := by
  unfold s_X6_times_b77 at h
  refine r_ladd C dX6_times_77 ?_
  obtain ⟨u11, eu11, h⟩ := bs h
  obtain ⟨q10, eq10, h⟩ := bs h
  refine r_callV C (As := [vJ (t1 + t0)]) (b := t2) (rest := [vI t3, vO t4]) (st1 := [vI q10.1, vI t3, vO t4]) (v := some (vI q10.1)) (r := (RX7, TX7, 1)) (ci := 5) rfl eu11 (m_X7_of C.tr eq10) (lw_V q840 q632 q633 q129 q634) rfl hdX7_of rfl rfl (Nat.le_of_ble_eq_true rfl) ⟨by decide, by decide⟩ dX6_times_78 rfl ?_
  obtain ⟨m12, em12, h⟩ := bs h
  refine r_iast C em12 dX6_times_81 ?_
  refine r_iinc C 4 [(4, vI (x4 + (-1))), (0, vO a0), (1, vO a1), (2, vI x2), (3, vI x3)] dX6_times_82 rfl (by decide) rfl ?_
  refine r_goto C dX6_times_85 (tgt := 16) (by decide) ?_
  cases h
  refine r_sub [1, 2, 3, 4, 0] rfl ?_
  exact hK
noncomputable def s_X6_times_b55 (a0 : Nat) (a1 : Nat) (x2 : Int) (x3 : Int) (x4 : Int) (t0 : Int) (t1 : Nat) (t2 : Int) (t3 : Nat) (μ : Me) : Option ((Int × Me) ⊕ (Me)) :=
  (if w32 x4 ≤ 0 then
  s_X6_times_b77 a0 a1 x2 x3 x4 0 t0 t1 t2 t3 μ
  else
  (gR μ 6 a1 0).bind fun v13 =>
  (aI μ 101 v13 (x4 - 1)).bind fun v14 =>
  s_X6_times_b77 a0 a1 x2 x3 x4 ((w32 x3) * (w32 v14)) t0 t1 t2 t3 μ)
theorem w_X6_times_b55 {Z : Zt} {fin : Me} {w : ((Int × Me) ⊕ (Me))} (C : CX Z yX6_times cX6_times none 2 5) {a0 : Nat} {a1 : Nat} {x2 : Int} {x3 : Int} {x4 : Int} {t0 : Int} {t1 : Nat} {t2 : Int} {t3 : Nat} {μ : Me} (h : s_X6_times_b55 a0 a1 x2 x3 x4 t0 t1 t2 t3 μ = some w) (hK : (Sum.elim (fun s : Int × Me => WL Z (QN Z none fin) s.2 16 [(0, vO a0), (1, vO a1), (2, vI x2), (3, vI x3), (4, vI s.1)] []) (fun r : Me => r = fin)) w) : WL Z (QN Z none fin) μ 55 [(0, vO a0), (1, vO a1), (2, vI x2), (3, vI x3), (4, vI x4)] [vJ t0, vO t1, vI t2, vO t3] := by
  unfold s_X6_times_b55 at h
  refine r_iload C 4 dX6_times_55 rfl ?_
  refine r_if_le C dX6_times_57 (tgt := 76) (by decide) (fun c9 => ?_) (fun c9 => ?_)
  · have h := it_ h c9
    refine r_lconst (v := 0) C dX6_times_76 (by decide) ?_
    exact w_X6_times_b77 (fin := fin) C h hK
  · have h := ie_ h c9
    refine r_iload_n C 3 dX6_times_60 rfl rfl ?_
    refine r_i2l C dX6_times_61 ?_
    refine r_aload_n C 1 dX6_times_62 rfl rfl ?_
    obtain ⟨v13, ev13, h⟩ := bs h
    refine r_getRN C (c := 6) (r := (RX8, TX8, 2)) rfl 0 (by decide) rfl ev13 (lw_n q300 rfl) dX6_times_63 ?_
    refine r_iload C 4 dX6_times_66 rfl ?_
    refine r_iconst C dX6_times_68 ?_
    refine r_isub C dX6_times_69 ?_
    obtain ⟨v14, ev14, h⟩ := bs h
    refine r_iald C ev14 dX6_times_70 ?_
    refine r_i2l C dX6_times_71 ?_
    refine r_lmul C dX6_times_72 ?_
    refine r_goto C dX6_times_73 (tgt := 77) (by decide) ?_
    exact w_X6_times_b77 (fin := fin) C h hK
noncomputable def s_X6_times_l16_st (a0 : Nat) (a1 : Nat) (x2 : Int) (x3 : Int) (x4 : Int) (μ : Me) : Option ((Int × Me) ⊕ (Me)) :=
  (if w32 x4 < 0 then
  some (.inr μ)
  else
  (gR μ 6 a1 0).bind fun v5 =>
  (gR μ 4 a0 0).bind fun v6 =>
  (gI μ 6 a1 1).bind fun v7 =>
  (if w32 v7 ≤ w32 x4 then
  s_X6_times_b55 a0 a1 x2 x3 x4 0 v6 x4 v5 μ
  else
  (gR μ 6 a1 0).bind fun v15 =>
  (aI μ 101 v15 x4).bind fun v16 =>
  s_X6_times_b55 a0 a1 x2 x3 x4 ((w32 x2) * (w32 v16)) v6 x4 v5 μ))
theorem w_X6_times_l16_st {Z : Zt} {fin : Me} {w : ((Int × Me) ⊕ (Me))} (C : CX Z yX6_times cX6_times none 2 5) {a0 : Nat} {a1 : Nat} {x2 : Int} {x3 : Int} {x4 : Int} {μ : Me} (h : s_X6_times_l16_st a0 a1 x2 x3 x4 μ = some w) (hK : (Sum.elim (fun s : Int × Me => WL Z (QN Z none fin) s.2 16 [(0, vO a0), (1, vO a1), (2, vI x2), (3, vI x3), (4, vI s.1)] []) (fun r : Me => r = fin)) w) : WL Z (QN Z none fin) μ 16 [(0, vO a0), (1, vO a1), (2, vI x2), (3, vI x3), (4, vI x4)] [] := by
  unfold s_X6_times_l16_st at h
  refine r_iload C 4 dX6_times_16 rfl ?_
  refine r_if_lt C dX6_times_18 (tgt := 88) (by decide) (fun c4 => ?_) (fun c4 => ?_)
  · have h := it_ h c4
    cases h
    exact r_vret C hK dX6_times_88
  · have h := ie_ h c4
    refine r_aload_n C 1 dX6_times_21 rfl rfl ?_
    obtain ⟨v5, ev5, h⟩ := bs h
    refine r_getRN C (c := 6) (r := (RX8, TX8, 2)) rfl 0 (by decide) rfl ev5 (lw_n q300 rfl) dX6_times_22 ?_
    refine r_iload C 4 dX6_times_25 rfl ?_
    refine r_aload_n C 0 dX6_times_27 rfl rfl ?_
    obtain ⟨v6, ev6, h⟩ := bs h
    refine r_getR C (c := 4) (r := (RX6, TX6, 6)) rfl 0 (by decide) rfl ev6 q316 dX6_times_28 ?_
    refine r_iload C 4 dX6_times_31 rfl ?_
    refine r_aload_n C 1 dX6_times_33 rfl rfl ?_
    obtain ⟨v7, ev7, h⟩ := bs h
    refine r_getIN C (c := 6) (r := (RX8, TX8, 2)) rfl 1 (by decide) rfl ev7 (lw_n q305 rfl) dX6_times_34 ?_
    refine r_icmp_ge C dX6_times_37 (tgt := 54) (by decide) (fun c8 => ?_) (fun c8 => ?_)
    · have h := it_ h c8
      refine r_lconst (v := 0) C dX6_times_54 (by decide) ?_
      exact w_X6_times_b55 (fin := fin) C h hK
    · have h := ie_ h c8
      refine r_iload_n C 2 dX6_times_40 rfl rfl ?_
      refine r_i2l C dX6_times_41 ?_
      refine r_aload_n C 1 dX6_times_42 rfl rfl ?_
      obtain ⟨v15, ev15, h⟩ := bs h
      refine r_getRN C (c := 6) (r := (RX8, TX8, 2)) rfl 0 (by decide) rfl ev15 (lw_n q300 rfl) dX6_times_43 ?_
      refine r_iload C 4 dX6_times_46 rfl ?_
      obtain ⟨v16, ev16, h⟩ := bs h
      refine r_iald C ev16 dX6_times_48 ?_
      refine r_i2l C dX6_times_49 ?_
      refine r_lmul C dX6_times_50 ?_
      refine r_goto C dX6_times_51 (tgt := 55) (by decide) ?_
      exact w_X6_times_b55 (fin := fin) C h hK
noncomputable def s_X6_times_l16 (a0 : Nat) (a1 : Nat) (x2 : Int) (x3 : Int) (x4 : Int) (μ : Me) : Option (Me) :=
  whileO (fun s : Int × Me => s_X6_times_l16_st a0 a1 x2 x3 s.1 s.2) (x4, μ)
theorem e_X6_times_l16 (a0 : Nat) (a1 : Nat) (x2 : Int) (x3 : Int) (x4 : Int) (μ : Me) : s_X6_times_l16 a0 a1 x2 x3 x4 μ = (s_X6_times_l16_st a0 a1 x2 x3 x4 μ).bind fun x => x.elim (fun s : Int × Me => s_X6_times_l16 a0 a1 x2 x3 s.1 s.2) some := whileO_eq _ _
theorem w_X6_times_l16 {Z : Zt} {fin : Me} {w : (Me)} (C : CX Z yX6_times cX6_times none 2 5) {a0 : Nat} {a1 : Nat} {x2 : Int} {x3 : Int} {x4 : Int} {μ : Me} (h : s_X6_times_l16 a0 a1 x2 x3 x4 μ = some w) (hK : (fun r : Me => r = fin) w) : WL Z (QN Z none fin) μ 16 [(0, vO a0), (1, vO a1), (2, vI x2), (3, vI x3), (4, vI x4)] [] := by
  refine whileO_walk (w := w) (fun s : Int × Me => WL Z (QN Z none fin) s.2 16 [(0, vO a0), (1, vO a1), (2, vI x2), (3, vI x3), (4, vI s.1)] []) (fun s v h2 hi hr => ?_) (x4, μ) h
  refine w_X6_times_l16_st (fin := fin) C h2 ?_
  cases v with
  | inl s2 => exact hi s2 rfl
  | inr r => have e := hr r rfl; subst e; exact hK
noncomputable def s_X6_times (a0 : Nat) (a1 : Nat) (x2 : Int) (x3 : Int) (μ : Me) : Option (Me) :=
  (gI μ 6 a1 1).bind fun v1 =>
  (pI μ 6 a1 1 (v1 + 1)).bind fun m2 =>
  (gI m2 6 a1 1).bind fun v3 =>
  s_X6_times_l16 a0 a1 x2 x3 v3 m2
theorem w_X6_times {Z : Zt} {fin : Me} {w : Me} (C : CX Z yX6_times cX6_times none 2 5) {a0 : Nat} {a1 : Nat} {x2 : Int} {x3 : Int} {μ : Me} (h : s_X6_times a0 a1 x2 x3 μ = some w) (hK : w = fin) : WL Z (QN Z none fin) μ 0 [(0, vO a0), (1, vO a1), (2, vI x2), (3, vI x3)] [] := by
  unfold s_X6_times at h
  refine r_aload_n C 1 dX6_times_0 rfl rfl ?_
  refine r_dup C dX6_times_1 rfl ?_
  obtain ⟨v1, ev1, h⟩ := bs h
  refine r_getIN C (c := 6) (r := (RX8, TX8, 2)) rfl 1 (by decide) rfl ev1 (lw_n q305 rfl) dX6_times_2 ?_
  refine r_iconst C dX6_times_5 ?_
  refine r_iadd C dX6_times_6 ?_
  obtain ⟨m2, em2, h⟩ := bs h
  refine r_putIN C (c := 6) (r := (RX8, TX8, 2)) rfl 1 (by decide) rfl ⟨rfl, rfl⟩ rfl em2 (lw_n q305 rfl) dX6_times_7 ?_
  refine r_aload_n C 1 dX6_times_10 rfl rfl ?_
  obtain ⟨v3, ev3, h⟩ := bs h
  refine r_getIN C (c := 6) (r := (RX8, TX8, 2)) rfl 1 (by decide) rfl ev3 (lw_n q305 rfl) dX6_times_11 ?_
  refine r_istore C [(4, vI v3), (0, vO a0), (1, vO a1), (2, vI x2), (3, vI x3)] dX6_times_14 (by decide) rfl ?_
  refine r_sub [1, 2, 3, 4, 0] rfl ?_
  exact w_X6_times_l16 (fin := fin) C h hK
theorem hdX6_times : zhd yX6_times 3 := by decide +kernel
theorem m_X6_times {l : Launch} {D : va_G} {b0 : Nat} (hl : l.stackTraces = false) {a0 : Nat} {a1 : Nat} {x2 : Int} {x3 : Int} {μ : Me} {w : Me} (h : s_X6_times a0 a1 x2 x3 μ = some w) : MN l D b0 yX6_times (ws_ yX6_times cX6_times 5 none) 2 [vO a0, vO a1, vI x2, vI x3] μ none w :=
  MN.of hl (by decide +kernel) (Nat.le_of_ble_eq_true rfl) (fun Z C _ _ => w_X6_times C h rfl)
noncomputable def s_X6_mixed_b150 (a0 : Nat) (a6 : Nat)  (μ : Me) : Option (Me) :=
  (gR μ 4 a0 2).bind fun v17 =>
  (ck μ 6 a6).bind fun _ =>
  (s_X8_be a6 v17 μ).bind fun q18 =>
  some q18
theorem w_X6_mixed_b150 {Z : Zt} {fin : Me} {w : (Me)} (C : CX Z yX6_mixed cX6_mixed none 3 10) {a0 : Nat} {a6 : Nat}  {μ : Me} (h : s_X6_mixed_b150 a0 a6 μ = some w) (hK : (fun r : Me => r = fin) w) : WL Z (QN Z none fin) μ 150 [(0, vO a0), (6, vO a6)] [] := by
  unfold s_X6_mixed_b150 at h
  refine r_aload C 1 dX6_mixed_150 rfl ?_
  refine r_aload_n C 0 dX6_mixed_152 rfl rfl ?_
  obtain ⟨v17, ev17, h⟩ := bs h
  refine r_getR C (c := 4) (r := (RX6, TX6, 6)) rfl 2 (by decide) rfl ev17 q322 dX6_mixed_153 ?_
  obtain ⟨u19, eu19, h⟩ := bs h
  obtain ⟨q18, eq18, h⟩ := bs h
  refine r_callV C (As := [vO v17]) (b := a6) (rest := []) (st1 := []) (v := none) (r := (RX8, TX8, 2)) (ci := 6) rfl eu19 (m_X8_be C.tr eq18) (lw_V q868 q511 q512 q130 q513) rfl hdX8_be rfl rfl (Nat.le_of_ble_eq_true rfl) ⟨by decide, by decide⟩ dX6_mixed_156 rfl ?_
  cases h
  exact r_vret C hK dX6_mixed_159
noncomputable def s_X6_mixed_l82_st (a0 : Nat) (a1 : Nat) (x2 : Int) (x3 : Int) (x4 : Int) (x5 : Int) (a6 : Nat) (x7 : Int) (x8 : Int) (x9 : Int) (μ : Me) : Option ((Int × Me) ⊕ ((Int × Me) ⊕ (Me))) :=
  (if w32 x8 < w32 x9 then
  some (.inr (.inl ((x8 + 1), μ)))
  else
  (gR μ 4 a0 2).bind fun v27 =>
  (gR μ 6 v27 0).bind fun v28 =>
  (gR μ 4 a0 0).bind fun v29 =>
  (gR μ 4 a0 2).bind fun v30 =>
  (gR μ 6 v30 0).bind fun v31 =>
  (aI μ 101 v31 x9).bind fun v32 =>
  (gR μ 6 a1 0).bind fun v33 =>
  (aI μ 101 v33 x8).bind fun v34 =>
  (gR μ 4 a0 3).bind fun v35 =>
  (gR μ 6 v35 0).bind fun v36 =>
  (aI μ 101 v36 x9).bind fun v37 =>
  (ck μ 5 v29).bind fun _ =>
  (s_X7_of v29 ((w32 v32) + ((w32 v34) * (w32 v37))) μ).bind fun q38 =>
  (uI q38.2 v28 x9 q38.1).bind fun m40 =>
  some (.inl ((x9 + 1), m40)))
theorem w_X6_mixed_l82_st {Z : Zt} {fin : Me} {w : ((Int × Me) ⊕ ((Int × Me) ⊕ (Me)))} (C : CX Z yX6_mixed cX6_mixed none 3 10) {a0 : Nat} {a1 : Nat} {x2 : Int} {x3 : Int} {x4 : Int} {x5 : Int} {a6 : Nat} {x7 : Int} {x8 : Int} {x9 : Int} {μ : Me} (h : s_X6_mixed_l82_st a0 a1 x2 x3 x4 x5 a6 x7 x8 x9 μ = some w) (hK : (Sum.elim (fun s : Int × Me => WL Z (QN Z none fin) s.2 82 [(0, vO a0), (1, vO a1), (2, vI x2), (3, vI x3), (4, vI x4), (5, vI x5), (6, vO a6), (7, vI x7), (8, vI x8), (9, vI s.1)] []) (Sum.elim (fun s : Int × Me => WL Z (QN Z none fin) s.2 50 [(0, vO a0), (1, vO a1), (2, vI x2), (3, vI x3), (4, vI x4), (5, vI x5), (6, vO a6), (7, vI x7), (8, vI s.1)] []) (fun r : Me => r = fin))) w) : WL Z (QN Z none fin) μ 82 [(0, vO a0), (1, vO a1), (2, vI x2), (3, vI x3), (4, vI x4), (5, vI x5), (6, vO a6), (7, vI x7), (8, vI x8), (9, vI x9)] [] := by
  unfold s_X6_mixed_l82_st at h
  refine r_iload C 9 dX6_mixed_82 rfl ?_
  refine r_iload C 8 dX6_mixed_84 rfl ?_
  refine r_icmp_gt C dX6_mixed_86 (tgt := 144) (by decide) (fun c26 => ?_) (fun c26 => ?_)
  · have h := it_ h c26
    refine r_iinc C 8 [(8, vI (x8 + 1)), (0, vO a0), (1, vO a1), (2, vI x2), (3, vI x3), (4, vI x4), (5, vI x5), (6, vO a6), (7, vI x7), (9, vI x9)] dX6_mixed_144 rfl (by decide) rfl ?_
    refine r_goto C dX6_mixed_147 (tgt := 50) (by decide) ?_
    cases h
    refine r_sub [1, 2, 3, 4, 5, 6, 7, 8, 0] rfl ?_
    exact hK
  · have h := ie_ h c26
    refine r_aload_n C 0 dX6_mixed_89 rfl rfl ?_
    obtain ⟨v27, ev27, h⟩ := bs h
    refine r_getR C (c := 4) (r := (RX6, TX6, 6)) rfl 2 (by decide) rfl ev27 q322 dX6_mixed_90 ?_
    obtain ⟨v28, ev28, h⟩ := bs h
    refine r_getRN C (c := 6) (r := (RX8, TX8, 2)) rfl 0 (by decide) rfl ev28 (lw_n q300 rfl) dX6_mixed_93 ?_
    refine r_iload C 9 dX6_mixed_96 rfl ?_
    refine r_aload_n C 0 dX6_mixed_98 rfl rfl ?_
    obtain ⟨v29, ev29, h⟩ := bs h
    refine r_getR C (c := 4) (r := (RX6, TX6, 6)) rfl 0 (by decide) rfl ev29 q316 dX6_mixed_99 ?_
    refine r_aload_n C 0 dX6_mixed_102 rfl rfl ?_
    obtain ⟨v30, ev30, h⟩ := bs h
    refine r_getR C (c := 4) (r := (RX6, TX6, 6)) rfl 2 (by decide) rfl ev30 q322 dX6_mixed_103 ?_
    obtain ⟨v31, ev31, h⟩ := bs h
    refine r_getRN C (c := 6) (r := (RX8, TX8, 2)) rfl 0 (by decide) rfl ev31 (lw_n q300 rfl) dX6_mixed_106 ?_
    refine r_iload C 9 dX6_mixed_109 rfl ?_
    obtain ⟨v32, ev32, h⟩ := bs h
    refine r_iald C ev32 dX6_mixed_111 ?_
    refine r_i2l C dX6_mixed_112 ?_
    refine r_aload_n C 1 dX6_mixed_113 rfl rfl ?_
    obtain ⟨v33, ev33, h⟩ := bs h
    refine r_getRN C (c := 6) (r := (RX8, TX8, 2)) rfl 0 (by decide) rfl ev33 (lw_n q300 rfl) dX6_mixed_114 ?_
    refine r_iload C 8 dX6_mixed_117 rfl ?_
    obtain ⟨v34, ev34, h⟩ := bs h
    refine r_iald C ev34 dX6_mixed_119 ?_
    refine r_i2l C dX6_mixed_120 ?_
    refine r_aload_n C 0 dX6_mixed_121 rfl rfl ?_
    obtain ⟨v35, ev35, h⟩ := bs h
    refine r_getR C (c := 4) (r := (RX6, TX6, 6)) rfl 3 (by decide) rfl ev35 q323 dX6_mixed_122 ?_
    obtain ⟨v36, ev36, h⟩ := bs h
    refine r_getRN C (c := 6) (r := (RX8, TX8, 2)) rfl 0 (by decide) rfl ev36 (lw_n q300 rfl) dX6_mixed_125 ?_
    refine r_iload C 9 dX6_mixed_128 rfl ?_
    obtain ⟨v37, ev37, h⟩ := bs h
    refine r_iald C ev37 dX6_mixed_130 ?_
    refine r_i2l C dX6_mixed_131 ?_
    refine r_lmul C dX6_mixed_132 ?_
    refine r_ladd C dX6_mixed_133 ?_
    obtain ⟨u39, eu39, h⟩ := bs h
    obtain ⟨q38, eq38, h⟩ := bs h
    refine r_callV C (As := [vJ ((w32 v32) + ((w32 v34) * (w32 v37)))]) (b := v29) (rest := [vI x9, vO v28]) (st1 := [vI q38.1, vI x9, vO v28]) (v := some (vI q38.1)) (r := (RX7, TX7, 1)) (ci := 5) rfl eu39 (m_X7_of C.tr eq38) (lw_V q840 q632 q633 q129 q634) rfl hdX7_of rfl rfl (Nat.le_of_ble_eq_true rfl) ⟨by decide, by decide⟩ dX6_mixed_134 rfl ?_
    obtain ⟨m40, em40, h⟩ := bs h
    refine r_iast C em40 dX6_mixed_137 ?_
    refine r_iinc C 9 [(9, vI (x9 + 1)), (0, vO a0), (1, vO a1), (2, vI x2), (3, vI x3), (4, vI x4), (5, vI x5), (6, vO a6), (7, vI x7), (8, vI x8)] dX6_mixed_138 rfl (by decide) rfl ?_
    refine r_goto C dX6_mixed_141 (tgt := 82) (by decide) ?_
    cases h
    refine r_sub [1, 2, 3, 4, 5, 6, 7, 8, 9, 0] rfl ?_
    exact hK
noncomputable def s_X6_mixed_l82 (a0 : Nat) (a1 : Nat) (x2 : Int) (x3 : Int) (x4 : Int) (x5 : Int) (a6 : Nat) (x7 : Int) (x8 : Int) (x9 : Int) (μ : Me) : Option ((Int × Me) ⊕ (Me)) :=
  whileO (fun s : Int × Me => s_X6_mixed_l82_st a0 a1 x2 x3 x4 x5 a6 x7 x8 s.1 s.2) (x9, μ)
theorem e_X6_mixed_l82 (a0 : Nat) (a1 : Nat) (x2 : Int) (x3 : Int) (x4 : Int) (x5 : Int) (a6 : Nat) (x7 : Int) (x8 : Int) (x9 : Int) (μ : Me) : s_X6_mixed_l82 a0 a1 x2 x3 x4 x5 a6 x7 x8 x9 μ = (s_X6_mixed_l82_st a0 a1 x2 x3 x4 x5 a6 x7 x8 x9 μ).bind fun x => x.elim (fun s : Int × Me => s_X6_mixed_l82 a0 a1 x2 x3 x4 x5 a6 x7 x8 s.1 s.2) some := whileO_eq _ _
theorem w_X6_mixed_l82 {Z : Zt} {fin : Me} {w : ((Int × Me) ⊕ (Me))} (C : CX Z yX6_mixed cX6_mixed none 3 10) {a0 : Nat} {a1 : Nat} {x2 : Int} {x3 : Int} {x4 : Int} {x5 : Int} {a6 : Nat} {x7 : Int} {x8 : Int} {x9 : Int} {μ : Me} (h : s_X6_mixed_l82 a0 a1 x2 x3 x4 x5 a6 x7 x8 x9 μ = some w) (hK : (Sum.elim (fun s : Int × Me => WL Z (QN Z none fin) s.2 50 [(0, vO a0), (1, vO a1), (2, vI x2), (3, vI x3), (4, vI x4), (5, vI x5), (6, vO a6), (7, vI x7), (8, vI s.1)] []) (fun r : Me => r = fin)) w) : WL Z (QN Z none fin) μ 82 [(0, vO a0), (1, vO a1), (2, vI x2), (3, vI x3), (4, vI x4), (5, vI x5), (6, vO a6), (7, vI x7), (8, vI x8), (9, vI x9)] [] := by
  refine whileO_walk (w := w) (fun s : Int × Me => WL Z (QN Z none fin) s.2 82 [(0, vO a0), (1, vO a1), (2, vI x2), (3, vI x3), (4, vI x4), (5, vI x5), (6, vO a6), (7, vI x7), (8, vI x8), (9, vI s.1)] []) (fun s v h2 hi hr => ?_) (x9, μ) h
  refine w_X6_mixed_l82_st (fin := fin) C h2 ?_
  cases v with
  | inl s2 => exact hi s2 rfl
  | inr r => have e := hr r rfl; subst e; exact hK
noncomputable def s_X6_mixed_l50_st (a0 : Nat) (a1 : Nat) (x2 : Int) (x3 : Int) (x4 : Int) (x5 : Int) (a6 : Nat) (x7 : Int) (x8 : Int) (μ : Me) : Option ((Int × Me) ⊕ (Me)) :=
  (if w32 x7 < w32 x8 then
  (s_X6_mixed_b150 a0 a6 μ).map Sum.inr
  else
  (gR μ 4 a0 2).bind fun v20 =>
  (ck μ 4 a0).bind fun _ =>
  (s_X6_times a0 v20 x2 x3 μ).bind fun q21 =>
  (gR q21 4 a0 3).bind fun v23 =>
  (ck q21 4 a0).bind fun _ =>
  (s_X6_times a0 v23 x4 x5 q21).bind fun q24 =>
  s_X6_mixed_l82 a0 a1 x2 x3 x4 x5 a6 x7 x8 0 q24)
theorem w_X6_mixed_l50_st {Z : Zt} {fin : Me} {w : ((Int × Me) ⊕ (Me))} (C : CX Z yX6_mixed cX6_mixed none 3 10) {a0 : Nat} {a1 : Nat} {x2 : Int} {x3 : Int} {x4 : Int} {x5 : Int} {a6 : Nat} {x7 : Int} {x8 : Int} {μ : Me} (h : s_X6_mixed_l50_st a0 a1 x2 x3 x4 x5 a6 x7 x8 μ = some w) (hK : (Sum.elim (fun s : Int × Me => WL Z (QN Z none fin) s.2 50 [(0, vO a0), (1, vO a1), (2, vI x2), (3, vI x3), (4, vI x4), (5, vI x5), (6, vO a6), (7, vI x7), (8, vI s.1)] []) (fun r : Me => r = fin)) w) : WL Z (QN Z none fin) μ 50 [(0, vO a0), (1, vO a1), (2, vI x2), (3, vI x3), (4, vI x4), (5, vI x5), (6, vO a6), (7, vI x7), (8, vI x8)] [] := by
  unfold s_X6_mixed_l50_st at h
  refine r_iload C 8 dX6_mixed_50 rfl ?_
  refine r_iload C 7 dX6_mixed_52 rfl ?_
  refine r_icmp_gt C dX6_mixed_54 (tgt := 150) (by decide) (fun c16 => ?_) (fun c16 => ?_)
  · have h := it_ h c16
    obtain ⟨z, hz, ez⟩ := ms_ h; clear h; subst ez; have h := hz; clear hz
    refine r_sub [0, 6] rfl ?_
    exact w_X6_mixed_b150 (fin := fin) C h hK
  · have h := ie_ h c16
    refine r_aload_n C 0 dX6_mixed_57 rfl rfl ?_
    refine r_aload_n C 0 dX6_mixed_58 rfl rfl ?_
    obtain ⟨v20, ev20, h⟩ := bs h
    refine r_getR C (c := 4) (r := (RX6, TX6, 6)) rfl 2 (by decide) rfl ev20 q322 dX6_mixed_59 ?_
    refine r_iload_n C 2 dX6_mixed_62 rfl rfl ?_
    refine r_iload_n C 3 dX6_mixed_63 rfl rfl ?_
    obtain ⟨u22, eu22, h⟩ := bs h
    obtain ⟨q21, eq21, h⟩ := bs h
    refine r_callV C (As := [vO v20, vI x2, vI x3]) (b := a0) (rest := []) (st1 := []) (v := none) (r := (RX6, TX6, 6)) (ci := 4) rfl eu22 (m_X6_times C.tr eq21) (lw_V q864 q865 q866 q128 q867) rfl hdX6_times rfl rfl (Nat.le_of_ble_eq_true rfl) ⟨by decide, by decide⟩ dX6_mixed_64 rfl ?_
    refine r_aload_n C 0 dX6_mixed_67 rfl rfl ?_
    refine r_aload_n C 0 dX6_mixed_68 rfl rfl ?_
    obtain ⟨v23, ev23, h⟩ := bs h
    refine r_getR C (c := 4) (r := (RX6, TX6, 6)) rfl 3 (by decide) rfl ev23 q323 dX6_mixed_69 ?_
    refine r_iload C 4 dX6_mixed_72 rfl ?_
    refine r_iload C 5 dX6_mixed_74 rfl ?_
    obtain ⟨u25, eu25, h⟩ := bs h
    obtain ⟨q24, eq24, h⟩ := bs h
    refine r_callV C (As := [vO v23, vI x4, vI x5]) (b := a0) (rest := []) (st1 := []) (v := none) (r := (RX6, TX6, 6)) (ci := 4) rfl eu25 (m_X6_times C.tr eq24) (lw_V q864 q865 q866 q128 q867) rfl hdX6_times rfl rfl (Nat.le_of_ble_eq_true rfl) ⟨by decide, by decide⟩ dX6_mixed_76 rfl ?_
    refine r_iconst C dX6_mixed_79 ?_
    refine r_istore C [(9, vI 0), (0, vO a0), (1, vO a1), (2, vI x2), (3, vI x3), (4, vI x4), (5, vI x5), (6, vO a6), (7, vI x7), (8, vI x8)] dX6_mixed_80 (by decide) rfl ?_
    refine r_sub [1, 2, 3, 4, 5, 6, 7, 8, 9, 0] rfl ?_
    exact w_X6_mixed_l82 (fin := fin) C h hK
noncomputable def s_X6_mixed_l50 (a0 : Nat) (a1 : Nat) (x2 : Int) (x3 : Int) (x4 : Int) (x5 : Int) (a6 : Nat) (x7 : Int) (x8 : Int) (μ : Me) : Option (Me) :=
  whileO (fun s : Int × Me => s_X6_mixed_l50_st a0 a1 x2 x3 x4 x5 a6 x7 s.1 s.2) (x8, μ)
theorem e_X6_mixed_l50 (a0 : Nat) (a1 : Nat) (x2 : Int) (x3 : Int) (x4 : Int) (x5 : Int) (a6 : Nat) (x7 : Int) (x8 : Int) (μ : Me) : s_X6_mixed_l50 a0 a1 x2 x3 x4 x5 a6 x7 x8 μ = (s_X6_mixed_l50_st a0 a1 x2 x3 x4 x5 a6 x7 x8 μ).bind fun x => x.elim (fun s : Int × Me => s_X6_mixed_l50 a0 a1 x2 x3 x4 x5 a6 x7 s.1 s.2) some := whileO_eq _ _
theorem w_X6_mixed_l50 {Z : Zt} {fin : Me} {w : (Me)} (C : CX Z yX6_mixed cX6_mixed none 3 10) {a0 : Nat} {a1 : Nat} {x2 : Int} {x3 : Int} {x4 : Int} {x5 : Int} {a6 : Nat} {x7 : Int} {x8 : Int} {μ : Me} (h : s_X6_mixed_l50 a0 a1 x2 x3 x4 x5 a6 x7 x8 μ = some w) (hK : (fun r : Me => r = fin) w) : WL Z (QN Z none fin) μ 50 [(0, vO a0), (1, vO a1), (2, vI x2), (3, vI x3), (4, vI x4), (5, vI x5), (6, vO a6), (7, vI x7), (8, vI x8)] [] := by
  refine whileO_walk (w := w) (fun s : Int × Me => WL Z (QN Z none fin) s.2 50 [(0, vO a0), (1, vO a1), (2, vI x2), (3, vI x3), (4, vI x4), (5, vI x5), (6, vO a6), (7, vI x7), (8, vI s.1)] []) (fun s v h2 hi hr => ?_) (x8, μ) h
  refine w_X6_mixed_l50_st (fin := fin) C h2 ?_
  cases v with
  | inl s2 => exact hi s2 rfl
  | inr r => have e := hr r rfl; subst e; exact hK
noncomputable def s_X6_mixed (a0 : Nat) (a1 : Nat) (x2 : Int) (x3 : Int) (x4 : Int) (x5 : Int) (a6 : Nat) (μ : Me) : Option (Me) :=
  (gI μ 6 a1 1).bind fun v1 =>
  (gR μ 4 a0 2).bind fun v2 =>
  (ck μ 6 v2).bind fun _ =>
  (s_X8_nought v2 0 μ).bind fun q3 =>
  (gR q3 4 a0 2).bind fun v5 =>
  (gR q3 6 v5 0).bind fun v6 =>
  (gR q3 6 a1 0).bind fun v7 =>
  (aI q3 101 v7 0).bind fun v8 =>
  (uI q3 v6 0 v8).bind fun m9 =>
  (gR m9 4 a0 3).bind fun v10 =>
  (ck m9 6 v10).bind fun _ =>
  (s_X8_nought v10 0 m9).bind fun q11 =>
  (gR q11 4 a0 3).bind fun v13 =>
  (gR q11 6 v13 0).bind fun v14 =>
  (uI q11 v14 0 1).bind fun m15 =>
  s_X6_mixed_l50 a0 a1 x2 x3 x4 x5 a6 v1 1 m15
theorem w_X6_mixed {Z : Zt} {fin : Me} {w : Me} (C : CX Z yX6_mixed cX6_mixed none 3 10) {a0 : Nat} {a1 : Nat} {x2 : Int} {x3 : Int} {x4 : Int} {x5 : Int} {a6 : Nat} {μ : Me} (h : s_X6_mixed a0 a1 x2 x3 x4 x5 a6 μ = some w) (hK : w = fin) : WL Z (QN Z none fin) μ 0 [(0, vO a0), (1, vO a1), (2, vI x2), (3, vI x3), (4, vI x4), (5, vI x5), (6, vO a6)] [] := by
  unfold s_X6_mixed at h
  refine r_aload_n C 1 dX6_mixed_0 rfl rfl ?_
  obtain ⟨v1, ev1, h⟩ := bs h
  refine r_getIN C (c := 6) (r := (RX8, TX8, 2)) rfl 1 (by decide) rfl ev1 (lw_n q305 rfl) dX6_mixed_1 ?_
  refine r_istore C [(7, vI v1), (0, vO a0), (1, vO a1), (2, vI x2), (3, vI x3), (4, vI x4), (5, vI x5), (6, vO a6)] dX6_mixed_4 (by decide) rfl ?_
  refine r_aload_n C 1 dX6_mixed_6 rfl rfl ?_
  obtain ⟨v2, ev2, h⟩ := bs h
  refine r_getR C (c := 4) (r := (RX6, TX6, 6)) rfl 2 (by decide) rfl ev2 q322 dX6_mixed_7 ?_
  refine r_iconst C dX6_mixed_10 ?_
  obtain ⟨u4, eu4, h⟩ := bs h
  obtain ⟨q3, eq3, h⟩ := bs h
  refine r_callV C (As := [vI 0]) (b := v2) (rest := []) (st1 := []) (v := none) (r := (RX8, TX8, 2)) (ci := 6) rfl eu4 (m_X8_nought C.tr eq3) (lw_V q863 q628 q629 q130 q630) rfl hdX8_nought rfl rfl (Nat.le_of_ble_eq_true rfl) ⟨by decide, by decide⟩ dX6_mixed_11 rfl ?_
  refine r_aload_n C 1 dX6_mixed_14 rfl rfl ?_
  obtain ⟨v5, ev5, h⟩ := bs h
  refine r_getR C (c := 4) (r := (RX6, TX6, 6)) rfl 2 (by decide) rfl ev5 q322 dX6_mixed_15 ?_
  obtain ⟨v6, ev6, h⟩ := bs h
  refine r_getRN C (c := 6) (r := (RX8, TX8, 2)) rfl 0 (by decide) rfl ev6 (lw_n q300 rfl) dX6_mixed_18 ?_
  refine r_iconst C dX6_mixed_21 ?_
  refine r_aload_n C 2 dX6_mixed_22 rfl rfl ?_
  obtain ⟨v7, ev7, h⟩ := bs h
  refine r_getRN C (c := 6) (r := (RX8, TX8, 2)) rfl 0 (by decide) rfl ev7 (lw_n q300 rfl) dX6_mixed_23 ?_
  refine r_iconst C dX6_mixed_26 ?_
  obtain ⟨v8, ev8, h⟩ := bs h
  refine r_iald C ev8 dX6_mixed_27 ?_
  obtain ⟨m9, em9, h⟩ := bs h
  refine r_iast C em9 dX6_mixed_28 ?_
  refine r_aload_n C 1 dX6_mixed_29 rfl rfl ?_
  obtain ⟨v10, ev10, h⟩ := bs h
  refine r_getR C (c := 4) (r := (RX6, TX6, 6)) rfl 3 (by decide) rfl ev10 q323 dX6_mixed_30 ?_
  refine r_iconst C dX6_mixed_33 ?_
  obtain ⟨u12, eu12, h⟩ := bs h
  obtain ⟨q11, eq11, h⟩ := bs h
  refine r_callV C (As := [vI 0]) (b := v10) (rest := []) (st1 := []) (v := none) (r := (RX8, TX8, 2)) (ci := 6) rfl eu12 (m_X8_nought C.tr eq11) (lw_V q863 q628 q629 q130 q630) rfl hdX8_nought rfl rfl (Nat.le_of_ble_eq_true rfl) ⟨by decide, by decide⟩ dX6_mixed_34 rfl ?_
  refine r_aload_n C 1 dX6_mixed_37 rfl rfl ?_
  obtain ⟨v13, ev13, h⟩ := bs h
  refine r_getR C (c := 4) (r := (RX6, TX6, 6)) rfl 3 (by decide) rfl ev13 q323 dX6_mixed_38 ?_
  obtain ⟨v14, ev14, h⟩ := bs h
  refine r_getRN C (c := 6) (r := (RX8, TX8, 2)) rfl 0 (by decide) rfl ev14 (lw_n q300 rfl) dX6_mixed_41 ?_
  refine r_iconst C dX6_mixed_44 ?_
  refine r_iconst C dX6_mixed_45 ?_
  obtain ⟨m15, em15, h⟩ := bs h
  refine r_iast C em15 dX6_mixed_46 ?_
  refine r_iconst C dX6_mixed_47 ?_
  refine r_istore C [(8, vI 1), (7, vI v1), (0, vO a0), (1, vO a1), (2, vI x2), (3, vI x3), (4, vI x4), (5, vI x5), (6, vO a6)] dX6_mixed_48 (by decide) rfl ?_
  refine r_sub [2, 3, 4, 5, 6, 7, 8, 1, 0] rfl ?_
  exact w_X6_mixed_l50 (fin := fin) C h hK
theorem hdX6_mixed : zhd yX6_mixed 6 := by decide +kernel
theorem m_X6_mixed {l : Launch} {D : va_G} {b0 : Nat} (hl : l.stackTraces = false) {a0 : Nat} {a1 : Nat} {x2 : Int} {x3 : Int} {x4 : Int} {x5 : Int} {a6 : Nat} {μ : Me} {w : Me} (h : s_X6_mixed a0 a1 x2 x3 x4 x5 a6 μ = some w) : MN l D b0 yX6_mixed (ws_ yX6_mixed cX6_mixed 10 none) 3 [vO a0, vO a1, vI x2, vI x3, vI x4, vI x5, vO a6] μ none w :=
  MN.of hl (by decide +kernel) (Nat.le_of_ble_eq_true rfl) (fun Z C _ _ => w_X6_mixed C h rfl)
noncomputable def s_X9_writes_b78 (a0 : Nat) (x1 : Int) (a2 : Nat) (a3 : Nat)  (μ : Me) : Option (Me) :=
  (gR μ 7 a0 3).bind fun v5 =>
  (gI μ 7 a0 8).bind fun v6 =>
  (aR μ 107 v5 v6).bind fun v7 =>
  (pI μ 8 v7 2 x1).bind fun m8 =>
  (gR m8 7 a0 3).bind fun v9 =>
  (gI m8 7 a0 8).bind fun v10 =>
  (aR m8 107 v9 v10).bind fun v11 =>
  (gR m8 8 v11 0).bind fun v12 =>
  (ck m8 6 v12).bind fun _ =>
  (s_X8_be v12 a2 m8).bind fun q13 =>
  (gR q13 7 a0 3).bind fun v15 =>
  (gI q13 7 a0 8).bind fun v16 =>
  (aR q13 107 v15 v16).bind fun v17 =>
  (gR q13 8 v17 1).bind fun v18 =>
  (ck q13 6 v18).bind fun _ =>
  (s_X8_be v18 a3 q13).bind fun q19 =>
  (gI q19 7 a0 8).bind fun v21 =>
  (pI q19 7 a0 8 (v21 + 1)).bind fun m22 =>
  (gI m22 7 a0 8).bind fun v23 =>
  (pI m22 7 a0 9 v23).bind fun m24 =>
  some m24
theorem w_X9_writes_b78 {Z : Zt} {fin : Me} {w : (Me)} (C : CX Z yX9_writes cX9_writes none 2 6) {a0 : Nat} {x1 : Int} {a2 : Nat} {a3 : Nat}  {μ : Me} (h : s_X9_writes_b78 a0 x1 a2 a3 μ = some w) (hK : (fun r : Me => r = fin) w) : WL Z (QN Z none fin) μ 78 [(0, vO a0), (1, vI x1), (2, vO a2), (3, vO a3)] [] := by
  unfold s_X9_writes_b78 at h
  refine r_aload_n C 0 dX9_writes_78 rfl rfl ?_
  obtain ⟨v5, ev5, h⟩ := bs h
  refine r_getR C (c := 7) (r := (RX9, TX9, 10)) rfl 3 (by decide) rfl ev5 q383 dX9_writes_79 ?_
  refine r_aload_n C 0 dX9_writes_82 rfl rfl ?_
  obtain ⟨v6, ev6, h⟩ := bs h
  refine r_getI C (c := 7) (r := (RX9, TX9, 10)) rfl 8 (by decide) rfl ev6 q393 dX9_writes_83 ?_
  obtain ⟨v7, ev7, h⟩ := bs h
  refine r_aald C (kt := 6) ev7 rfl rfl ⟨by decide, by decide⟩ dX9_writes_86 ?_
  refine r_iload_n C 1 dX9_writes_87 rfl rfl ?_
  obtain ⟨m8, em8, h⟩ := bs h
  refine r_putIN C (c := 8) (r := (RX10, TX10, 3)) rfl 2 (by decide) rfl ⟨rfl, rfl⟩ rfl em8 (lw_n q368 rfl) dX9_writes_88 ?_
  refine r_aload_n C 0 dX9_writes_91 rfl rfl ?_
  obtain ⟨v9, ev9, h⟩ := bs h
  refine r_getR C (c := 7) (r := (RX9, TX9, 10)) rfl 3 (by decide) rfl ev9 q383 dX9_writes_92 ?_
  refine r_aload_n C 0 dX9_writes_95 rfl rfl ?_
  obtain ⟨v10, ev10, h⟩ := bs h
  refine r_getI C (c := 7) (r := (RX9, TX9, 10)) rfl 8 (by decide) rfl ev10 q393 dX9_writes_96 ?_
  obtain ⟨v11, ev11, h⟩ := bs h
  refine r_aald C (kt := 6) ev11 rfl rfl ⟨by decide, by decide⟩ dX9_writes_99 ?_
  obtain ⟨v12, ev12, h⟩ := bs h
  refine r_getRN C (c := 8) (r := (RX10, TX10, 3)) rfl 0 (by decide) rfl ev12 (lw_n q362 rfl) dX9_writes_100 ?_
  refine r_aload_n C 2 dX9_writes_103 rfl rfl ?_
  obtain ⟨u14, eu14, h⟩ := bs h
  obtain ⟨q13, eq13, h⟩ := bs h
  refine r_callV C (As := [vO a2]) (b := v12) (rest := []) (st1 := []) (v := none) (r := (RX8, TX8, 2)) (ci := 6) rfl eu14 (m_X8_be C.tr eq13) (lw_V q529 q511 q512 q130 q513) rfl hdX8_be rfl rfl (Nat.le_of_ble_eq_true rfl) ⟨by decide, by decide⟩ dX9_writes_104 rfl ?_
  refine r_aload_n C 0 dX9_writes_107 rfl rfl ?_
  obtain ⟨v15, ev15, h⟩ := bs h
  refine r_getR C (c := 7) (r := (RX9, TX9, 10)) rfl 3 (by decide) rfl ev15 q383 dX9_writes_108 ?_
  refine r_aload_n C 0 dX9_writes_111 rfl rfl ?_
  obtain ⟨v16, ev16, h⟩ := bs h
  refine r_getI C (c := 7) (r := (RX9, TX9, 10)) rfl 8 (by decide) rfl ev16 q393 dX9_writes_112 ?_
  obtain ⟨v17, ev17, h⟩ := bs h
  refine r_aald C (kt := 6) ev17 rfl rfl ⟨by decide, by decide⟩ dX9_writes_115 ?_
  obtain ⟨v18, ev18, h⟩ := bs h
  refine r_getRN C (c := 8) (r := (RX10, TX10, 3)) rfl 1 (by decide) rfl ev18 (lw_n q365 rfl) dX9_writes_116 ?_
  refine r_aload_n C 3 dX9_writes_119 rfl rfl ?_
  obtain ⟨u20, eu20, h⟩ := bs h
  obtain ⟨q19, eq19, h⟩ := bs h
  refine r_callV C (As := [vO a3]) (b := v18) (rest := []) (st1 := []) (v := none) (r := (RX8, TX8, 2)) (ci := 6) rfl eu20 (m_X8_be C.tr eq19) (lw_V q529 q511 q512 q130 q513) rfl hdX8_be rfl rfl (Nat.le_of_ble_eq_true rfl) ⟨by decide, by decide⟩ dX9_writes_120 rfl ?_
  refine r_aload_n C 0 dX9_writes_123 rfl rfl ?_
  refine r_dup C dX9_writes_124 rfl ?_
  obtain ⟨v21, ev21, h⟩ := bs h
  refine r_getI C (c := 7) (r := (RX9, TX9, 10)) rfl 8 (by decide) rfl ev21 q393 dX9_writes_125 ?_
  refine r_iconst C dX9_writes_128 ?_
  refine r_iadd C dX9_writes_129 ?_
  obtain ⟨m22, em22, h⟩ := bs h
  refine r_putI C (c := 7) (r := (RX9, TX9, 10)) rfl 8 (by decide) rfl ⟨rfl, rfl⟩ rfl em22 q393 dX9_writes_130 ?_
  refine r_aload_n C 0 dX9_writes_133 rfl rfl ?_
  refine r_aload_n C 0 dX9_writes_134 rfl rfl ?_
  obtain ⟨v23, ev23, h⟩ := bs h
  refine r_getI C (c := 7) (r := (RX9, TX9, 10)) rfl 8 (by decide) rfl ev23 q393 dX9_writes_135 ?_
  obtain ⟨m24, em24, h⟩ := bs h
  refine r_putI C (c := 7) (r := (RX9, TX9, 10)) rfl 9 (by decide) rfl ⟨rfl, rfl⟩ rfl em24 q395 dX9_writes_138 ?_
  cases h
  exact r_vret C hK dX9_writes_141
noncomputable def s_X9_writes_b59 (a0 : Nat) (x1 : Int) (a2 : Nat) (a3 : Nat) (a4 : Nat)  (μ : Me) : Option (Me) :=
  (gR μ 7 a0 3).bind fun v28 =>
  (uR μ 107 8 v28 39 a4).bind fun m29 =>
  (gI m29 7 a0 8).bind fun v30 =>
  (pI m29 7 a0 8 (v30 - 1)).bind fun m31 =>
  s_X9_writes_b78 a0 x1 a2 a3 m31
theorem w_X9_writes_b59 {Z : Zt} {fin : Me} {w : (Me)} (C : CX Z yX9_writes cX9_writes none 2 6) {a0 : Nat} {x1 : Int} {a2 : Nat} {a3 : Nat} {a4 : Nat}  {μ : Me} (h : s_X9_writes_b59 a0 x1 a2 a3 a4 μ = some w) (hK : (fun r : Me => r = fin) w) : WL Z (QN Z none fin) μ 59 [(0, vO a0), (1, vI x1), (2, vO a2), (3, vO a3), (4, vO a4)] [] := by
  unfold s_X9_writes_b59 at h
  refine r_aload_n C 0 dX9_writes_59 rfl rfl ?_
  obtain ⟨v28, ev28, h⟩ := bs h
  refine r_getR C (c := 7) (r := (RX9, TX9, 10)) rfl 3 (by decide) rfl ev28 q383 dX9_writes_60 ?_
  refine r_bipush C dX9_writes_63 (by decide) ?_
  refine r_aload C 4 dX9_writes_65 rfl ?_
  obtain ⟨m29, em29, h⟩ := bs h
  refine r_aast C (r := (RX10, TX10, 3)) em29 rfl ⟨by decide, by decide⟩ (kt := 6) rfl (Or.inl rfl) dX9_writes_67 ?_
  refine r_aload_n C 0 dX9_writes_68 rfl rfl ?_
  refine r_dup C dX9_writes_69 rfl ?_
  obtain ⟨v30, ev30, h⟩ := bs h
  refine r_getI C (c := 7) (r := (RX9, TX9, 10)) rfl 8 (by decide) rfl ev30 q393 dX9_writes_70 ?_
  refine r_iconst C dX9_writes_73 ?_
  refine r_isub C dX9_writes_74 ?_
  obtain ⟨m31, em31, h⟩ := bs h
  refine r_putI C (c := 7) (r := (RX9, TX9, 10)) rfl 8 (by decide) rfl ⟨rfl, rfl⟩ rfl em31 q393 dX9_writes_75 ?_
  refine r_sub [0, 1, 2, 3] rfl ?_
  exact w_X9_writes_b78 (fin := fin) C h hK
noncomputable def s_X9_writes_l28_st (a0 : Nat) (x1 : Int) (a2 : Nat) (a3 : Nat) (a4 : Nat) (x5 : Int) (μ : Me) : Option ((Int × Me) ⊕ (Me)) :=
  (if w32 40 ≤ w32 (x5 + 1) then
  (s_X9_writes_b59 a0 x1 a2 a3 a4 μ).map Sum.inr
  else
  (gR μ 7 a0 3).bind fun v32 =>
  (gR μ 7 a0 3).bind fun v33 =>
  (aR μ 107 v33 (x5 + 1)).bind fun v34 =>
  (uR μ 107 8 v32 x5 v34).bind fun m35 =>
  some (.inl ((x5 + 1), m35)))
theorem w_X9_writes_l28_st {Z : Zt} {fin : Me} {w : ((Int × Me) ⊕ (Me))} (C : CX Z yX9_writes cX9_writes none 2 6) {a0 : Nat} {x1 : Int} {a2 : Nat} {a3 : Nat} {a4 : Nat} {x5 : Int} {μ : Me} (h : s_X9_writes_l28_st a0 x1 a2 a3 a4 x5 μ = some w) (hK : (Sum.elim (fun s : Int × Me => WL Z (QN Z none fin) s.2 28 [(0, vO a0), (1, vI x1), (2, vO a2), (3, vO a3), (4, vO a4), (5, vI s.1)] []) (fun r : Me => r = fin)) w) : WL Z (QN Z none fin) μ 28 [(0, vO a0), (1, vI x1), (2, vO a2), (3, vO a3), (4, vO a4), (5, vI x5)] [] := by
  unfold s_X9_writes_l28_st at h
  refine r_iload C 5 dX9_writes_28 rfl ?_
  refine r_iconst C dX9_writes_30 ?_
  refine r_iadd C dX9_writes_31 ?_
  refine r_bipush C dX9_writes_32 (by decide) ?_
  refine r_icmp_ge C dX9_writes_34 (tgt := 59) (by decide) (fun c27 => ?_) (fun c27 => ?_)
  · have h := it_ h c27
    obtain ⟨z, hz, ez⟩ := ms_ h; clear h; subst ez; have h := hz; clear hz
    refine r_sub [0, 1, 2, 3, 4] rfl ?_
    exact w_X9_writes_b59 (fin := fin) C h hK
  · have h := ie_ h c27
    refine r_aload_n C 0 dX9_writes_37 rfl rfl ?_
    obtain ⟨v32, ev32, h⟩ := bs h
    refine r_getR C (c := 7) (r := (RX9, TX9, 10)) rfl 3 (by decide) rfl ev32 q383 dX9_writes_38 ?_
    refine r_iload C 5 dX9_writes_41 rfl ?_
    refine r_aload_n C 0 dX9_writes_43 rfl rfl ?_
    obtain ⟨v33, ev33, h⟩ := bs h
    refine r_getR C (c := 7) (r := (RX9, TX9, 10)) rfl 3 (by decide) rfl ev33 q383 dX9_writes_44 ?_
    refine r_iload C 5 dX9_writes_47 rfl ?_
    refine r_iconst C dX9_writes_49 ?_
    refine r_iadd C dX9_writes_50 ?_
    obtain ⟨v34, ev34, h⟩ := bs h
    refine r_aald C (kt := 6) ev34 rfl rfl ⟨by decide, by decide⟩ dX9_writes_51 ?_
    obtain ⟨m35, em35, h⟩ := bs h
    refine r_aast C (r := (RX10, TX10, 3)) em35 rfl ⟨by decide, by decide⟩ (kt := 6) rfl (Or.inl rfl) dX9_writes_52 ?_
    refine r_iinc C 5 [(5, vI (x5 + 1)), (0, vO a0), (1, vI x1), (2, vO a2), (3, vO a3), (4, vO a4)] dX9_writes_53 rfl (by decide) rfl ?_
    refine r_goto C dX9_writes_56 (tgt := 28) (by decide) ?_
    cases h
    refine r_sub [1, 2, 3, 4, 5, 0] rfl ?_
    exact hK
noncomputable def s_X9_writes_l28 (a0 : Nat) (x1 : Int) (a2 : Nat) (a3 : Nat) (a4 : Nat) (x5 : Int) (μ : Me) : Option (Me) :=
  whileO (fun s : Int × Me => s_X9_writes_l28_st a0 x1 a2 a3 a4 s.1 s.2) (x5, μ)
theorem e_X9_writes_l28 (a0 : Nat) (x1 : Int) (a2 : Nat) (a3 : Nat) (a4 : Nat) (x5 : Int) (μ : Me) : s_X9_writes_l28 a0 x1 a2 a3 a4 x5 μ = (s_X9_writes_l28_st a0 x1 a2 a3 a4 x5 μ).bind fun x => x.elim (fun s : Int × Me => s_X9_writes_l28 a0 x1 a2 a3 a4 s.1 s.2) some := whileO_eq _ _
theorem w_X9_writes_l28 {Z : Zt} {fin : Me} {w : (Me)} (C : CX Z yX9_writes cX9_writes none 2 6) {a0 : Nat} {x1 : Int} {a2 : Nat} {a3 : Nat} {a4 : Nat} {x5 : Int} {μ : Me} (h : s_X9_writes_l28 a0 x1 a2 a3 a4 x5 μ = some w) (hK : (fun r : Me => r = fin) w) : WL Z (QN Z none fin) μ 28 [(0, vO a0), (1, vI x1), (2, vO a2), (3, vO a3), (4, vO a4), (5, vI x5)] [] := by
  refine whileO_walk (w := w) (fun s : Int × Me => WL Z (QN Z none fin) s.2 28 [(0, vO a0), (1, vI x1), (2, vO a2), (3, vO a3), (4, vO a4), (5, vI s.1)] []) (fun s v h2 hi hr => ?_) (x5, μ) h
  refine w_X9_writes_l28_st (fin := fin) C h2 ?_
  cases v with
  | inl s2 => exact hi s2 rfl
  | inr r => have e := hr r rfl; subst e; exact hK
noncomputable def s_X9_writes (a0 : Nat) (x1 : Int) (a2 : Nat) (a3 : Nat) (μ : Me) : Option (Me) :=
  (gI μ 7 a0 9).bind fun v1 =>
  (pI μ 7 a0 8 v1).bind fun m2 =>
  (gI m2 7 a0 8).bind fun v3 =>
  (if w32 v3 = w32 40 then
  (gR m2 7 a0 3).bind fun v25 =>
  (aR m2 107 v25 0).bind fun v26 =>
  s_X9_writes_l28 a0 x1 a2 a3 v26 0 m2
  else
  s_X9_writes_b78 a0 x1 a2 a3 m2)
theorem w_X9_writes {Z : Zt} {fin : Me} {w : Me} (C : CX Z yX9_writes cX9_writes none 2 6) {a0 : Nat} {x1 : Int} {a2 : Nat} {a3 : Nat} {μ : Me} (h : s_X9_writes a0 x1 a2 a3 μ = some w) (hK : w = fin) : WL Z (QN Z none fin) μ 0 [(0, vO a0), (1, vI x1), (2, vO a2), (3, vO a3)] [] := by
  unfold s_X9_writes at h
  refine r_aload_n C 0 dX9_writes_0 rfl rfl ?_
  refine r_aload_n C 0 dX9_writes_1 rfl rfl ?_
  obtain ⟨v1, ev1, h⟩ := bs h
  refine r_getI C (c := 7) (r := (RX9, TX9, 10)) rfl 9 (by decide) rfl ev1 q395 dX9_writes_2 ?_
  obtain ⟨m2, em2, h⟩ := bs h
  refine r_putI C (c := 7) (r := (RX9, TX9, 10)) rfl 8 (by decide) rfl ⟨rfl, rfl⟩ rfl em2 q393 dX9_writes_5 ?_
  refine r_aload_n C 0 dX9_writes_8 rfl rfl ?_
  obtain ⟨v3, ev3, h⟩ := bs h
  refine r_getI C (c := 7) (r := (RX9, TX9, 10)) rfl 8 (by decide) rfl ev3 q393 dX9_writes_9 ?_
  refine r_bipush C dX9_writes_12 (by decide) ?_
  refine r_icmp_ne C dX9_writes_14 (tgt := 78) (by decide) (fun c4 => ?_) (fun c4 => ?_)
  · have h := ie_ h c4
    exact w_X9_writes_b78 (fin := fin) C h hK
  · have h := it_ h c4
    refine r_aload_n C 0 dX9_writes_17 rfl rfl ?_
    obtain ⟨v25, ev25, h⟩ := bs h
    refine r_getR C (c := 7) (r := (RX9, TX9, 10)) rfl 3 (by decide) rfl ev25 q383 dX9_writes_18 ?_
    refine r_iconst C dX9_writes_21 ?_
    obtain ⟨v26, ev26, h⟩ := bs h
    refine r_aald C (kt := 6) ev26 rfl rfl ⟨by decide, by decide⟩ dX9_writes_22 ?_
    refine r_astore C [(4, vO v26), (0, vO a0), (1, vI x1), (2, vO a2), (3, vO a3)] dX9_writes_23 (by decide) rfl ?_
    refine r_iconst C dX9_writes_25 ?_
    refine r_istore C [(5, vI 0), (4, vO v26), (0, vO a0), (1, vI x1), (2, vO a2), (3, vO a3)] dX9_writes_26 (by decide) rfl ?_
    refine r_sub [2, 3, 4, 5, 1, 0] rfl ?_
    exact w_X9_writes_l28 (fin := fin) C h hK
theorem hdX9_writes : zhd yX9_writes 3 := by decide +kernel
theorem m_X9_writes {l : Launch} {D : va_G} {b0 : Nat} (hl : l.stackTraces = false) {a0 : Nat} {x1 : Int} {a2 : Nat} {a3 : Nat} {μ : Me} {w : Me} (h : s_X9_writes a0 x1 a2 a3 μ = some w) : MN l D b0 yX9_writes (ws_ yX9_writes cX9_writes 6 none) 2 [vO a0, vI x1, vO a2, vO a3] μ none w :=
  MN.of hl (by decide +kernel) (Nat.le_of_ble_eq_true rfl) (fun Z C _ _ => w_X9_writes C h rfl)
noncomputable def s_X1_mix_b57 (a0 : Nat) (x1 : Int) (a3 : Nat) (t0 : Int) (μ : Me) : Option (Ex ⊕ (Int × Me)) :=
  (gR μ 0 a0 2).bind fun v19 =>
  (gR μ 0 a0 5).bind fun v20 =>
  (ck μ 7 v19).bind fun _ =>
  (s_X9_writes v19 x1 a3 v20 μ).bind fun q21 =>
  (gR q21 0 a0 5).bind fun v23 =>
  (ck q21 6 a3).bind fun _ =>
  (s_X8_be a3 v23 q21).bind fun q24 =>
  (bz2 t0).bind fun _ =>
  some (.inr (t0, q24))
theorem w_X1_mix_b57 {Z : Zt} {fin : Ex ⊕ (Int × Me)} {w : (Ex ⊕ (Int × Me))} (C : CX Z yX1_mix cX1_mix (some .boolean) 8 6) (X : XE Z) {a0 : Nat} {x1 : Int} {a3 : Nat} {t0 : Int} {μ : Me} (h : s_X1_mix_b57 a0 x1 a3 t0 μ = some w) (hK : (fun r : Ex ⊕ (Int × Me) => r = fin) w) : WL Z (XQ Z (zoI fin) (zmI fin)) μ 57 [(0, vO a0), (1, vI x1), (3, vO a3)] [vI t0] := by
  unfold s_X1_mix_b57 at h
  refine r_istore C [(5, vI t0), (0, vO a0), (1, vI x1), (3, vO a3)] dX1_mix_57 (by decide) rfl ?_
  refine r_aload_n C 1 dX1_mix_59 rfl rfl ?_
  obtain ⟨v19, ev19, h⟩ := bs h
  refine r_getR C (c := 0) (r := (RX1, TX1, 19)) rfl 2 (by decide) rfl ev19 q426 dX1_mix_60 ?_
  refine r_iload_n C 2 dX1_mix_63 rfl rfl ?_
  refine r_aload_n C 3 dX1_mix_64 rfl rfl ?_
  refine r_aload_n C 1 dX1_mix_65 rfl rfl ?_
  obtain ⟨v20, ev20, h⟩ := bs h
  refine r_getR C (c := 0) (r := (RX1, TX1, 19)) rfl 5 (by decide) rfl ev20 q433 dX1_mix_66 ?_
  obtain ⟨u22, eu22, h⟩ := bs h
  obtain ⟨q21, eq21, h⟩ := bs h
  refine r_callV C (As := [vI x1, vO a3, vO v20]) (b := v19) (rest := []) (st1 := []) (v := none) (r := (RX9, TX9, 10)) (ci := 7) rfl eu22 (m_X9_writes C.tr eq21) (lw_V q873 q874 q875 q131 q876) rfl hdX9_writes rfl rfl (Nat.le_of_ble_eq_true rfl) ⟨by decide, by decide⟩ dX1_mix_69 rfl ?_
  refine r_aload_n C 3 dX1_mix_72 rfl rfl ?_
  refine r_aload_n C 1 dX1_mix_73 rfl rfl ?_
  obtain ⟨v23, ev23, h⟩ := bs h
  refine r_getR C (c := 0) (r := (RX1, TX1, 19)) rfl 5 (by decide) rfl ev23 q433 dX1_mix_74 ?_
  obtain ⟨u25, eu25, h⟩ := bs h
  obtain ⟨q24, eq24, h⟩ := bs h
  refine r_callV C (As := [vO v23]) (b := a3) (rest := []) (st1 := []) (v := none) (r := (RX8, TX8, 2)) (ci := 6) rfl eu25 (m_X8_be C.tr eq24) (lw_V q510 q511 q512 q130 q513) rfl hdX8_be rfl rfl (Nat.le_of_ble_eq_true rfl) ⟨by decide, by decide⟩ dX1_mix_77 rfl ?_
  refine r_iload C 0 dX1_mix_80 rfl ?_
  obtain ⟨u26, eu26, h⟩ := bs h
  cases h
  exact r_xzret C (bz2_ok eu26) hK dX1_mix_82
noncomputable def s_X1_mix (a0 : Nat) (x1 : Int) (x2 : Int) (μ : Me) : Option (Ex ⊕ (Int × Me)) :=
  (ck μ 0 a0).bind fun _ =>
  xb (s_X1_formAt a0 x1 μ) (fun e2 => some (.inl e2)) fun q1 =>
  (ck q1.2 0 a0).bind fun _ =>
  xb (s_X1_tableAt a0 x2 q1.2) (fun e5 => some (.inl e5)) fun q4 =>
  (gR q4.2 0 a0 1).bind fun v7 =>
  (aI q4.2 101 q4.1 0).bind fun v8 =>
  (aI q4.2 101 q4.1 1).bind fun v9 =>
  (aI q4.2 101 q4.1 2).bind fun v10 =>
  (aI q4.2 101 q4.1 3).bind fun v11 =>
  (gR q4.2 0 a0 5).bind fun v12 =>
  (ck q4.2 4 v7).bind fun _ =>
  (s_X6_mixed v7 q1.1 v8 v9 v10 v11 v12 q4.2).bind fun q13 =>
  (gR q13 0 a0 5).bind fun v15 =>
  (ck q13 6 v15).bind fun _ =>
  (s_X8_same v15 q1.1 q13).bind fun q16 =>
  (if w32 q16.1 = 0 then
  s_X1_mix_b57 a0 x1 q1.1 1 q16.2
  else
  s_X1_mix_b57 a0 x1 q1.1 0 q16.2)
theorem w_X1_mix {Z : Zt} {fin : Ex ⊕ (Int × Me)} {w : Ex ⊕ (Int × Me)} (C : CX Z yX1_mix cX1_mix (some .boolean) 8 6) (X : XE Z) {a0 : Nat} {x1 : Int} {x2 : Int} {μ : Me} (h : s_X1_mix a0 x1 x2 μ = some w) (hK : w = fin) : WL Z (XQ Z (zoI fin) (zmI fin)) μ 0 [(0, vO a0), (1, vI x1), (2, vI x2)] [] := by
  unfold s_X1_mix at h
  refine r_aload_n C 0 dX1_mix_0 rfl rfl ?_
  refine r_iload_n C 1 dX1_mix_1 rfl rfl ?_
  obtain ⟨u3, eu3, h⟩ := bs h
  rcases xbs h with ⟨e2, eq1, h⟩ | ⟨q1, eq1, h⟩
  · refine r_xVx C (As := [vI x1]) (b := a0) (rest := []) (μ1 := e2.2.2) (r := (RX1, TX1, 19)) (ci := 0) rfl eu3 (m_X1_formAt C.tr eq1) (lw_V q799 q801 qs15 q120 q802) rfl hdX1_formAt rfl rfl (Nat.le_of_ble_eq_true rfl) ⟨by decide, by decide⟩ dX1_mix_2 ?_
    cases h
    exact r_xoutI C X hK
  · refine r_xV C (As := [vI x1]) (b := a0) (rest := []) (st1 := [vO q1.1]) (v := some (vO q1.1)) (μ1 := q1.2) (r := (RX1, TX1, 19)) (ci := 0) rfl eu3 (m_X1_formAt C.tr eq1) (lw_V q799 q801 qs15 q120 q802) rfl hdX1_formAt rfl rfl (Nat.le_of_ble_eq_true rfl) ⟨by decide, by decide⟩ dX1_mix_2 rfl ?_
    refine r_astore_n C [(3, vO q1.1), (0, vO a0), (1, vI x1), (2, vI x2)] dX1_mix_5 rfl (by decide) rfl ?_
    refine r_aload_n C 1 dX1_mix_6 rfl rfl ?_
    refine r_iload_n C 3 dX1_mix_7 rfl rfl ?_
    obtain ⟨u6, eu6, h⟩ := bs h
    rcases xbs h with ⟨e5, eq4, h⟩ | ⟨q4, eq4, h⟩
    · refine r_xVx C (As := [vI x2]) (b := a0) (rest := []) (μ1 := e5.2.2) (r := (RX1, TX1, 19)) (ci := 0) rfl eu6 (m_X1_tableAt C.tr eq4) (lw_V q848 q850 qs16 q120 q851) rfl hdX1_tableAt rfl rfl (Nat.le_of_ble_eq_true rfl) ⟨by decide, by decide⟩ dX1_mix_8 ?_
      cases h
      exact r_xoutI C X hK
    · refine r_xV C (As := [vI x2]) (b := a0) (rest := []) (st1 := [vO q4.1]) (v := some (vO q4.1)) (μ1 := q4.2) (r := (RX1, TX1, 19)) (ci := 0) rfl eu6 (m_X1_tableAt C.tr eq4) (lw_V q848 q850 qs16 q120 q851) rfl hdX1_tableAt rfl rfl (Nat.le_of_ble_eq_true rfl) ⟨by decide, by decide⟩ dX1_mix_8 rfl ?_
      refine r_astore C [(4, vO q4.1), (3, vO q1.1), (0, vO a0), (1, vI x1), (2, vI x2)] dX1_mix_11 (by decide) rfl ?_
      refine r_aload_n C 2 dX1_mix_13 rfl rfl ?_
      obtain ⟨v7, ev7, h⟩ := bs h
      refine r_getR C (c := 0) (r := (RX1, TX1, 19)) rfl 1 (by decide) rfl ev7 q422 dX1_mix_14 ?_
      refine r_aload_n C 1 dX1_mix_17 rfl rfl ?_
      refine r_aload C 0 dX1_mix_18 rfl ?_
      refine r_iconst C dX1_mix_20 ?_
      obtain ⟨v8, ev8, h⟩ := bs h
      refine r_iald C ev8 dX1_mix_21 ?_
      refine r_aload C 0 dX1_mix_22 rfl ?_
      refine r_iconst C dX1_mix_24 ?_
      obtain ⟨v9, ev9, h⟩ := bs h
      refine r_iald C ev9 dX1_mix_25 ?_
      refine r_aload C 0 dX1_mix_26 rfl ?_
      refine r_iconst C dX1_mix_28 ?_
      obtain ⟨v10, ev10, h⟩ := bs h
      refine r_iald C ev10 dX1_mix_29 ?_
      refine r_aload C 0 dX1_mix_30 rfl ?_
      refine r_iconst C dX1_mix_32 ?_
      obtain ⟨v11, ev11, h⟩ := bs h
      refine r_iald C ev11 dX1_mix_33 ?_
      refine r_aload_n C 2 dX1_mix_34 rfl rfl ?_
      obtain ⟨v12, ev12, h⟩ := bs h
      refine r_getR C (c := 0) (r := (RX1, TX1, 19)) rfl 5 (by decide) rfl ev12 q433 dX1_mix_35 ?_
      obtain ⟨u14, eu14, h⟩ := bs h
      obtain ⟨q13, eq13, h⟩ := bs h
      refine r_callV C (As := [vO q1.1, vI v8, vI v9, vI v10, vI v11, vO v12]) (b := v7) (rest := []) (st1 := []) (v := none) (r := (RX6, TX6, 6)) (ci := 4) rfl eu14 (m_X6_mixed C.tr eq13) (lw_V q859 q860 q861 q128 q862) rfl hdX6_mixed rfl rfl (Nat.le_of_ble_eq_true rfl) ⟨by decide, by decide⟩ dX1_mix_38 rfl ?_
      refine r_aload_n C 2 dX1_mix_41 rfl rfl ?_
      obtain ⟨v15, ev15, h⟩ := bs h
      refine r_getR C (c := 0) (r := (RX1, TX1, 19)) rfl 5 (by decide) rfl ev15 q433 dX1_mix_42 ?_
      refine r_aload_n C 1 dX1_mix_45 rfl rfl ?_
      obtain ⟨u17, eu17, h⟩ := bs h
      obtain ⟨q16, eq16, h⟩ := bs h
      refine r_callV C (As := [vO q1.1]) (b := v15) (rest := []) (st1 := [vI q16.1]) (v := some (vI q16.1)) (r := (RX8, TX8, 2)) (ci := 6) rfl eu17 (m_X8_same C.tr eq16) (lw_V q869 q870 q871 q130 q872) rfl hdX8_same rfl rfl (Nat.le_of_ble_eq_true rfl) ⟨by decide, by decide⟩ dX1_mix_46 rfl ?_
      refine r_if_ne C dX1_mix_49 (tgt := 56) (by decide) (fun c18 => ?_) (fun c18 => ?_)
      · have h := ie_ h c18
        refine r_iconst C dX1_mix_56 ?_
        refine r_sub [2, 3, 1] rfl ?_
        exact w_X1_mix_b57 (fin := fin) C X h hK
      · have h := it_ h c18
        refine r_iconst C dX1_mix_52 ?_
        refine r_goto C dX1_mix_53 (tgt := 57) (by decide) ?_
        refine r_sub [2, 3, 1] rfl ?_
        exact w_X1_mix_b57 (fin := fin) C X h hK
theorem hdX1_mix : zhd yX1_mix 2 := by decide +kernel
theorem m_X1_mix {l : Launch} {D : va_G} {b0 : Nat} (hl : l.stackTraces = false) {a0 : Nat} {x1 : Int} {x2 : Int} {μ : Me} {w : Ex ⊕ (Int × Me)} (h : s_X1_mix a0 x1 x2 μ = some w) : XN l D b0 yX1_mix (ws_ yX1_mix cX1_mix 6 (some .boolean)) 8 [vO a0, vI x1, vI x2] μ (zoI w) (zmI w) :=
  XN.of hl (by decide +kernel) (Nat.le_of_ble_eq_true rfl) (fun Z C X _ _ => w_X1_mix C X h rfl)
noncomputable def s_X1_signAt (a0 : Nat) (x1 : Int) (μ : Me) : Option (Ex ⊕ (Nat × Me)) :=
  (gR μ 0 a0 2).bind fun v1 =>
  (gI μ 7 v1 7).bind fun v2 =>
  (s_X1_isIn (w32 x1) 0 (w32 (v2 - 1)) μ).bind fun q3 =>
  xb (s_X1_mustBe q3.1 q3.2) (fun e5 => some (.inl e5)) fun q4 =>
  (gR q4 0 a0 2).bind fun v6 =>
  (gR q4 7 v6 2).bind fun v7 =>
  (aR q4 106 v7 x1).bind fun v8 =>
  some (.inr (v8, q4))
theorem w_X1_signAt {Z : Zt} {fin : Ex ⊕ (Nat × Me)} {w : Ex ⊕ (Nat × Me)} (C : CX Z yX1_signAt cX1_signAt (some (.object "LetterForms$Sign")) 7 2) (X : XE Z) {a0 : Nat} {x1 : Int} {μ : Me} (h : s_X1_signAt a0 x1 μ = some w) (hK : w = fin) : WL Z (XQ Z (zoA fin) (zmI fin)) μ 0 [(0, vO a0), (1, vI x1)] [] := by
  unfold s_X1_signAt at h
  refine r_iload_n C 1 dX1_signAt_0 rfl rfl ?_
  refine r_i2l C dX1_signAt_1 ?_
  refine r_lconst (v := 0) C dX1_signAt_2 (by decide) ?_
  refine r_aload_n C 0 dX1_signAt_3 rfl rfl ?_
  obtain ⟨v1, ev1, h⟩ := bs h
  refine r_getR C (c := 0) (r := (RX1, TX1, 19)) rfl 2 (by decide) rfl ev1 q426 dX1_signAt_4 ?_
  obtain ⟨v2, ev2, h⟩ := bs h
  refine r_getIN C (c := 7) (r := (RX9, TX9, 10)) rfl 7 (by decide) rfl ev2 (lw_n q392 rfl) dX1_signAt_7 ?_
  refine r_iconst C dX1_signAt_10 ?_
  refine r_isub C dX1_signAt_11 ?_
  refine r_i2l C dX1_signAt_12 ?_
  obtain ⟨q3, eq3, h⟩ := bs h
  refine r_callS C (As := [vJ (w32 x1), vJ 0, vJ (w32 (v2 - 1))]) (rest := []) (st1 := [vI q3.1]) (v := some (vI q3.1)) (m_X1_isIn C.tr eq3) (lw_S q499 q500 q120 q501) hdX1_isIn rfl rfl (Nat.le_of_ble_eq_true rfl) ⟨by decide, by decide⟩ dX1_signAt_13 rfl ?_
  rcases xbs h with ⟨e5, eq4, h⟩ | ⟨q4, eq4, h⟩
  · refine r_xSx C (As := [vI q3.1]) (rest := []) (μ1 := e5.2.2) (m_X1_mustBe C.tr eq4) (lw_S q803 q804 q120 q805) hdX1_mustBe rfl rfl (Nat.le_of_ble_eq_true rfl) ⟨by decide, by decide⟩ dX1_signAt_16 ?_
    cases h
    exact r_xoutA C X hK
  · refine r_xS C (As := [vI q3.1]) (rest := []) (st1 := []) (v := none) (μ1 := q4) (m_X1_mustBe C.tr eq4) (lw_S q803 q804 q120 q805) hdX1_mustBe rfl rfl (Nat.le_of_ble_eq_true rfl) ⟨by decide, by decide⟩ dX1_signAt_16 rfl ?_
    refine r_aload_n C 0 dX1_signAt_19 rfl rfl ?_
    obtain ⟨v6, ev6, h⟩ := bs h
    refine r_getR C (c := 0) (r := (RX1, TX1, 19)) rfl 2 (by decide) rfl ev6 q426 dX1_signAt_20 ?_
    obtain ⟨v7, ev7, h⟩ := bs h
    refine r_getRN C (c := 7) (r := (RX9, TX9, 10)) rfl 2 (by decide) rfl ev7 (lw_n q382 rfl) dX1_signAt_23 ?_
    refine r_iload_n C 1 dX1_signAt_26 rfl rfl ?_
    obtain ⟨v8, ev8, h⟩ := bs h
    refine r_aald C (kt := 5) ev8 rfl rfl ⟨by decide, by decide⟩ dX1_signAt_27 ?_
    cases h
    exact r_xaret C (Or.inl ⟨_, rfl⟩) hK dX1_signAt_28
theorem hdX1_signAt : zhd yX1_signAt 1 := by decide +kernel
theorem m_X1_signAt {l : Launch} {D : va_G} {b0 : Nat} (hl : l.stackTraces = false) {a0 : Nat} {x1 : Int} {μ : Me} {w : Ex ⊕ (Nat × Me)} (h : s_X1_signAt a0 x1 μ = some w) : XN l D b0 yX1_signAt (ws_ yX1_signAt cX1_signAt 2 (some (.object "LetterForms$Sign"))) 7 [vO a0, vI x1] μ (zoA w) (zmI w) :=
  XN.of hl (by decide +kernel) (Nat.le_of_ble_eq_true rfl) (fun Z C X _ _ => w_X1_signAt C X h rfl)
noncomputable def s_X1_independent_b207 (a0 : Nat) (x1 : Int) (x2 : Int) (x3 : Int) (x4 : Int)  (μ : Me) : Option ((Int × Int × Me) ⊕ (Int × Me)) :=
  some (.inl ((x3 + 1), (x4 + 1), μ))
theorem w_X1_independent_b207 {Z : Zt} {fin : Int × Me} {w : ((Int × Int × Me) ⊕ (Int × Me))} (C : CX Z yX1_independent cX1_independent (some .int) 4 11) {a0 : Nat} {x1 : Int} {x2 : Int} {x3 : Int} {x4 : Int}  {μ : Me} (h : s_X1_independent_b207 a0 x1 x2 x3 x4 μ = some w) (hK : (Sum.elim (fun s : Int × Int × Me => WL Z (QN Z (some (vI fin.1)) fin.2) s.2.2 5 [(0, vO a0), (1, vI x1), (2, vI x2), (3, vI s.1), (4, vI s.2.1)] []) (fun r : Int × Me => r = fin)) w) : WL Z (QN Z (some (vI fin.1)) fin.2) μ 207 [(0, vO a0), (1, vI x1), (2, vI x2), (3, vI x3), (4, vI x4)] [] := by
  unfold s_X1_independent_b207 at h
  refine r_iinc C 3 [(3, vI (x3 + 1)), (0, vO a0), (1, vI x1), (2, vI x2), (4, vI x4)] dX1_independent_207 rfl (by decide) rfl ?_
  refine r_iinc C 4 [(4, vI (x4 + 1)), (3, vI (x3 + 1)), (0, vO a0), (1, vI x1), (2, vI x2)] dX1_independent_210 rfl (by decide) rfl ?_
  refine r_goto C dX1_independent_213 (tgt := 5) (by decide) ?_
  cases h
  refine r_sub [2, 3, 4, 1, 0] rfl ?_
  exact hK
noncomputable def s_X1_independent_l142_st (a0 : Nat) (x1 : Int) (x2 : Int) (x3 : Int) (x4 : Int) (a6 : Nat) (x7 : Int) (x8 : Int) (x9 : Int) (x10 : Int) (μ : Me) : Option ((Int × Me) ⊕ ((Int × Me) ⊕ ((Int × Int × Me) ⊕ (Int × Me)))) :=
  (if w32 x2 ≤ w32 x10 then
  some (.inr (.inl ((x8 + 1), μ)))
  else
  (if w32 x9 = 0 then
  some (.inr (.inl ((x8 + 1), μ)))
  else
  (gR μ 0 a0 9).bind fun v28 =>
  (aR μ 105 v28 x8).bind fun v29 =>
  (gR μ 0 a0 1).bind fun v30 =>
  (gR μ 4 v30 0).bind fun v31 =>
  (gR μ 0 a0 9).bind fun v32 =>
  (aR μ 105 v32 x8).bind fun v33 =>
  (aI μ 101 v33 x10).bind fun v34 =>
  (aI μ 101 a6 x10).bind fun v35 =>
  (ck μ 5 v31).bind fun _ =>
  (s_X7_of v31 ((w32 v34) - ((w32 x9) * (w32 v35))) μ).bind fun q36 =>
  (uI q36.2 v29 x10 q36.1).bind fun m38 =>
  some (.inl ((x10 + 1), m38))))
theorem w_X1_independent_l142_st {Z : Zt} {fin : Int × Me} {w : ((Int × Me) ⊕ ((Int × Me) ⊕ ((Int × Int × Me) ⊕ (Int × Me))))} (C : CX Z yX1_independent cX1_independent (some .int) 4 11) {a0 : Nat} {x1 : Int} {x2 : Int} {x3 : Int} {x4 : Int} {a6 : Nat} {x7 : Int} {x8 : Int} {x9 : Int} {x10 : Int} {μ : Me} (h : s_X1_independent_l142_st a0 x1 x2 x3 x4 a6 x7 x8 x9 x10 μ = some w) (hK : (Sum.elim (fun s : Int × Me => WL Z (QN Z (some (vI fin.1)) fin.2) s.2 142 [(0, vO a0), (1, vI x1), (2, vI x2), (3, vI x3), (4, vI x4), (6, vO a6), (7, vI x7), (8, vI x8), (9, vI x9), (10, vI s.1)] []) (Sum.elim (fun s : Int × Me => WL Z (QN Z (some (vI fin.1)) fin.2) s.2 105 [(0, vO a0), (1, vI x1), (2, vI x2), (3, vI x3), (4, vI x4), (6, vO a6), (7, vI x7), (8, vI s.1)] []) (Sum.elim (fun s : Int × Int × Me => WL Z (QN Z (some (vI fin.1)) fin.2) s.2.2 5 [(0, vO a0), (1, vI x1), (2, vI x2), (3, vI s.1), (4, vI s.2.1)] []) (fun r : Int × Me => r = fin)))) w) : WL Z (QN Z (some (vI fin.1)) fin.2) μ 142 [(0, vO a0), (1, vI x1), (2, vI x2), (3, vI x3), (4, vI x4), (6, vO a6), (7, vI x7), (8, vI x8), (9, vI x9), (10, vI x10)] [] := by
  unfold s_X1_independent_l142_st at h
  refine r_iload C 9 dX1_independent_142 rfl ?_
  refine r_iload_n C 2 dX1_independent_144 rfl rfl ?_
  refine r_icmp_ge C dX1_independent_145 (tgt := 201) (by decide) (fun c26 => ?_) (fun c26 => ?_)
  · have h := it_ h c26
    refine r_iinc C 7 [(8, vI (x8 + 1)), (0, vO a0), (1, vI x1), (2, vI x2), (3, vI x3), (4, vI x4), (6, vO a6), (7, vI x7), (9, vI x9), (10, vI x10)] dX1_independent_201 rfl (by decide) rfl ?_
    refine r_goto C dX1_independent_204 (tgt := 105) (by decide) ?_
    cases h
    refine r_sub [1, 2, 3, 4, 5, 6, 7, 0] rfl ?_
    exact hK
  · have h := ie_ h c26
    refine r_iload C 8 dX1_independent_148 rfl ?_
    refine r_if_eq C dX1_independent_150 (tgt := 201) (by decide) (fun c27 => ?_) (fun c27 => ?_)
    · have h := it_ h c27
      refine r_iinc C 7 [(8, vI (x8 + 1)), (0, vO a0), (1, vI x1), (2, vI x2), (3, vI x3), (4, vI x4), (6, vO a6), (7, vI x7), (9, vI x9), (10, vI x10)] dX1_independent_201 rfl (by decide) rfl ?_
      refine r_goto C dX1_independent_204 (tgt := 105) (by decide) ?_
      cases h
      refine r_sub [1, 2, 3, 4, 5, 6, 7, 0] rfl ?_
      exact hK
    · have h := ie_ h c27
      refine r_aload_n C 0 dX1_independent_153 rfl rfl ?_
      obtain ⟨v28, ev28, h⟩ := bs h
      refine r_getR C (c := 0) (r := (RX1, TX1, 19)) rfl 9 (by decide) rfl ev28 q437 dX1_independent_154 ?_
      refine r_iload C 7 dX1_independent_157 rfl ?_
      obtain ⟨v29, ev29, h⟩ := bs h
      refine r_aald C (kt := 4) ev29 rfl rfl ⟨by decide, by decide⟩ dX1_independent_159 ?_
      refine r_iload C 9 dX1_independent_160 rfl ?_
      refine r_aload_n C 0 dX1_independent_162 rfl rfl ?_
      obtain ⟨v30, ev30, h⟩ := bs h
      refine r_getR C (c := 0) (r := (RX1, TX1, 19)) rfl 1 (by decide) rfl ev30 q422 dX1_independent_163 ?_
      obtain ⟨v31, ev31, h⟩ := bs h
      refine r_getRN C (c := 4) (r := (RX6, TX6, 6)) rfl 0 (by decide) rfl ev31 (lw_n q320 rfl) dX1_independent_166 ?_
      refine r_aload_n C 0 dX1_independent_169 rfl rfl ?_
      obtain ⟨v32, ev32, h⟩ := bs h
      refine r_getR C (c := 0) (r := (RX1, TX1, 19)) rfl 9 (by decide) rfl ev32 q437 dX1_independent_170 ?_
      refine r_iload C 7 dX1_independent_173 rfl ?_
      obtain ⟨v33, ev33, h⟩ := bs h
      refine r_aald C (kt := 4) ev33 rfl rfl ⟨by decide, by decide⟩ dX1_independent_175 ?_
      refine r_iload C 9 dX1_independent_176 rfl ?_
      obtain ⟨v34, ev34, h⟩ := bs h
      refine r_iald C ev34 dX1_independent_178 ?_
      refine r_i2l C dX1_independent_179 ?_
      refine r_iload C 8 dX1_independent_180 rfl ?_
      refine r_i2l C dX1_independent_182 ?_
      refine r_aload C 5 dX1_independent_183 rfl ?_
      refine r_iload C 9 dX1_independent_185 rfl ?_
      obtain ⟨v35, ev35, h⟩ := bs h
      refine r_iald C ev35 dX1_independent_187 ?_
      refine r_i2l C dX1_independent_188 ?_
      refine r_lmul C dX1_independent_189 ?_
      refine r_lsub C dX1_independent_190 ?_
      obtain ⟨u37, eu37, h⟩ := bs h
      obtain ⟨q36, eq36, h⟩ := bs h
      refine r_callV C (As := [vJ ((w32 v34) - ((w32 x9) * (w32 v35)))]) (b := v31) (rest := [vI x10, vO v29]) (st1 := [vI q36.1, vI x10, vO v29]) (v := some (vI q36.1)) (r := (RX7, TX7, 1)) (ci := 5) rfl eu37 (m_X7_of C.tr eq36) (lw_V q631 q632 q633 q129 q634) rfl hdX7_of rfl rfl (Nat.le_of_ble_eq_true rfl) ⟨by decide, by decide⟩ dX1_independent_191 rfl ?_
      obtain ⟨m38, em38, h⟩ := bs h
      refine r_iast C em38 dX1_independent_194 ?_
      refine r_iinc C 9 [(10, vI (x10 + 1)), (0, vO a0), (1, vI x1), (2, vI x2), (3, vI x3), (4, vI x4), (6, vO a6), (7, vI x7), (8, vI x8), (9, vI x9)] dX1_independent_195 rfl (by decide) rfl ?_
      refine r_goto C dX1_independent_198 (tgt := 142) (by decide) ?_
      cases h
      refine r_sub [1, 2, 3, 4, 5, 6, 7, 8, 9, 0] rfl ?_
      exact hK
noncomputable def s_X1_independent_l142 (a0 : Nat) (x1 : Int) (x2 : Int) (x3 : Int) (x4 : Int) (a6 : Nat) (x7 : Int) (x8 : Int) (x9 : Int) (x10 : Int) (μ : Me) : Option ((Int × Me) ⊕ ((Int × Int × Me) ⊕ (Int × Me))) :=
  whileO (fun s : Int × Me => s_X1_independent_l142_st a0 x1 x2 x3 x4 a6 x7 x8 x9 s.1 s.2) (x10, μ)
theorem e_X1_independent_l142 (a0 : Nat) (x1 : Int) (x2 : Int) (x3 : Int) (x4 : Int) (a6 : Nat) (x7 : Int) (x8 : Int) (x9 : Int) (x10 : Int) (μ : Me) : s_X1_independent_l142 a0 x1 x2 x3 x4 a6 x7 x8 x9 x10 μ = (s_X1_independent_l142_st a0 x1 x2 x3 x4 a6 x7 x8 x9 x10 μ).bind fun x => x.elim (fun s : Int × Me => s_X1_independent_l142 a0 x1 x2 x3 x4 a6 x7 x8 x9 s.1 s.2) some := whileO_eq _ _
theorem w_X1_independent_l142 {Z : Zt} {fin : Int × Me} {w : ((Int × Me) ⊕ ((Int × Int × Me) ⊕ (Int × Me)))} (C : CX Z yX1_independent cX1_independent (some .int) 4 11) {a0 : Nat} {x1 : Int} {x2 : Int} {x3 : Int} {x4 : Int} {a6 : Nat} {x7 : Int} {x8 : Int} {x9 : Int} {x10 : Int} {μ : Me} (h : s_X1_independent_l142 a0 x1 x2 x3 x4 a6 x7 x8 x9 x10 μ = some w) (hK : (Sum.elim (fun s : Int × Me => WL Z (QN Z (some (vI fin.1)) fin.2) s.2 105 [(0, vO a0), (1, vI x1), (2, vI x2), (3, vI x3), (4, vI x4), (6, vO a6), (7, vI x7), (8, vI s.1)] []) (Sum.elim (fun s : Int × Int × Me => WL Z (QN Z (some (vI fin.1)) fin.2) s.2.2 5 [(0, vO a0), (1, vI x1), (2, vI x2), (3, vI s.1), (4, vI s.2.1)] []) (fun r : Int × Me => r = fin))) w) : WL Z (QN Z (some (vI fin.1)) fin.2) μ 142 [(0, vO a0), (1, vI x1), (2, vI x2), (3, vI x3), (4, vI x4), (6, vO a6), (7, vI x7), (8, vI x8), (9, vI x9), (10, vI x10)] [] := by
  refine whileO_walk (w := w) (fun s : Int × Me => WL Z (QN Z (some (vI fin.1)) fin.2) s.2 142 [(0, vO a0), (1, vI x1), (2, vI x2), (3, vI x3), (4, vI x4), (6, vO a6), (7, vI x7), (8, vI x8), (9, vI x9), (10, vI s.1)] []) (fun s v h2 hi hr => ?_) (x10, μ) h
  refine w_X1_independent_l142_st (fin := fin) C h2 ?_
  cases v with
  | inl s2 => exact hi s2 rfl
  | inr r => have e := hr r rfl; subst e; exact hK
noncomputable def s_X1_independent_l105_st (a0 : Nat) (x1 : Int) (x2 : Int) (x3 : Int) (x4 : Int) (a6 : Nat) (x7 : Int) (x8 : Int) (μ : Me) : Option ((Int × Me) ⊕ ((Int × Int × Me) ⊕ (Int × Me))) :=
  (if w32 x1 ≤ w32 x8 then
  (s_X1_independent_b207 a0 x1 x2 x3 x4 μ).map Sum.inr
  else
  (gR μ 0 a0 1).bind fun v19 =>
  (gR μ 4 v19 0).bind fun v20 =>
  (gR μ 0 a0 9).bind fun v21 =>
  (aR μ 105 v21 x8).bind fun v22 =>
  (aI μ 101 v22 x4).bind fun v23 =>
  (ck μ 5 v20).bind fun _ =>
  (s_X7_of v20 ((w32 v23) * (w32 x7)) μ).bind fun q24 =>
  s_X1_independent_l142 a0 x1 x2 x3 x4 a6 x7 x8 q24.1 x4 q24.2)
theorem w_X1_independent_l105_st {Z : Zt} {fin : Int × Me} {w : ((Int × Me) ⊕ ((Int × Int × Me) ⊕ (Int × Me)))} (C : CX Z yX1_independent cX1_independent (some .int) 4 11) {a0 : Nat} {x1 : Int} {x2 : Int} {x3 : Int} {x4 : Int} {a6 : Nat} {x7 : Int} {x8 : Int} {μ : Me} (h : s_X1_independent_l105_st a0 x1 x2 x3 x4 a6 x7 x8 μ = some w) (hK : (Sum.elim (fun s : Int × Me => WL Z (QN Z (some (vI fin.1)) fin.2) s.2 105 [(0, vO a0), (1, vI x1), (2, vI x2), (3, vI x3), (4, vI x4), (6, vO a6), (7, vI x7), (8, vI s.1)] []) (Sum.elim (fun s : Int × Int × Me => WL Z (QN Z (some (vI fin.1)) fin.2) s.2.2 5 [(0, vO a0), (1, vI x1), (2, vI x2), (3, vI s.1), (4, vI s.2.1)] []) (fun r : Int × Me => r = fin))) w) : WL Z (QN Z (some (vI fin.1)) fin.2) μ 105 [(0, vO a0), (1, vI x1), (2, vI x2), (3, vI x3), (4, vI x4), (6, vO a6), (7, vI x7), (8, vI x8)] [] := by
  unfold s_X1_independent_l105_st at h
  refine r_iload C 7 dX1_independent_105 rfl ?_
  refine r_iload_n C 1 dX1_independent_107 rfl rfl ?_
  refine r_icmp_ge C dX1_independent_108 (tgt := 207) (by decide) (fun c18 => ?_) (fun c18 => ?_)
  · have h := it_ h c18
    obtain ⟨z, hz, ez⟩ := ms_ h; clear h; subst ez; have h := hz; clear hz
    refine r_sub [0, 1, 2, 3, 4] rfl ?_
    exact w_X1_independent_b207 (fin := fin) C h hK
  · have h := ie_ h c18
    refine r_aload_n C 0 dX1_independent_111 rfl rfl ?_
    obtain ⟨v19, ev19, h⟩ := bs h
    refine r_getR C (c := 0) (r := (RX1, TX1, 19)) rfl 1 (by decide) rfl ev19 q422 dX1_independent_112 ?_
    obtain ⟨v20, ev20, h⟩ := bs h
    refine r_getRN C (c := 4) (r := (RX6, TX6, 6)) rfl 0 (by decide) rfl ev20 (lw_n q320 rfl) dX1_independent_115 ?_
    refine r_aload_n C 0 dX1_independent_118 rfl rfl ?_
    obtain ⟨v21, ev21, h⟩ := bs h
    refine r_getR C (c := 0) (r := (RX1, TX1, 19)) rfl 9 (by decide) rfl ev21 q437 dX1_independent_119 ?_
    refine r_iload C 7 dX1_independent_122 rfl ?_
    obtain ⟨v22, ev22, h⟩ := bs h
    refine r_aald C (kt := 4) ev22 rfl rfl ⟨by decide, by decide⟩ dX1_independent_124 ?_
    refine r_iload C 4 dX1_independent_125 rfl ?_
    obtain ⟨v23, ev23, h⟩ := bs h
    refine r_iald C ev23 dX1_independent_127 ?_
    refine r_i2l C dX1_independent_128 ?_
    refine r_iload C 6 dX1_independent_129 rfl ?_
    refine r_i2l C dX1_independent_131 ?_
    refine r_lmul C dX1_independent_132 ?_
    obtain ⟨u25, eu25, h⟩ := bs h
    obtain ⟨q24, eq24, h⟩ := bs h
    refine r_callV C (As := [vJ ((w32 v23) * (w32 x7))]) (b := v20) (rest := []) (st1 := [vI q24.1]) (v := some (vI q24.1)) (r := (RX7, TX7, 1)) (ci := 5) rfl eu25 (m_X7_of C.tr eq24) (lw_V q631 q632 q633 q129 q634) rfl hdX7_of rfl rfl (Nat.le_of_ble_eq_true rfl) ⟨by decide, by decide⟩ dX1_independent_133 rfl ?_
    refine r_istore C [(9, vI q24.1), (0, vO a0), (1, vI x1), (2, vI x2), (3, vI x3), (4, vI x4), (6, vO a6), (7, vI x7), (8, vI x8)] dX1_independent_136 (by decide) rfl ?_
    refine r_iload C 5 dX1_independent_138 rfl ?_
    refine r_istore C [(10, vI x4), (9, vI q24.1), (0, vO a0), (1, vI x1), (2, vI x2), (3, vI x3), (4, vI x4), (6, vO a6), (7, vI x7), (8, vI x8)] dX1_independent_140 (by decide) rfl ?_
    refine r_sub [2, 3, 4, 5, 6, 7, 8, 9, 1, 0] rfl ?_
    exact w_X1_independent_l142 (fin := fin) C h hK
noncomputable def s_X1_independent_l105 (a0 : Nat) (x1 : Int) (x2 : Int) (x3 : Int) (x4 : Int) (a6 : Nat) (x7 : Int) (x8 : Int) (μ : Me) : Option ((Int × Int × Me) ⊕ (Int × Me)) :=
  whileO (fun s : Int × Me => s_X1_independent_l105_st a0 x1 x2 x3 x4 a6 x7 s.1 s.2) (x8, μ)
theorem e_X1_independent_l105 (a0 : Nat) (x1 : Int) (x2 : Int) (x3 : Int) (x4 : Int) (a6 : Nat) (x7 : Int) (x8 : Int) (μ : Me) : s_X1_independent_l105 a0 x1 x2 x3 x4 a6 x7 x8 μ = (s_X1_independent_l105_st a0 x1 x2 x3 x4 a6 x7 x8 μ).bind fun x => x.elim (fun s : Int × Me => s_X1_independent_l105 a0 x1 x2 x3 x4 a6 x7 s.1 s.2) some := whileO_eq _ _
theorem w_X1_independent_l105 {Z : Zt} {fin : Int × Me} {w : ((Int × Int × Me) ⊕ (Int × Me))} (C : CX Z yX1_independent cX1_independent (some .int) 4 11) {a0 : Nat} {x1 : Int} {x2 : Int} {x3 : Int} {x4 : Int} {a6 : Nat} {x7 : Int} {x8 : Int} {μ : Me} (h : s_X1_independent_l105 a0 x1 x2 x3 x4 a6 x7 x8 μ = some w) (hK : (Sum.elim (fun s : Int × Int × Me => WL Z (QN Z (some (vI fin.1)) fin.2) s.2.2 5 [(0, vO a0), (1, vI x1), (2, vI x2), (3, vI s.1), (4, vI s.2.1)] []) (fun r : Int × Me => r = fin)) w) : WL Z (QN Z (some (vI fin.1)) fin.2) μ 105 [(0, vO a0), (1, vI x1), (2, vI x2), (3, vI x3), (4, vI x4), (6, vO a6), (7, vI x7), (8, vI x8)] [] := by
  refine whileO_walk (w := w) (fun s : Int × Me => WL Z (QN Z (some (vI fin.1)) fin.2) s.2 105 [(0, vO a0), (1, vI x1), (2, vI x2), (3, vI x3), (4, vI x4), (6, vO a6), (7, vI x7), (8, vI s.1)] []) (fun s v h2 hi hr => ?_) (x8, μ) h
  refine w_X1_independent_l105_st (fin := fin) C h2 ?_
  cases v with
  | inl s2 => exact hi s2 rfl
  | inr r => have e := hr r rfl; subst e; exact hK
noncomputable def s_X1_independent_b44 (a0 : Nat) (x1 : Int) (x2 : Int) (x3 : Int) (x4 : Int) (x5 : Int)  (μ : Me) : Option ((Int × Int × Me) ⊕ (Int × Me)) :=
  (if w32 x5 = w32 x1 then
  some (.inl (x3, (x4 + 1), μ))
  else
  (gR μ 0 a0 9).bind fun v5 =>
  (aR μ 105 v5 x5).bind fun v6 =>
  (gR μ 0 a0 9).bind fun v7 =>
  (gR μ 0 a0 9).bind fun v8 =>
  (aR μ 105 v8 x3).bind fun v9 =>
  (uR μ 105 101 v7 x5 v9).bind fun m10 =>
  (gR m10 0 a0 9).bind fun v11 =>
  (uR m10 105 101 v11 x3 v6).bind fun m12 =>
  (gR m12 0 a0 1).bind fun v13 =>
  (gR m12 4 v13 0).bind fun v14 =>
  (aI m12 101 v6 x4).bind fun v15 =>
  (ck m12 5 v14).bind fun _ =>
  (s_X7_inverse v14 v15 m12).bind fun q16 =>
  s_X1_independent_l105 a0 x1 x2 x3 x4 v6 q16.1 (x3 + 1) q16.2)
theorem w_X1_independent_b44 {Z : Zt} {fin : Int × Me} {w : ((Int × Int × Me) ⊕ (Int × Me))} (C : CX Z yX1_independent cX1_independent (some .int) 4 11) {a0 : Nat} {x1 : Int} {x2 : Int} {x3 : Int} {x4 : Int} {x5 : Int}  {μ : Me} (h : s_X1_independent_b44 a0 x1 x2 x3 x4 x5 μ = some w) (hK : (Sum.elim (fun s : Int × Int × Me => WL Z (QN Z (some (vI fin.1)) fin.2) s.2.2 5 [(0, vO a0), (1, vI x1), (2, vI x2), (3, vI s.1), (4, vI s.2.1)] []) (fun r : Int × Me => r = fin)) w) : WL Z (QN Z (some (vI fin.1)) fin.2) μ 44 [(0, vO a0), (1, vI x1), (2, vI x2), (3, vI x3), (4, vI x4), (5, vI x5)] [] := by
  unfold s_X1_independent_b44 at h
  refine r_iload C 5 dX1_independent_44 rfl ?_
  refine r_iload_n C 1 dX1_independent_46 rfl rfl ?_
  refine r_icmp_ne C dX1_independent_47 (tgt := 53) (by decide) (fun c4 => ?_) (fun c4 => ?_)
  · have h := ie_ h c4
    refine r_aload_n C 0 dX1_independent_53 rfl rfl ?_
    obtain ⟨v5, ev5, h⟩ := bs h
    refine r_getR C (c := 0) (r := (RX1, TX1, 19)) rfl 9 (by decide) rfl ev5 q437 dX1_independent_54 ?_
    refine r_iload C 5 dX1_independent_57 rfl ?_
    obtain ⟨v6, ev6, h⟩ := bs h
    refine r_aald C (kt := 4) ev6 rfl rfl ⟨by decide, by decide⟩ dX1_independent_59 ?_
    refine r_astore C [(6, vO v6), (0, vO a0), (1, vI x1), (2, vI x2), (3, vI x3), (4, vI x4), (5, vI x5)] dX1_independent_60 (by decide) rfl ?_
    refine r_aload_n C 1 dX1_independent_62 rfl rfl ?_
    obtain ⟨v7, ev7, h⟩ := bs h
    refine r_getR C (c := 0) (r := (RX1, TX1, 19)) rfl 9 (by decide) rfl ev7 q437 dX1_independent_63 ?_
    refine r_iload C 6 dX1_independent_66 rfl ?_
    refine r_aload_n C 1 dX1_independent_68 rfl rfl ?_
    obtain ⟨v8, ev8, h⟩ := bs h
    refine r_getR C (c := 0) (r := (RX1, TX1, 19)) rfl 9 (by decide) rfl ev8 q437 dX1_independent_69 ?_
    refine r_iload_n C 4 dX1_independent_72 rfl rfl ?_
    obtain ⟨v9, ev9, h⟩ := bs h
    refine r_aald C (kt := 4) ev9 rfl rfl ⟨by decide, by decide⟩ dX1_independent_73 ?_
    obtain ⟨m10, em10, h⟩ := bs h
    refine r_aastA C em10 dX1_independent_74 ?_
    refine r_aload_n C 1 dX1_independent_75 rfl rfl ?_
    obtain ⟨v11, ev11, h⟩ := bs h
    refine r_getR C (c := 0) (r := (RX1, TX1, 19)) rfl 9 (by decide) rfl ev11 q437 dX1_independent_76 ?_
    refine r_iload_n C 4 dX1_independent_79 rfl rfl ?_
    refine r_aload C 0 dX1_independent_80 rfl ?_
    obtain ⟨m12, em12, h⟩ := bs h
    refine r_aastA C em12 dX1_independent_82 ?_
    refine r_aload_n C 1 dX1_independent_83 rfl rfl ?_
    obtain ⟨v13, ev13, h⟩ := bs h
    refine r_getR C (c := 0) (r := (RX1, TX1, 19)) rfl 1 (by decide) rfl ev13 q422 dX1_independent_84 ?_
    obtain ⟨v14, ev14, h⟩ := bs h
    refine r_getRN C (c := 4) (r := (RX6, TX6, 6)) rfl 0 (by decide) rfl ev14 (lw_n q320 rfl) dX1_independent_87 ?_
    refine r_aload C 0 dX1_independent_90 rfl ?_
    refine r_iload C 5 dX1_independent_92 rfl ?_
    obtain ⟨v15, ev15, h⟩ := bs h
    refine r_iald C ev15 dX1_independent_94 ?_
    obtain ⟨u17, eu17, h⟩ := bs h
    obtain ⟨q16, eq16, h⟩ := bs h
    refine r_callV C (As := [vI v15]) (b := v14) (rest := []) (st1 := [vI q16.1]) (v := some (vI q16.1)) (r := (RX7, TX7, 1)) (ci := 5) rfl eu17 (m_X7_inverse C.tr eq16) (lw_V q1039 q1040 q1041 q129 q1042) rfl hdX7_inverse rfl rfl (Nat.le_of_ble_eq_true rfl) ⟨by decide, by decide⟩ dX1_independent_95 rfl ?_
    refine r_istore C [(7, vI q16.1), (6, vO v6), (0, vO a0), (1, vI x1), (2, vI x2), (3, vI x3), (4, vI x4), (5, vI x5)] dX1_independent_98 (by decide) rfl ?_
    refine r_iload_n C 5 dX1_independent_100 rfl rfl ?_
    refine r_iconst C dX1_independent_101 ?_
    refine r_iadd C dX1_independent_102 ?_
    refine r_istore C [(8, vI (x3 + 1)), (7, vI q16.1), (6, vO v6), (0, vO a0), (1, vI x1), (2, vI x2), (3, vI x3), (4, vI x4), (5, vI x5)] dX1_independent_103 (by decide) rfl ?_
    refine r_sub [3, 4, 5, 6, 7, 2, 1, 0] rfl ?_
    exact w_X1_independent_l105 (fin := fin) C h hK
  · have h := it_ h c4
    refine r_goto C dX1_independent_50 (tgt := 210) (by decide) ?_
    refine r_iinc C 4 [(4, vI (x4 + 1)), (0, vO a0), (1, vI x1), (2, vI x2), (3, vI x3), (5, vI x5)] dX1_independent_210 rfl (by decide) rfl ?_
    refine r_goto C dX1_independent_213 (tgt := 5) (by decide) ?_
    cases h
    refine r_sub [1, 2, 3, 4, 0] rfl ?_
    exact hK
noncomputable def s_X1_independent_l19_st (a0 : Nat) (x1 : Int) (x2 : Int) (x3 : Int) (x4 : Int) (x5 : Int) (μ : Me) : Option ((Int × Me) ⊕ ((Int × Int × Me) ⊕ (Int × Me))) :=
  (if w32 x1 ≤ w32 x5 then
  (s_X1_independent_b44 a0 x1 x2 x3 x4 x5 μ).map Sum.inr
  else
  (gR μ 0 a0 9).bind fun v39 =>
  (aR μ 105 v39 x5).bind fun v40 =>
  (aI μ 101 v40 x4).bind fun v41 =>
  (if w32 v41 = 0 then
  some (.inl ((x5 + 1), μ))
  else
  (s_X1_independent_b44 a0 x1 x2 x3 x4 x5 μ).map Sum.inr))
theorem w_X1_independent_l19_st {Z : Zt} {fin : Int × Me} {w : ((Int × Me) ⊕ ((Int × Int × Me) ⊕ (Int × Me)))} (C : CX Z yX1_independent cX1_independent (some .int) 4 11) {a0 : Nat} {x1 : Int} {x2 : Int} {x3 : Int} {x4 : Int} {x5 : Int} {μ : Me} (h : s_X1_independent_l19_st a0 x1 x2 x3 x4 x5 μ = some w) (hK : (Sum.elim (fun s : Int × Me => WL Z (QN Z (some (vI fin.1)) fin.2) s.2 19 [(0, vO a0), (1, vI x1), (2, vI x2), (3, vI x3), (4, vI x4), (5, vI s.1)] []) (Sum.elim (fun s : Int × Int × Me => WL Z (QN Z (some (vI fin.1)) fin.2) s.2.2 5 [(0, vO a0), (1, vI x1), (2, vI x2), (3, vI s.1), (4, vI s.2.1)] []) (fun r : Int × Me => r = fin))) w) : WL Z (QN Z (some (vI fin.1)) fin.2) μ 19 [(0, vO a0), (1, vI x1), (2, vI x2), (3, vI x3), (4, vI x4), (5, vI x5)] [] := by
  unfold s_X1_independent_l19_st at h
  refine r_iload C 5 dX1_independent_19 rfl ?_
  refine r_iload_n C 1 dX1_independent_21 rfl rfl ?_
  refine r_icmp_ge C dX1_independent_22 (tgt := 44) (by decide) (fun c3 => ?_) (fun c3 => ?_)
  · have h := it_ h c3
    obtain ⟨z, hz, ez⟩ := ms_ h; clear h; subst ez; have h := hz; clear hz
    exact w_X1_independent_b44 (fin := fin) C h hK
  · have h := ie_ h c3
    refine r_aload_n C 0 dX1_independent_25 rfl rfl ?_
    obtain ⟨v39, ev39, h⟩ := bs h
    refine r_getR C (c := 0) (r := (RX1, TX1, 19)) rfl 9 (by decide) rfl ev39 q437 dX1_independent_26 ?_
    refine r_iload C 5 dX1_independent_29 rfl ?_
    obtain ⟨v40, ev40, h⟩ := bs h
    refine r_aald C (kt := 4) ev40 rfl rfl ⟨by decide, by decide⟩ dX1_independent_31 ?_
    refine r_iload C 4 dX1_independent_32 rfl ?_
    obtain ⟨v41, ev41, h⟩ := bs h
    refine r_iald C ev41 dX1_independent_34 ?_
    refine r_if_ne C dX1_independent_35 (tgt := 44) (by decide) (fun c42 => ?_) (fun c42 => ?_)
    · have h := ie_ h c42
      obtain ⟨z, hz, ez⟩ := ms_ h; clear h; subst ez; have h := hz; clear hz
      exact w_X1_independent_b44 (fin := fin) C h hK
    · have h := it_ h c42
      refine r_iinc C 5 [(5, vI (x5 + 1)), (0, vO a0), (1, vI x1), (2, vI x2), (3, vI x3), (4, vI x4)] dX1_independent_38 rfl (by decide) rfl ?_
      refine r_goto C dX1_independent_41 (tgt := 19) (by decide) ?_
      cases h
      refine r_sub [1, 2, 3, 4, 5, 0] rfl ?_
      exact hK
noncomputable def s_X1_independent_l19 (a0 : Nat) (x1 : Int) (x2 : Int) (x3 : Int) (x4 : Int) (x5 : Int) (μ : Me) : Option ((Int × Int × Me) ⊕ (Int × Me)) :=
  whileO (fun s : Int × Me => s_X1_independent_l19_st a0 x1 x2 x3 x4 s.1 s.2) (x5, μ)
theorem e_X1_independent_l19 (a0 : Nat) (x1 : Int) (x2 : Int) (x3 : Int) (x4 : Int) (x5 : Int) (μ : Me) : s_X1_independent_l19 a0 x1 x2 x3 x4 x5 μ = (s_X1_independent_l19_st a0 x1 x2 x3 x4 x5 μ).bind fun x => x.elim (fun s : Int × Me => s_X1_independent_l19 a0 x1 x2 x3 x4 s.1 s.2) some := whileO_eq _ _
theorem w_X1_independent_l19 {Z : Zt} {fin : Int × Me} {w : ((Int × Int × Me) ⊕ (Int × Me))} (C : CX Z yX1_independent cX1_independent (some .int) 4 11) {a0 : Nat} {x1 : Int} {x2 : Int} {x3 : Int} {x4 : Int} {x5 : Int} {μ : Me} (h : s_X1_independent_l19 a0 x1 x2 x3 x4 x5 μ = some w) (hK : (Sum.elim (fun s : Int × Int × Me => WL Z (QN Z (some (vI fin.1)) fin.2) s.2.2 5 [(0, vO a0), (1, vI x1), (2, vI x2), (3, vI s.1), (4, vI s.2.1)] []) (fun r : Int × Me => r = fin)) w) : WL Z (QN Z (some (vI fin.1)) fin.2) μ 19 [(0, vO a0), (1, vI x1), (2, vI x2), (3, vI x3), (4, vI x4), (5, vI x5)] [] := by
  refine whileO_walk (w := w) (fun s : Int × Me => WL Z (QN Z (some (vI fin.1)) fin.2) s.2 19 [(0, vO a0), (1, vI x1), (2, vI x2), (3, vI x3), (4, vI x4), (5, vI s.1)] []) (fun s v h2 hi hr => ?_) (x5, μ) h
  refine w_X1_independent_l19_st (fin := fin) C h2 ?_
  cases v with
  | inl s2 => exact hi s2 rfl
  | inr r => have e := hr r rfl; subst e; exact hK
noncomputable def s_X1_independent_l5_st (a0 : Nat) (x1 : Int) (x2 : Int) (x3 : Int) (x4 : Int) (μ : Me) : Option ((Int × Int × Me) ⊕ (Int × Me)) :=
  (if w32 x2 ≤ w32 x4 then
  some (.inr (x3, μ))
  else
  (if w32 x1 ≤ w32 x3 then
  some (.inr (x3, μ))
  else
  s_X1_independent_l19 a0 x1 x2 x3 x4 x3 μ))
theorem w_X1_independent_l5_st {Z : Zt} {fin : Int × Me} {w : ((Int × Int × Me) ⊕ (Int × Me))} (C : CX Z yX1_independent cX1_independent (some .int) 4 11) {a0 : Nat} {x1 : Int} {x2 : Int} {x3 : Int} {x4 : Int} {μ : Me} (h : s_X1_independent_l5_st a0 x1 x2 x3 x4 μ = some w) (hK : (Sum.elim (fun s : Int × Int × Me => WL Z (QN Z (some (vI fin.1)) fin.2) s.2.2 5 [(0, vO a0), (1, vI x1), (2, vI x2), (3, vI s.1), (4, vI s.2.1)] []) (fun r : Int × Me => r = fin)) w) : WL Z (QN Z (some (vI fin.1)) fin.2) μ 5 [(0, vO a0), (1, vI x1), (2, vI x2), (3, vI x3), (4, vI x4)] [] := by
  unfold s_X1_independent_l5_st at h
  refine r_iload C 4 dX1_independent_5 rfl ?_
  refine r_iload_n C 2 dX1_independent_7 rfl rfl ?_
  refine r_icmp_ge C dX1_independent_8 (tgt := 216) (by decide) (fun c1 => ?_) (fun c1 => ?_)
  · have h := it_ h c1
    refine r_iload_n C 3 dX1_independent_216 rfl rfl ?_
    cases h
    exact r_iret C hK dX1_independent_217
  · have h := ie_ h c1
    refine r_iload_n C 3 dX1_independent_11 rfl rfl ?_
    refine r_iload_n C 1 dX1_independent_12 rfl rfl ?_
    refine r_icmp_ge C dX1_independent_13 (tgt := 216) (by decide) (fun c2 => ?_) (fun c2 => ?_)
    · have h := it_ h c2
      refine r_iload_n C 3 dX1_independent_216 rfl rfl ?_
      cases h
      exact r_iret C hK dX1_independent_217
    · have h := ie_ h c2
      refine r_iload_n C 3 dX1_independent_16 rfl rfl ?_
      refine r_istore C [(5, vI x3), (0, vO a0), (1, vI x1), (2, vI x2), (3, vI x3), (4, vI x4)] dX1_independent_17 (by decide) rfl ?_
      refine r_sub [1, 2, 3, 4, 5, 0] rfl ?_
      exact w_X1_independent_l19 (fin := fin) C h hK
noncomputable def s_X1_independent_l5 (a0 : Nat) (x1 : Int) (x2 : Int) (x3 : Int) (x4 : Int) (μ : Me) : Option (Int × Me) :=
  whileO (fun s : Int × Int × Me => s_X1_independent_l5_st a0 x1 x2 s.1 s.2.1 s.2.2) (x3, x4, μ)
theorem e_X1_independent_l5 (a0 : Nat) (x1 : Int) (x2 : Int) (x3 : Int) (x4 : Int) (μ : Me) : s_X1_independent_l5 a0 x1 x2 x3 x4 μ = (s_X1_independent_l5_st a0 x1 x2 x3 x4 μ).bind fun x => x.elim (fun s : Int × Int × Me => s_X1_independent_l5 a0 x1 x2 s.1 s.2.1 s.2.2) some := whileO_eq _ _
theorem w_X1_independent_l5 {Z : Zt} {fin : Int × Me} {w : (Int × Me)} (C : CX Z yX1_independent cX1_independent (some .int) 4 11) {a0 : Nat} {x1 : Int} {x2 : Int} {x3 : Int} {x4 : Int} {μ : Me} (h : s_X1_independent_l5 a0 x1 x2 x3 x4 μ = some w) (hK : (fun r : Int × Me => r = fin) w) : WL Z (QN Z (some (vI fin.1)) fin.2) μ 5 [(0, vO a0), (1, vI x1), (2, vI x2), (3, vI x3), (4, vI x4)] [] := by
  refine whileO_walk (w := w) (fun s : Int × Int × Me => WL Z (QN Z (some (vI fin.1)) fin.2) s.2.2 5 [(0, vO a0), (1, vI x1), (2, vI x2), (3, vI s.1), (4, vI s.2.1)] []) (fun s v h2 hi hr => ?_) (x3, x4, μ) h
  refine w_X1_independent_l5_st (fin := fin) C h2 ?_
  cases v with
  | inl s2 => exact hi s2 rfl
  | inr r => have e := hr r rfl; subst e; exact hK
noncomputable def s_X1_independent (a0 : Nat) (x1 : Int) (x2 : Int) (μ : Me) : Option (Int × Me) :=
  s_X1_independent_l5 a0 x1 x2 0 0 μ
theorem w_X1_independent {Z : Zt} {fin : Int × Me} {w : Int × Me} (C : CX Z yX1_independent cX1_independent (some .int) 4 11) {a0 : Nat} {x1 : Int} {x2 : Int} {μ : Me} (h : s_X1_independent a0 x1 x2 μ = some w) (hK : w = fin) : WL Z (QN Z (some (vI fin.1)) fin.2) μ 0 [(0, vO a0), (1, vI x1), (2, vI x2)] [] := by
  unfold s_X1_independent at h
  refine r_iconst C dX1_independent_0 ?_
  refine r_istore_n C [(3, vI 0), (0, vO a0), (1, vI x1), (2, vI x2)] dX1_independent_1 rfl (by decide) rfl ?_
  refine r_iconst C dX1_independent_2 ?_
  refine r_istore C [(4, vI 0), (3, vI 0), (0, vO a0), (1, vI x1), (2, vI x2)] dX1_independent_3 (by decide) rfl ?_
  refine r_sub [2, 3, 4, 1, 0] rfl ?_
  exact w_X1_independent_l5 (fin := fin) C h hK
theorem hdX1_independent : zhd yX1_independent 2 := by decide +kernel
theorem m_X1_independent {l : Launch} {D : va_G} {b0 : Nat} (hl : l.stackTraces = false) {a0 : Nat} {x1 : Int} {x2 : Int} {μ : Me} {w : Int × Me} (h : s_X1_independent a0 x1 x2 μ = some w) : MN l D b0 yX1_independent (ws_ yX1_independent cX1_independent 11 (some .int)) 4 [vO a0, vI x1, vI x2] μ (some (vI w.1)) w.2 :=
  MN.of hl (by decide +kernel) (Nat.le_of_ble_eq_true rfl) (fun Z C _ _ => w_X1_independent C h rfl)
noncomputable def s_X1_tables_b237 (x3 : Int) (x4 : Int)  (μ : Me) : Option (Int × Me) :=
  (if w32 x3 = 0 then
  some (x4, μ)
  else
  some ((-1), μ))
theorem w_X1_tables_b237 {Z : Zt} {fin : Int × Me} {w : (Int × Me)} (C : CX Z yX1_tables cX1_tables (some .int) 4 10) {x3 : Int} {x4 : Int}  {μ : Me} (h : s_X1_tables_b237 x3 x4 μ = some w) (hK : (fun r : Int × Me => r = fin) w) : WL Z (QN Z (some (vI fin.1)) fin.2) μ 237 [(3, vI x3), (4, vI x4)] [] := by
  unfold s_X1_tables_b237 at h
  refine r_iload_n C 0 dX1_tables_237 rfl rfl ?_
  refine r_if_eq C dX1_tables_238 (tgt := 245) (by decide) (fun c5 => ?_) (fun c5 => ?_)
  · have h := it_ h c5
    refine r_iload C 1 dX1_tables_245 rfl ?_
    cases h
    exact r_iret C hK dX1_tables_247
  · have h := ie_ h c5
    refine r_iconst C dX1_tables_241 ?_
    refine r_goto C dX1_tables_242 (tgt := 247) (by decide) ?_
    cases h
    exact r_iret C hK dX1_tables_247
noncomputable def s_X1_tables_b189 (x6 : Int) (x7 : Int) (x8 : Int) (x9 : Int)  (μ : Me) : Option (Int × Me) :=
  some (((((((20 * x6) + x7) * 20) + x8) * 20) + x9), μ)
theorem w_X1_tables_b189 {Z : Zt} {fin : Int × Me} {w : (Int × Me)} (C : CX Z yX1_tables cX1_tables (some .int) 4 10) {x6 : Int} {x7 : Int} {x8 : Int} {x9 : Int}  {μ : Me} (h : s_X1_tables_b189 x6 x7 x8 x9 μ = some w) (hK : (fun r : Int × Me => r = fin) w) : WL Z (QN Z (some (vI fin.1)) fin.2) μ 189 [(6, vI x6), (7, vI x7), (8, vI x8), (9, vI x9)] [] := by
  unfold s_X1_tables_b189 at h
  refine r_bipush C dX1_tables_189 (by decide) ?_
  refine r_iload C 0 dX1_tables_191 rfl ?_
  refine r_imul C dX1_tables_193 ?_
  refine r_iload C 1 dX1_tables_194 rfl ?_
  refine r_iadd C dX1_tables_196 ?_
  refine r_bipush C dX1_tables_197 (by decide) ?_
  refine r_imul C dX1_tables_199 ?_
  refine r_iload C 2 dX1_tables_200 rfl ?_
  refine r_iadd C dX1_tables_202 ?_
  refine r_bipush C dX1_tables_203 (by decide) ?_
  refine r_imul C dX1_tables_205 ?_
  refine r_iload C 3 dX1_tables_206 rfl ?_
  refine r_iadd C dX1_tables_208 ?_
  cases h
  exact r_iret C hK dX1_tables_209
noncomputable def s_X1_tables_l102_st (a0 : Nat) (a1 : Nat) (a2 : Nat) (x3 : Int) (x4 : Int) (x5 : Int) (x6 : Int) (x7 : Int) (x8 : Int) (x9 : Int) (μ : Me) : Option ((Int × Int × Me) ⊕ ((Int × Int × Me) ⊕ ((Int × Int × Me) ⊕ ((Int × Int × Me) ⊕ (Int × Me))))) :=
  (if w32 x5 ≤ w32 x9 then
  some (.inr (.inl (x4, (x8 + 1), μ)))
  else
  (ck μ 0 a0).bind fun _ =>
  (s_X1_detOf a0 x6 x7 x8 x9 μ).bind fun q15 =>
  (if w32 q15.1 = 0 then
  some (.inl (x4, (x9 + 1), q15.2))
  else
  (gR q15.2 0 a0 1).bind fun v18 =>
  (ck q15.2 4 v18).bind fun _ =>
  (s_X6_at v18 a1 x7 x9 q15.2).bind fun q19 =>
  (gR q19.2 6 a2 0).bind fun v21 =>
  (gI q19.2 6 a2 1).bind fun v22 =>
  (aI q19.2 101 v21 v22).bind fun v23 =>
  (if w32 q19.1 = w32 v23 then
  (gR q19.2 0 a0 1).bind fun v25 =>
  (gR q19.2 0 a0 5).bind fun v26 =>
  (ck q19.2 4 v25).bind fun _ =>
  (s_X6_mixed v25 a1 x6 x7 x8 x9 v26 q19.2).bind fun q27 =>
  (gR q27 0 a0 5).bind fun v29 =>
  (ck q27 6 v29).bind fun _ =>
  (s_X8_same v29 a2 q27).bind fun q30 =>
  (if w32 q30.1 = 0 then
  some (.inl (x4, (x9 + 1), q30.2))
  else
  (if w32 x3 = 0 then
  some (.inl ((x4 + 1), (x9 + 1), q30.2))
  else
  ((((s_X1_tables_b189 x6 x7 x8 x9 q30.2).map Sum.inr).map Sum.inr).map Sum.inr).map Sum.inr))
  else
  some (.inl (x4, (x9 + 1), q19.2)))))
theorem w_X1_tables_l102_st {Z : Zt} {fin : Int × Me} {w : ((Int × Int × Me) ⊕ ((Int × Int × Me) ⊕ ((Int × Int × Me) ⊕ ((Int × Int × Me) ⊕ (Int × Me)))))} (C : CX Z yX1_tables cX1_tables (some .int) 4 10) {a0 : Nat} {a1 : Nat} {a2 : Nat} {x3 : Int} {x4 : Int} {x5 : Int} {x6 : Int} {x7 : Int} {x8 : Int} {x9 : Int} {μ : Me} (h : s_X1_tables_l102_st a0 a1 a2 x3 x4 x5 x6 x7 x8 x9 μ = some w) (hK : (Sum.elim (fun s : Int × Int × Me => WL Z (QN Z (some (vI fin.1)) fin.2) s.2.2 102 [(0, vO a0), (1, vO a1), (2, vO a2), (3, vI x3), (4, vI s.1), (5, vI x5), (6, vI x6), (7, vI x7), (8, vI x8), (9, vI s.2.1)] []) (Sum.elim (fun s : Int × Int × Me => WL Z (QN Z (some (vI fin.1)) fin.2) s.2.2 73 [(0, vO a0), (1, vO a1), (2, vO a2), (3, vI x3), (4, vI s.1), (5, vI x5), (6, vI x6), (7, vI x7), (8, vI s.2.1)] []) (Sum.elim (fun s : Int × Int × Me => WL Z (QN Z (some (vI fin.1)) fin.2) s.2.2 63 [(0, vO a0), (1, vO a1), (2, vO a2), (3, vI x3), (4, vI s.1), (5, vI x5), (6, vI x6), (7, vI s.2.1)] []) (Sum.elim (fun s : Int × Int × Me => WL Z (QN Z (some (vI fin.1)) fin.2) s.2.2 18 [(0, vO a0), (1, vO a1), (2, vO a2), (3, vI x3), (4, vI s.1), (5, vI x5), (6, vI s.2.1)] []) (fun r : Int × Me => r = fin))))) w) : WL Z (QN Z (some (vI fin.1)) fin.2) μ 102 [(0, vO a0), (1, vO a1), (2, vO a2), (3, vI x3), (4, vI x4), (5, vI x5), (6, vI x6), (7, vI x7), (8, vI x8), (9, vI x9)] [] := by
  unfold s_X1_tables_l102_st at h
  refine r_iload C 9 dX1_tables_102 rfl ?_
  refine r_iload C 5 dX1_tables_104 rfl ?_
  refine r_icmp_ge C dX1_tables_106 (tgt := 219) (by decide) (fun c14 => ?_) (fun c14 => ?_)
  · have h := it_ h c14
    refine r_iinc C 8 [(8, vI (x8 + 1)), (0, vO a0), (1, vO a1), (2, vO a2), (3, vI x3), (4, vI x4), (5, vI x5), (6, vI x6), (7, vI x7), (9, vI x9)] dX1_tables_219 rfl (by decide) rfl ?_
    refine r_goto C dX1_tables_222 (tgt := 73) (by decide) ?_
    cases h
    refine r_sub [1, 2, 3, 4, 5, 6, 7, 8, 0] rfl ?_
    exact hK
  · have h := ie_ h c14
    refine r_aload_n C 0 dX1_tables_109 rfl rfl ?_
    refine r_iload C 6 dX1_tables_110 rfl ?_
    refine r_iload C 7 dX1_tables_112 rfl ?_
    refine r_iload C 8 dX1_tables_114 rfl ?_
    refine r_iload C 9 dX1_tables_116 rfl ?_
    obtain ⟨u16, eu16, h⟩ := bs h
    obtain ⟨q15, eq15, h⟩ := bs h
    refine r_callV C (As := [vI x6, vI x7, vI x8, vI x9]) (b := a0) (rest := []) (st1 := [vI q15.1]) (v := some (vI q15.1)) (r := (RX1, TX1, 19)) (ci := 0) rfl eu16 (m_X1_detOf C.tr eq15) (lw_V q642 q644 qs3 q120 q645) rfl hdX1_detOf rfl rfl (Nat.le_of_ble_eq_true rfl) ⟨by decide, by decide⟩ dX1_tables_118 rfl ?_
    refine r_if_eq C dX1_tables_121 (tgt := 213) (by decide) (fun c17 => ?_) (fun c17 => ?_)
    · have h := it_ h c17
      refine r_iinc C 9 [(9, vI (x9 + 1)), (0, vO a0), (1, vO a1), (2, vO a2), (3, vI x3), (4, vI x4), (5, vI x5), (6, vI x6), (7, vI x7), (8, vI x8)] dX1_tables_213 rfl (by decide) rfl ?_
      refine r_goto C dX1_tables_216 (tgt := 102) (by decide) ?_
      cases h
      refine r_sub [1, 2, 3, 4, 5, 6, 7, 8, 9, 0] rfl ?_
      exact hK
    · have h := ie_ h c17
      refine r_aload_n C 0 dX1_tables_124 rfl rfl ?_
      obtain ⟨v18, ev18, h⟩ := bs h
      refine r_getR C (c := 0) (r := (RX1, TX1, 19)) rfl 1 (by decide) rfl ev18 q422 dX1_tables_125 ?_
      refine r_aload_n C 1 dX1_tables_128 rfl rfl ?_
      refine r_iload C 7 dX1_tables_129 rfl ?_
      refine r_iload C 9 dX1_tables_131 rfl ?_
      obtain ⟨u20, eu20, h⟩ := bs h
      obtain ⟨q19, eq19, h⟩ := bs h
      refine r_callV C (As := [vO a1, vI x7, vI x9]) (b := v18) (rest := []) (st1 := [vI q19.1]) (v := some (vI q19.1)) (r := (RX6, TX6, 6)) (ci := 4) rfl eu20 (m_X6_at C.tr eq19) (lw_V q831 q832 q833 q128 q834) rfl hdX6_at rfl rfl (Nat.le_of_ble_eq_true rfl) ⟨by decide, by decide⟩ dX1_tables_133 rfl ?_
      refine r_aload_n C 2 dX1_tables_136 rfl rfl ?_
      obtain ⟨v21, ev21, h⟩ := bs h
      refine r_getRN C (c := 6) (r := (RX8, TX8, 2)) rfl 0 (by decide) rfl ev21 (lw_n q304 rfl) dX1_tables_137 ?_
      refine r_aload_n C 2 dX1_tables_140 rfl rfl ?_
      obtain ⟨v22, ev22, h⟩ := bs h
      refine r_getIN C (c := 6) (r := (RX8, TX8, 2)) rfl 1 (by decide) rfl ev22 (lw_n q309 rfl) dX1_tables_141 ?_
      obtain ⟨v23, ev23, h⟩ := bs h
      refine r_iald C ev23 dX1_tables_144 ?_
      refine r_icmp_eq C dX1_tables_145 (tgt := 151) (by decide) (fun c24 => ?_) (fun c24 => ?_)
      · have h := it_ h c24
        refine r_aload_n C 0 dX1_tables_151 rfl rfl ?_
        obtain ⟨v25, ev25, h⟩ := bs h
        refine r_getR C (c := 0) (r := (RX1, TX1, 19)) rfl 1 (by decide) rfl ev25 q422 dX1_tables_152 ?_
        refine r_aload_n C 1 dX1_tables_155 rfl rfl ?_
        refine r_iload C 6 dX1_tables_156 rfl ?_
        refine r_iload C 7 dX1_tables_158 rfl ?_
        refine r_iload C 8 dX1_tables_160 rfl ?_
        refine r_iload C 9 dX1_tables_162 rfl ?_
        refine r_aload_n C 0 dX1_tables_164 rfl rfl ?_
        obtain ⟨v26, ev26, h⟩ := bs h
        refine r_getR C (c := 0) (r := (RX1, TX1, 19)) rfl 5 (by decide) rfl ev26 q433 dX1_tables_165 ?_
        obtain ⟨u28, eu28, h⟩ := bs h
        obtain ⟨q27, eq27, h⟩ := bs h
        refine r_callV C (As := [vO a1, vI x6, vI x7, vI x8, vI x9, vO v26]) (b := v25) (rest := []) (st1 := []) (v := none) (r := (RX6, TX6, 6)) (ci := 4) rfl eu28 (m_X6_mixed C.tr eq27) (lw_V q859 q860 q861 q128 q862) rfl hdX6_mixed rfl rfl (Nat.le_of_ble_eq_true rfl) ⟨by decide, by decide⟩ dX1_tables_168 rfl ?_
        refine r_aload_n C 0 dX1_tables_171 rfl rfl ?_
        obtain ⟨v29, ev29, h⟩ := bs h
        refine r_getR C (c := 0) (r := (RX1, TX1, 19)) rfl 5 (by decide) rfl ev29 q433 dX1_tables_172 ?_
        refine r_aload_n C 2 dX1_tables_175 rfl rfl ?_
        obtain ⟨u31, eu31, h⟩ := bs h
        obtain ⟨q30, eq30, h⟩ := bs h
        refine r_callV C (As := [vO a2]) (b := v29) (rest := []) (st1 := [vI q30.1]) (v := some (vI q30.1)) (r := (RX8, TX8, 2)) (ci := 6) rfl eu31 (m_X8_same C.tr eq30) (lw_V q869 q870 q871 q130 q872) rfl hdX8_same rfl rfl (Nat.le_of_ble_eq_true rfl) ⟨by decide, by decide⟩ dX1_tables_176 rfl ?_
        refine r_if_ne C dX1_tables_179 (tgt := 185) (by decide) (fun c32 => ?_) (fun c32 => ?_)
        · have h := ie_ h c32
          refine r_iload_n C 3 dX1_tables_185 rfl rfl ?_
          refine r_if_eq C dX1_tables_186 (tgt := 210) (by decide) (fun c33 => ?_) (fun c33 => ?_)
          · have h := it_ h c33
            refine r_iinc C 4 [(4, vI (x4 + 1)), (0, vO a0), (1, vO a1), (2, vO a2), (3, vI x3), (5, vI x5), (6, vI x6), (7, vI x7), (8, vI x8), (9, vI x9)] dX1_tables_210 rfl (by decide) rfl ?_
            refine r_iinc C 9 [(9, vI (x9 + 1)), (4, vI (x4 + 1)), (0, vO a0), (1, vO a1), (2, vO a2), (3, vI x3), (5, vI x5), (6, vI x6), (7, vI x7), (8, vI x8)] dX1_tables_213 rfl (by decide) rfl ?_
            refine r_goto C dX1_tables_216 (tgt := 102) (by decide) ?_
            cases h
            refine r_sub [2, 3, 4, 5, 1, 6, 7, 8, 9, 0] rfl ?_
            exact hK
          · have h := ie_ h c33
            obtain ⟨z, hz, ez⟩ := ms_ h; clear h; subst ez; have h := hz; clear hz
            obtain ⟨z, hz, ez⟩ := ms_ h; clear h; subst ez; have h := hz; clear hz
            obtain ⟨z, hz, ez⟩ := ms_ h; clear h; subst ez; have h := hz; clear hz
            obtain ⟨z, hz, ez⟩ := ms_ h; clear h; subst ez; have h := hz; clear hz
            refine r_sub [6, 7, 8, 9] rfl ?_
            exact w_X1_tables_b189 (fin := fin) C h hK
        · have h := it_ h c32
          refine r_goto C dX1_tables_182 (tgt := 213) (by decide) ?_
          refine r_iinc C 9 [(9, vI (x9 + 1)), (0, vO a0), (1, vO a1), (2, vO a2), (3, vI x3), (4, vI x4), (5, vI x5), (6, vI x6), (7, vI x7), (8, vI x8)] dX1_tables_213 rfl (by decide) rfl ?_
          refine r_goto C dX1_tables_216 (tgt := 102) (by decide) ?_
          cases h
          refine r_sub [1, 2, 3, 4, 5, 6, 7, 8, 9, 0] rfl ?_
          exact hK
      · have h := ie_ h c24
        refine r_goto C dX1_tables_148 (tgt := 213) (by decide) ?_
        refine r_iinc C 9 [(9, vI (x9 + 1)), (0, vO a0), (1, vO a1), (2, vO a2), (3, vI x3), (4, vI x4), (5, vI x5), (6, vI x6), (7, vI x7), (8, vI x8)] dX1_tables_213 rfl (by decide) rfl ?_
        refine r_goto C dX1_tables_216 (tgt := 102) (by decide) ?_
        cases h
        refine r_sub [1, 2, 3, 4, 5, 6, 7, 8, 9, 0] rfl ?_
        exact hK
noncomputable def s_X1_tables_l102 (a0 : Nat) (a1 : Nat) (a2 : Nat) (x3 : Int) (x4 : Int) (x5 : Int) (x6 : Int) (x7 : Int) (x8 : Int) (x9 : Int) (μ : Me) : Option ((Int × Int × Me) ⊕ ((Int × Int × Me) ⊕ ((Int × Int × Me) ⊕ (Int × Me)))) :=
  whileO (fun s : Int × Int × Me => s_X1_tables_l102_st a0 a1 a2 x3 s.1 x5 x6 x7 x8 s.2.1 s.2.2) (x4, x9, μ)
theorem e_X1_tables_l102 (a0 : Nat) (a1 : Nat) (a2 : Nat) (x3 : Int) (x4 : Int) (x5 : Int) (x6 : Int) (x7 : Int) (x8 : Int) (x9 : Int) (μ : Me) : s_X1_tables_l102 a0 a1 a2 x3 x4 x5 x6 x7 x8 x9 μ = (s_X1_tables_l102_st a0 a1 a2 x3 x4 x5 x6 x7 x8 x9 μ).bind fun x => x.elim (fun s : Int × Int × Me => s_X1_tables_l102 a0 a1 a2 x3 s.1 x5 x6 x7 x8 s.2.1 s.2.2) some := whileO_eq _ _
theorem w_X1_tables_l102 {Z : Zt} {fin : Int × Me} {w : ((Int × Int × Me) ⊕ ((Int × Int × Me) ⊕ ((Int × Int × Me) ⊕ (Int × Me))))} (C : CX Z yX1_tables cX1_tables (some .int) 4 10) {a0 : Nat} {a1 : Nat} {a2 : Nat} {x3 : Int} {x4 : Int} {x5 : Int} {x6 : Int} {x7 : Int} {x8 : Int} {x9 : Int} {μ : Me} (h : s_X1_tables_l102 a0 a1 a2 x3 x4 x5 x6 x7 x8 x9 μ = some w) (hK : (Sum.elim (fun s : Int × Int × Me => WL Z (QN Z (some (vI fin.1)) fin.2) s.2.2 73 [(0, vO a0), (1, vO a1), (2, vO a2), (3, vI x3), (4, vI s.1), (5, vI x5), (6, vI x6), (7, vI x7), (8, vI s.2.1)] []) (Sum.elim (fun s : Int × Int × Me => WL Z (QN Z (some (vI fin.1)) fin.2) s.2.2 63 [(0, vO a0), (1, vO a1), (2, vO a2), (3, vI x3), (4, vI s.1), (5, vI x5), (6, vI x6), (7, vI s.2.1)] []) (Sum.elim (fun s : Int × Int × Me => WL Z (QN Z (some (vI fin.1)) fin.2) s.2.2 18 [(0, vO a0), (1, vO a1), (2, vO a2), (3, vI x3), (4, vI s.1), (5, vI x5), (6, vI s.2.1)] []) (fun r : Int × Me => r = fin)))) w) : WL Z (QN Z (some (vI fin.1)) fin.2) μ 102 [(0, vO a0), (1, vO a1), (2, vO a2), (3, vI x3), (4, vI x4), (5, vI x5), (6, vI x6), (7, vI x7), (8, vI x8), (9, vI x9)] [] := by
  refine whileO_walk (w := w) (fun s : Int × Int × Me => WL Z (QN Z (some (vI fin.1)) fin.2) s.2.2 102 [(0, vO a0), (1, vO a1), (2, vO a2), (3, vI x3), (4, vI s.1), (5, vI x5), (6, vI x6), (7, vI x7), (8, vI x8), (9, vI s.2.1)] []) (fun s v h2 hi hr => ?_) (x4, x9, μ) h
  refine w_X1_tables_l102_st (fin := fin) C h2 ?_
  cases v with
  | inl s2 => exact hi s2 rfl
  | inr r => have e := hr r rfl; subst e; exact hK
noncomputable def s_X1_tables_l73_st (a0 : Nat) (a1 : Nat) (a2 : Nat) (x3 : Int) (x4 : Int) (x5 : Int) (x6 : Int) (x7 : Int) (x8 : Int) (μ : Me) : Option ((Int × Int × Me) ⊕ ((Int × Int × Me) ⊕ ((Int × Int × Me) ⊕ (Int × Me)))) :=
  (if w32 x5 ≤ w32 x8 then
  some (.inr (.inl (x4, (x7 + 1), μ)))
  else
  (gR μ 0 a0 15).bind fun v9 =>
  (aI μ 101 v9 x8).bind fun v10 =>
  (gR μ 6 a2 0).bind fun v11 =>
  (aI μ 101 v11 0).bind fun v12 =>
  (if w32 v10 = w32 v12 then
  s_X1_tables_l102 a0 a1 a2 x3 x4 x5 x6 x7 x8 0 μ
  else
  some (.inl (x4, (x8 + 1), μ))))
theorem w_X1_tables_l73_st {Z : Zt} {fin : Int × Me} {w : ((Int × Int × Me) ⊕ ((Int × Int × Me) ⊕ ((Int × Int × Me) ⊕ (Int × Me))))} (C : CX Z yX1_tables cX1_tables (some .int) 4 10) {a0 : Nat} {a1 : Nat} {a2 : Nat} {x3 : Int} {x4 : Int} {x5 : Int} {x6 : Int} {x7 : Int} {x8 : Int} {μ : Me} (h : s_X1_tables_l73_st a0 a1 a2 x3 x4 x5 x6 x7 x8 μ = some w) (hK : (Sum.elim (fun s : Int × Int × Me => WL Z (QN Z (some (vI fin.1)) fin.2) s.2.2 73 [(0, vO a0), (1, vO a1), (2, vO a2), (3, vI x3), (4, vI s.1), (5, vI x5), (6, vI x6), (7, vI x7), (8, vI s.2.1)] []) (Sum.elim (fun s : Int × Int × Me => WL Z (QN Z (some (vI fin.1)) fin.2) s.2.2 63 [(0, vO a0), (1, vO a1), (2, vO a2), (3, vI x3), (4, vI s.1), (5, vI x5), (6, vI x6), (7, vI s.2.1)] []) (Sum.elim (fun s : Int × Int × Me => WL Z (QN Z (some (vI fin.1)) fin.2) s.2.2 18 [(0, vO a0), (1, vO a1), (2, vO a2), (3, vI x3), (4, vI s.1), (5, vI x5), (6, vI s.2.1)] []) (fun r : Int × Me => r = fin)))) w) : WL Z (QN Z (some (vI fin.1)) fin.2) μ 73 [(0, vO a0), (1, vO a1), (2, vO a2), (3, vI x3), (4, vI x4), (5, vI x5), (6, vI x6), (7, vI x7), (8, vI x8)] [] := by
  unfold s_X1_tables_l73_st at h
  refine r_iload C 8 dX1_tables_73 rfl ?_
  refine r_iload C 5 dX1_tables_75 rfl ?_
  refine r_icmp_ge C dX1_tables_77 (tgt := 225) (by decide) (fun c8 => ?_) (fun c8 => ?_)
  · have h := it_ h c8
    refine r_iinc C 7 [(7, vI (x7 + 1)), (0, vO a0), (1, vO a1), (2, vO a2), (3, vI x3), (4, vI x4), (5, vI x5), (6, vI x6), (8, vI x8)] dX1_tables_225 rfl (by decide) rfl ?_
    refine r_goto C dX1_tables_228 (tgt := 63) (by decide) ?_
    cases h
    refine r_sub [1, 2, 3, 4, 5, 6, 7, 0] rfl ?_
    exact hK
  · have h := ie_ h c8
    refine r_aload_n C 0 dX1_tables_80 rfl rfl ?_
    obtain ⟨v9, ev9, h⟩ := bs h
    refine r_getR C (c := 0) (r := (RX1, TX1, 19)) rfl 15 (by decide) rfl ev9 q443 dX1_tables_81 ?_
    refine r_iload C 8 dX1_tables_84 rfl ?_
    obtain ⟨v10, ev10, h⟩ := bs h
    refine r_iald C ev10 dX1_tables_86 ?_
    refine r_aload_n C 2 dX1_tables_87 rfl rfl ?_
    obtain ⟨v11, ev11, h⟩ := bs h
    refine r_getRN C (c := 6) (r := (RX8, TX8, 2)) rfl 0 (by decide) rfl ev11 (lw_n q304 rfl) dX1_tables_88 ?_
    refine r_iconst C dX1_tables_91 ?_
    obtain ⟨v12, ev12, h⟩ := bs h
    refine r_iald C ev12 dX1_tables_92 ?_
    refine r_icmp_eq C dX1_tables_93 (tgt := 99) (by decide) (fun c13 => ?_) (fun c13 => ?_)
    · have h := it_ h c13
      refine r_iconst C dX1_tables_99 ?_
      refine r_istore C [(9, vI 0), (0, vO a0), (1, vO a1), (2, vO a2), (3, vI x3), (4, vI x4), (5, vI x5), (6, vI x6), (7, vI x7), (8, vI x8)] dX1_tables_100 (by decide) rfl ?_
      refine r_sub [1, 2, 3, 4, 5, 6, 7, 8, 9, 0] rfl ?_
      exact w_X1_tables_l102 (fin := fin) C h hK
    · have h := ie_ h c13
      refine r_goto C dX1_tables_96 (tgt := 219) (by decide) ?_
      refine r_iinc C 8 [(8, vI (x8 + 1)), (0, vO a0), (1, vO a1), (2, vO a2), (3, vI x3), (4, vI x4), (5, vI x5), (6, vI x6), (7, vI x7)] dX1_tables_219 rfl (by decide) rfl ?_
      refine r_goto C dX1_tables_222 (tgt := 73) (by decide) ?_
      cases h
      refine r_sub [1, 2, 3, 4, 5, 6, 7, 8, 0] rfl ?_
      exact hK
noncomputable def s_X1_tables_l73 (a0 : Nat) (a1 : Nat) (a2 : Nat) (x3 : Int) (x4 : Int) (x5 : Int) (x6 : Int) (x7 : Int) (x8 : Int) (μ : Me) : Option ((Int × Int × Me) ⊕ ((Int × Int × Me) ⊕ (Int × Me))) :=
  whileO (fun s : Int × Int × Me => s_X1_tables_l73_st a0 a1 a2 x3 s.1 x5 x6 x7 s.2.1 s.2.2) (x4, x8, μ)
theorem e_X1_tables_l73 (a0 : Nat) (a1 : Nat) (a2 : Nat) (x3 : Int) (x4 : Int) (x5 : Int) (x6 : Int) (x7 : Int) (x8 : Int) (μ : Me) : s_X1_tables_l73 a0 a1 a2 x3 x4 x5 x6 x7 x8 μ = (s_X1_tables_l73_st a0 a1 a2 x3 x4 x5 x6 x7 x8 μ).bind fun x => x.elim (fun s : Int × Int × Me => s_X1_tables_l73 a0 a1 a2 x3 s.1 x5 x6 x7 s.2.1 s.2.2) some := whileO_eq _ _
theorem w_X1_tables_l73 {Z : Zt} {fin : Int × Me} {w : ((Int × Int × Me) ⊕ ((Int × Int × Me) ⊕ (Int × Me)))} (C : CX Z yX1_tables cX1_tables (some .int) 4 10) {a0 : Nat} {a1 : Nat} {a2 : Nat} {x3 : Int} {x4 : Int} {x5 : Int} {x6 : Int} {x7 : Int} {x8 : Int} {μ : Me} (h : s_X1_tables_l73 a0 a1 a2 x3 x4 x5 x6 x7 x8 μ = some w) (hK : (Sum.elim (fun s : Int × Int × Me => WL Z (QN Z (some (vI fin.1)) fin.2) s.2.2 63 [(0, vO a0), (1, vO a1), (2, vO a2), (3, vI x3), (4, vI s.1), (5, vI x5), (6, vI x6), (7, vI s.2.1)] []) (Sum.elim (fun s : Int × Int × Me => WL Z (QN Z (some (vI fin.1)) fin.2) s.2.2 18 [(0, vO a0), (1, vO a1), (2, vO a2), (3, vI x3), (4, vI s.1), (5, vI x5), (6, vI s.2.1)] []) (fun r : Int × Me => r = fin))) w) : WL Z (QN Z (some (vI fin.1)) fin.2) μ 73 [(0, vO a0), (1, vO a1), (2, vO a2), (3, vI x3), (4, vI x4), (5, vI x5), (6, vI x6), (7, vI x7), (8, vI x8)] [] := by
  refine whileO_walk (w := w) (fun s : Int × Int × Me => WL Z (QN Z (some (vI fin.1)) fin.2) s.2.2 73 [(0, vO a0), (1, vO a1), (2, vO a2), (3, vI x3), (4, vI s.1), (5, vI x5), (6, vI x6), (7, vI x7), (8, vI s.2.1)] []) (fun s v h2 hi hr => ?_) (x4, x8, μ) h
  refine w_X1_tables_l73_st (fin := fin) C h2 ?_
  cases v with
  | inl s2 => exact hi s2 rfl
  | inr r => have e := hr r rfl; subst e; exact hK
noncomputable def s_X1_tables_l63_st (a0 : Nat) (a1 : Nat) (a2 : Nat) (x3 : Int) (x4 : Int) (x5 : Int) (x6 : Int) (x7 : Int) (μ : Me) : Option ((Int × Int × Me) ⊕ ((Int × Int × Me) ⊕ (Int × Me))) :=
  (if w32 x5 ≤ w32 x7 then
  some (.inr (.inl (x4, (x6 + 1), μ)))
  else
  s_X1_tables_l73 a0 a1 a2 x3 x4 x5 x6 x7 0 μ)
theorem w_X1_tables_l63_st {Z : Zt} {fin : Int × Me} {w : ((Int × Int × Me) ⊕ ((Int × Int × Me) ⊕ (Int × Me)))} (C : CX Z yX1_tables cX1_tables (some .int) 4 10) {a0 : Nat} {a1 : Nat} {a2 : Nat} {x3 : Int} {x4 : Int} {x5 : Int} {x6 : Int} {x7 : Int} {μ : Me} (h : s_X1_tables_l63_st a0 a1 a2 x3 x4 x5 x6 x7 μ = some w) (hK : (Sum.elim (fun s : Int × Int × Me => WL Z (QN Z (some (vI fin.1)) fin.2) s.2.2 63 [(0, vO a0), (1, vO a1), (2, vO a2), (3, vI x3), (4, vI s.1), (5, vI x5), (6, vI x6), (7, vI s.2.1)] []) (Sum.elim (fun s : Int × Int × Me => WL Z (QN Z (some (vI fin.1)) fin.2) s.2.2 18 [(0, vO a0), (1, vO a1), (2, vO a2), (3, vI x3), (4, vI s.1), (5, vI x5), (6, vI s.2.1)] []) (fun r : Int × Me => r = fin))) w) : WL Z (QN Z (some (vI fin.1)) fin.2) μ 63 [(0, vO a0), (1, vO a1), (2, vO a2), (3, vI x3), (4, vI x4), (5, vI x5), (6, vI x6), (7, vI x7)] [] := by
  unfold s_X1_tables_l63_st at h
  refine r_iload C 7 dX1_tables_63 rfl ?_
  refine r_iload C 5 dX1_tables_65 rfl ?_
  refine r_icmp_ge C dX1_tables_67 (tgt := 231) (by decide) (fun c7 => ?_) (fun c7 => ?_)
  · have h := it_ h c7
    refine r_iinc C 6 [(6, vI (x6 + 1)), (0, vO a0), (1, vO a1), (2, vO a2), (3, vI x3), (4, vI x4), (5, vI x5), (7, vI x7)] dX1_tables_231 rfl (by decide) rfl ?_
    refine r_goto C dX1_tables_234 (tgt := 18) (by decide) ?_
    cases h
    refine r_sub [1, 2, 3, 4, 5, 6, 0] rfl ?_
    exact hK
  · have h := ie_ h c7
    refine r_iconst C dX1_tables_70 ?_
    refine r_istore C [(8, vI 0), (0, vO a0), (1, vO a1), (2, vO a2), (3, vI x3), (4, vI x4), (5, vI x5), (6, vI x6), (7, vI x7)] dX1_tables_71 (by decide) rfl ?_
    refine r_sub [1, 2, 3, 4, 5, 6, 7, 8, 0] rfl ?_
    exact w_X1_tables_l73 (fin := fin) C h hK
noncomputable def s_X1_tables_l63 (a0 : Nat) (a1 : Nat) (a2 : Nat) (x3 : Int) (x4 : Int) (x5 : Int) (x6 : Int) (x7 : Int) (μ : Me) : Option ((Int × Int × Me) ⊕ (Int × Me)) :=
  whileO (fun s : Int × Int × Me => s_X1_tables_l63_st a0 a1 a2 x3 s.1 x5 x6 s.2.1 s.2.2) (x4, x7, μ)
theorem e_X1_tables_l63 (a0 : Nat) (a1 : Nat) (a2 : Nat) (x3 : Int) (x4 : Int) (x5 : Int) (x6 : Int) (x7 : Int) (μ : Me) : s_X1_tables_l63 a0 a1 a2 x3 x4 x5 x6 x7 μ = (s_X1_tables_l63_st a0 a1 a2 x3 x4 x5 x6 x7 μ).bind fun x => x.elim (fun s : Int × Int × Me => s_X1_tables_l63 a0 a1 a2 x3 s.1 x5 x6 s.2.1 s.2.2) some := whileO_eq _ _
theorem w_X1_tables_l63 {Z : Zt} {fin : Int × Me} {w : ((Int × Int × Me) ⊕ (Int × Me))} (C : CX Z yX1_tables cX1_tables (some .int) 4 10) {a0 : Nat} {a1 : Nat} {a2 : Nat} {x3 : Int} {x4 : Int} {x5 : Int} {x6 : Int} {x7 : Int} {μ : Me} (h : s_X1_tables_l63 a0 a1 a2 x3 x4 x5 x6 x7 μ = some w) (hK : (Sum.elim (fun s : Int × Int × Me => WL Z (QN Z (some (vI fin.1)) fin.2) s.2.2 18 [(0, vO a0), (1, vO a1), (2, vO a2), (3, vI x3), (4, vI s.1), (5, vI x5), (6, vI s.2.1)] []) (fun r : Int × Me => r = fin)) w) : WL Z (QN Z (some (vI fin.1)) fin.2) μ 63 [(0, vO a0), (1, vO a1), (2, vO a2), (3, vI x3), (4, vI x4), (5, vI x5), (6, vI x6), (7, vI x7)] [] := by
  refine whileO_walk (w := w) (fun s : Int × Int × Me => WL Z (QN Z (some (vI fin.1)) fin.2) s.2.2 63 [(0, vO a0), (1, vO a1), (2, vO a2), (3, vI x3), (4, vI s.1), (5, vI x5), (6, vI x6), (7, vI s.2.1)] []) (fun s v h2 hi hr => ?_) (x4, x7, μ) h
  refine w_X1_tables_l63_st (fin := fin) C h2 ?_
  cases v with
  | inl s2 => exact hi s2 rfl
  | inr r => have e := hr r rfl; subst e; exact hK
noncomputable def s_X1_tables_l28_st (a0 : Nat) (a1 : Nat) (a2 : Nat) (x3 : Int) (x4 : Int) (x5 : Int) (x6 : Int) (x7 : Int) (μ : Me) : Option ((Int × Me) ⊕ ((Int × Int × Me) ⊕ (Int × Me))) :=
  (if w32 x5 ≤ w32 x7 then
  (s_X1_tables_l63 a0 a1 a2 x3 x4 x5 x6 0 μ).map Sum.inr
  else
  (gR μ 0 a0 15).bind fun v34 =>
  (gR μ 0 a0 1).bind fun v35 =>
  (ck μ 4 v35).bind fun _ =>
  (s_X6_at v35 a1 x6 x7 μ).bind fun q36 =>
  (uI q36.2 v34 x7 q36.1).bind fun m38 =>
  some (.inl ((x7 + 1), m38)))
theorem w_X1_tables_l28_st {Z : Zt} {fin : Int × Me} {w : ((Int × Me) ⊕ ((Int × Int × Me) ⊕ (Int × Me)))} (C : CX Z yX1_tables cX1_tables (some .int) 4 10) {a0 : Nat} {a1 : Nat} {a2 : Nat} {x3 : Int} {x4 : Int} {x5 : Int} {x6 : Int} {x7 : Int} {μ : Me} (h : s_X1_tables_l28_st a0 a1 a2 x3 x4 x5 x6 x7 μ = some w) (hK : (Sum.elim (fun s : Int × Me => WL Z (QN Z (some (vI fin.1)) fin.2) s.2 28 [(0, vO a0), (1, vO a1), (2, vO a2), (3, vI x3), (4, vI x4), (5, vI x5), (6, vI x6), (7, vI s.1)] []) (Sum.elim (fun s : Int × Int × Me => WL Z (QN Z (some (vI fin.1)) fin.2) s.2.2 18 [(0, vO a0), (1, vO a1), (2, vO a2), (3, vI x3), (4, vI s.1), (5, vI x5), (6, vI s.2.1)] []) (fun r : Int × Me => r = fin))) w) : WL Z (QN Z (some (vI fin.1)) fin.2) μ 28 [(0, vO a0), (1, vO a1), (2, vO a2), (3, vI x3), (4, vI x4), (5, vI x5), (6, vI x6), (7, vI x7)] [] := by
  unfold s_X1_tables_l28_st at h
  refine r_iload C 7 dX1_tables_28 rfl ?_
  refine r_iload C 5 dX1_tables_30 rfl ?_
  refine r_icmp_ge C dX1_tables_32 (tgt := 60) (by decide) (fun c6 => ?_) (fun c6 => ?_)
  · have h := it_ h c6
    refine r_iconst C dX1_tables_60 ?_
    refine r_istore C [(7, vI 0), (0, vO a0), (1, vO a1), (2, vO a2), (3, vI x3), (4, vI x4), (5, vI x5), (6, vI x6)] dX1_tables_61 (by decide) rfl ?_
    obtain ⟨z, hz, ez⟩ := ms_ h; clear h; subst ez; have h := hz; clear hz
    refine r_sub [1, 2, 3, 4, 5, 6, 7, 0] rfl ?_
    exact w_X1_tables_l63 (fin := fin) C h hK
  · have h := ie_ h c6
    refine r_aload_n C 0 dX1_tables_35 rfl rfl ?_
    obtain ⟨v34, ev34, h⟩ := bs h
    refine r_getR C (c := 0) (r := (RX1, TX1, 19)) rfl 15 (by decide) rfl ev34 q443 dX1_tables_36 ?_
    refine r_iload C 7 dX1_tables_39 rfl ?_
    refine r_aload_n C 0 dX1_tables_41 rfl rfl ?_
    obtain ⟨v35, ev35, h⟩ := bs h
    refine r_getR C (c := 0) (r := (RX1, TX1, 19)) rfl 1 (by decide) rfl ev35 q422 dX1_tables_42 ?_
    refine r_aload_n C 1 dX1_tables_45 rfl rfl ?_
    refine r_iload C 6 dX1_tables_46 rfl ?_
    refine r_iload C 7 dX1_tables_48 rfl ?_
    obtain ⟨u37, eu37, h⟩ := bs h
    obtain ⟨q36, eq36, h⟩ := bs h
    refine r_callV C (As := [vO a1, vI x6, vI x7]) (b := v35) (rest := [vI x7, vO v34]) (st1 := [vI q36.1, vI x7, vO v34]) (v := some (vI q36.1)) (r := (RX6, TX6, 6)) (ci := 4) rfl eu37 (m_X6_at C.tr eq36) (lw_V q831 q832 q833 q128 q834) rfl hdX6_at rfl rfl (Nat.le_of_ble_eq_true rfl) ⟨by decide, by decide⟩ dX1_tables_50 rfl ?_
    obtain ⟨m38, em38, h⟩ := bs h
    refine r_iast C em38 dX1_tables_53 ?_
    refine r_iinc C 7 [(7, vI (x7 + 1)), (0, vO a0), (1, vO a1), (2, vO a2), (3, vI x3), (4, vI x4), (5, vI x5), (6, vI x6)] dX1_tables_54 rfl (by decide) rfl ?_
    refine r_goto C dX1_tables_57 (tgt := 28) (by decide) ?_
    cases h
    refine r_sub [1, 2, 3, 4, 5, 6, 7, 0] rfl ?_
    exact hK
noncomputable def s_X1_tables_l28 (a0 : Nat) (a1 : Nat) (a2 : Nat) (x3 : Int) (x4 : Int) (x5 : Int) (x6 : Int) (x7 : Int) (μ : Me) : Option ((Int × Int × Me) ⊕ (Int × Me)) :=
  whileO (fun s : Int × Me => s_X1_tables_l28_st a0 a1 a2 x3 x4 x5 x6 s.1 s.2) (x7, μ)
theorem e_X1_tables_l28 (a0 : Nat) (a1 : Nat) (a2 : Nat) (x3 : Int) (x4 : Int) (x5 : Int) (x6 : Int) (x7 : Int) (μ : Me) : s_X1_tables_l28 a0 a1 a2 x3 x4 x5 x6 x7 μ = (s_X1_tables_l28_st a0 a1 a2 x3 x4 x5 x6 x7 μ).bind fun x => x.elim (fun s : Int × Me => s_X1_tables_l28 a0 a1 a2 x3 x4 x5 x6 s.1 s.2) some := whileO_eq _ _
theorem w_X1_tables_l28 {Z : Zt} {fin : Int × Me} {w : ((Int × Int × Me) ⊕ (Int × Me))} (C : CX Z yX1_tables cX1_tables (some .int) 4 10) {a0 : Nat} {a1 : Nat} {a2 : Nat} {x3 : Int} {x4 : Int} {x5 : Int} {x6 : Int} {x7 : Int} {μ : Me} (h : s_X1_tables_l28 a0 a1 a2 x3 x4 x5 x6 x7 μ = some w) (hK : (Sum.elim (fun s : Int × Int × Me => WL Z (QN Z (some (vI fin.1)) fin.2) s.2.2 18 [(0, vO a0), (1, vO a1), (2, vO a2), (3, vI x3), (4, vI s.1), (5, vI x5), (6, vI s.2.1)] []) (fun r : Int × Me => r = fin)) w) : WL Z (QN Z (some (vI fin.1)) fin.2) μ 28 [(0, vO a0), (1, vO a1), (2, vO a2), (3, vI x3), (4, vI x4), (5, vI x5), (6, vI x6), (7, vI x7)] [] := by
  refine whileO_walk (w := w) (fun s : Int × Me => WL Z (QN Z (some (vI fin.1)) fin.2) s.2 28 [(0, vO a0), (1, vO a1), (2, vO a2), (3, vI x3), (4, vI x4), (5, vI x5), (6, vI x6), (7, vI s.1)] []) (fun s v h2 hi hr => ?_) (x7, μ) h
  refine w_X1_tables_l28_st (fin := fin) C h2 ?_
  cases v with
  | inl s2 => exact hi s2 rfl
  | inr r => have e := hr r rfl; subst e; exact hK
noncomputable def s_X1_tables_l18_st (a0 : Nat) (a1 : Nat) (a2 : Nat) (x3 : Int) (x4 : Int) (x5 : Int) (x6 : Int) (μ : Me) : Option ((Int × Int × Me) ⊕ (Int × Me)) :=
  (if w32 x5 ≤ w32 x6 then
  (s_X1_tables_b237 x3 x4 μ).map Sum.inr
  else
  s_X1_tables_l28 a0 a1 a2 x3 x4 x5 x6 0 μ)
theorem w_X1_tables_l18_st {Z : Zt} {fin : Int × Me} {w : ((Int × Int × Me) ⊕ (Int × Me))} (C : CX Z yX1_tables cX1_tables (some .int) 4 10) {a0 : Nat} {a1 : Nat} {a2 : Nat} {x3 : Int} {x4 : Int} {x5 : Int} {x6 : Int} {μ : Me} (h : s_X1_tables_l18_st a0 a1 a2 x3 x4 x5 x6 μ = some w) (hK : (Sum.elim (fun s : Int × Int × Me => WL Z (QN Z (some (vI fin.1)) fin.2) s.2.2 18 [(0, vO a0), (1, vO a1), (2, vO a2), (3, vI x3), (4, vI s.1), (5, vI x5), (6, vI s.2.1)] []) (fun r : Int × Me => r = fin)) w) : WL Z (QN Z (some (vI fin.1)) fin.2) μ 18 [(0, vO a0), (1, vO a1), (2, vO a2), (3, vI x3), (4, vI x4), (5, vI x5), (6, vI x6)] [] := by
  unfold s_X1_tables_l18_st at h
  refine r_iload C 6 dX1_tables_18 rfl ?_
  refine r_iload C 5 dX1_tables_20 rfl ?_
  refine r_icmp_ge C dX1_tables_22 (tgt := 237) (by decide) (fun c4 => ?_) (fun c4 => ?_)
  · have h := it_ h c4
    obtain ⟨z, hz, ez⟩ := ms_ h; clear h; subst ez; have h := hz; clear hz
    refine r_sub [3, 4] rfl ?_
    exact w_X1_tables_b237 (fin := fin) C h hK
  · have h := ie_ h c4
    refine r_iconst C dX1_tables_25 ?_
    refine r_istore C [(7, vI 0), (0, vO a0), (1, vO a1), (2, vO a2), (3, vI x3), (4, vI x4), (5, vI x5), (6, vI x6)] dX1_tables_26 (by decide) rfl ?_
    refine r_sub [1, 2, 3, 4, 5, 6, 7, 0] rfl ?_
    exact w_X1_tables_l28 (fin := fin) C h hK
noncomputable def s_X1_tables_l18 (a0 : Nat) (a1 : Nat) (a2 : Nat) (x3 : Int) (x4 : Int) (x5 : Int) (x6 : Int) (μ : Me) : Option (Int × Me) :=
  whileO (fun s : Int × Int × Me => s_X1_tables_l18_st a0 a1 a2 x3 s.1 x5 s.2.1 s.2.2) (x4, x6, μ)
theorem e_X1_tables_l18 (a0 : Nat) (a1 : Nat) (a2 : Nat) (x3 : Int) (x4 : Int) (x5 : Int) (x6 : Int) (μ : Me) : s_X1_tables_l18 a0 a1 a2 x3 x4 x5 x6 μ = (s_X1_tables_l18_st a0 a1 a2 x3 x4 x5 x6 μ).bind fun x => x.elim (fun s : Int × Int × Me => s_X1_tables_l18 a0 a1 a2 x3 s.1 x5 s.2.1 s.2.2) some := whileO_eq _ _
theorem w_X1_tables_l18 {Z : Zt} {fin : Int × Me} {w : (Int × Me)} (C : CX Z yX1_tables cX1_tables (some .int) 4 10) {a0 : Nat} {a1 : Nat} {a2 : Nat} {x3 : Int} {x4 : Int} {x5 : Int} {x6 : Int} {μ : Me} (h : s_X1_tables_l18 a0 a1 a2 x3 x4 x5 x6 μ = some w) (hK : (fun r : Int × Me => r = fin) w) : WL Z (QN Z (some (vI fin.1)) fin.2) μ 18 [(0, vO a0), (1, vO a1), (2, vO a2), (3, vI x3), (4, vI x4), (5, vI x5), (6, vI x6)] [] := by
  refine whileO_walk (w := w) (fun s : Int × Int × Me => WL Z (QN Z (some (vI fin.1)) fin.2) s.2.2 18 [(0, vO a0), (1, vO a1), (2, vO a2), (3, vI x3), (4, vI s.1), (5, vI x5), (6, vI s.2.1)] []) (fun s v h2 hi hr => ?_) (x4, x6, μ) h
  refine w_X1_tables_l18_st (fin := fin) C h2 ?_
  cases v with
  | inl s2 => exact hi s2 rfl
  | inr r => have e := hr r rfl; subst e; exact hK
noncomputable def s_X1_tables (a0 : Nat) (a1 : Nat) (a2 : Nat) (x3 : Int) (μ : Me) : Option (Int × Me) :=
  (gR μ 0 a0 1).bind fun v1 =>
  (gR μ 4 v1 0).bind fun v2 =>
  (gI μ 5 v2 0).bind fun v3 =>
  s_X1_tables_l18 a0 a1 a2 x3 0 v3 0 μ
theorem w_X1_tables {Z : Zt} {fin : Int × Me} {w : Int × Me} (C : CX Z yX1_tables cX1_tables (some .int) 4 10) {a0 : Nat} {a1 : Nat} {a2 : Nat} {x3 : Int} {μ : Me} (h : s_X1_tables a0 a1 a2 x3 μ = some w) (hK : w = fin) : WL Z (QN Z (some (vI fin.1)) fin.2) μ 0 [(0, vO a0), (1, vO a1), (2, vO a2), (3, vI x3)] [] := by
  unfold s_X1_tables at h
  refine r_iconst C dX1_tables_0 ?_
  refine r_istore C [(4, vI 0), (0, vO a0), (1, vO a1), (2, vO a2), (3, vI x3)] dX1_tables_1 (by decide) rfl ?_
  refine r_aload_n C 1 dX1_tables_3 rfl rfl ?_
  obtain ⟨v1, ev1, h⟩ := bs h
  refine r_getR C (c := 0) (r := (RX1, TX1, 19)) rfl 1 (by decide) rfl ev1 q422 dX1_tables_4 ?_
  obtain ⟨v2, ev2, h⟩ := bs h
  refine r_getRN C (c := 4) (r := (RX6, TX6, 6)) rfl 0 (by decide) rfl ev2 (lw_n q320 rfl) dX1_tables_7 ?_
  obtain ⟨v3, ev3, h⟩ := bs h
  refine r_getIN C (c := 5) (r := (RX7, TX7, 1)) rfl 0 (by decide) rfl ev3 (lw_n q289 rfl) dX1_tables_10 ?_
  refine r_istore C [(5, vI v3), (4, vI 0), (0, vO a0), (1, vO a1), (2, vO a2), (3, vI x3)] dX1_tables_13 (by decide) rfl ?_
  refine r_iconst C dX1_tables_15 ?_
  refine r_istore C [(6, vI 0), (5, vI v3), (4, vI 0), (0, vO a0), (1, vO a1), (2, vO a2), (3, vI x3)] dX1_tables_16 (by decide) rfl ?_
  refine r_sub [3, 4, 5, 6, 2, 1, 0] rfl ?_
  exact w_X1_tables_l18 (fin := fin) C h hK
theorem hdX1_tables : zhd yX1_tables 3 := by decide +kernel
theorem m_X1_tables {l : Launch} {D : va_G} {b0 : Nat} (hl : l.stackTraces = false) {a0 : Nat} {a1 : Nat} {a2 : Nat} {x3 : Int} {μ : Me} {w : Int × Me} (h : s_X1_tables a0 a1 a2 x3 μ = some w) : MN l D b0 yX1_tables (ws_ yX1_tables cX1_tables 10 (some .int)) 4 [vO a0, vO a1, vO a2, vI x3] μ (some (vI w.1)) w.2 :=
  MN.of hl (by decide +kernel) (Nat.le_of_ble_eq_true rfl) (fun Z C _ _ => w_X1_tables C h rfl)
noncomputable def s_X1_kind_l8_st (a0 : Nat) (a2 : Nat) (x3 : Int) (μ : Me) : Option ((Int × Me) ⊕ (Ex ⊕ (Int × Me))) :=
  (gR μ 0 a0 2).bind fun v4 =>
  (gR μ 7 v4 0).bind fun v5 =>
  (aR μ 104 v5 x3).bind fun v6 =>
  (gI μ 6 v6 1).bind fun v7 =>
  (gI μ 6 a2 1).bind fun v8 =>
  (if w32 v7 = w32 v8 then
  (gR μ 0 a0 2).bind fun v10 =>
  (gR μ 7 v10 0).bind fun v11 =>
  (aR μ 104 v11 x3).bind fun v12 =>
  (ck μ 0 a0).bind fun _ =>
  (s_X1_tables a0 v12 a2 1 μ).bind fun q13 =>
  (if w32 q13.1 = w32 (-1) then
  some (.inl ((x3 + 1), q13.2))
  else
  some (.inr (.inr (x3, q13.2))))
  else
  some (.inl ((x3 + 1), μ)))
theorem w_X1_kind_l8_st {Z : Zt} {fin : Ex ⊕ (Int × Me)} {w : ((Int × Me) ⊕ (Ex ⊕ (Int × Me)))} (C : CX Z yX1_kind cX1_kind (some .int) 8 4) (X : XE Z) {a0 : Nat} {a2 : Nat} {x3 : Int} {μ : Me} (h : s_X1_kind_l8_st a0 a2 x3 μ = some w) (hK : (Sum.elim (fun s : Int × Me => WL Z (XQ Z (zoI fin) (zmI fin)) s.2 8 [(0, vO a0), (2, vO a2), (3, vI s.1)] []) (fun r : Ex ⊕ (Int × Me) => r = fin)) w) : WL Z (XQ Z (zoI fin) (zmI fin)) μ 8 [(0, vO a0), (2, vO a2), (3, vI x3)] [] := by
  unfold s_X1_kind_l8_st at h
  refine r_aload_n C 0 dX1_kind_8 rfl rfl ?_
  obtain ⟨v4, ev4, h⟩ := bs h
  refine r_getR C (c := 0) (r := (RX1, TX1, 19)) rfl 2 (by decide) rfl ev4 q426 dX1_kind_9 ?_
  obtain ⟨v5, ev5, h⟩ := bs h
  refine r_getRN C (c := 7) (r := (RX9, TX9, 10)) rfl 0 (by decide) rfl ev5 (lw_n q378 rfl) dX1_kind_12 ?_
  refine r_iload_n C 2 dX1_kind_15 rfl rfl ?_
  obtain ⟨v6, ev6, h⟩ := bs h
  refine r_aald C (kt := 3) ev6 rfl rfl ⟨by decide, by decide⟩ dX1_kind_16 ?_
  obtain ⟨v7, ev7, h⟩ := bs h
  refine r_getIN C (c := 6) (r := (RX8, TX8, 2)) rfl 1 (by decide) rfl ev7 (lw_n q309 rfl) dX1_kind_17 ?_
  refine r_aload_n C 1 dX1_kind_20 rfl rfl ?_
  obtain ⟨v8, ev8, h⟩ := bs h
  refine r_getIN C (c := 6) (r := (RX8, TX8, 2)) rfl 1 (by decide) rfl ev8 (lw_n q309 rfl) dX1_kind_21 ?_
  refine r_icmp_ne C dX1_kind_24 (tgt := 46) (by decide) (fun c9 => ?_) (fun c9 => ?_)
  · have h := ie_ h c9
    refine r_iinc C 2 [(3, vI (x3 + 1)), (0, vO a0), (2, vO a2)] dX1_kind_46 rfl (by decide) rfl ?_
    refine r_goto C dX1_kind_49 (tgt := 8) (by decide) ?_
    cases h
    refine r_sub [1, 2, 0] rfl ?_
    exact hK
  · have h := it_ h c9
    refine r_aload_n C 0 dX1_kind_27 rfl rfl ?_
    refine r_aload_n C 0 dX1_kind_28 rfl rfl ?_
    obtain ⟨v10, ev10, h⟩ := bs h
    refine r_getR C (c := 0) (r := (RX1, TX1, 19)) rfl 2 (by decide) rfl ev10 q426 dX1_kind_29 ?_
    obtain ⟨v11, ev11, h⟩ := bs h
    refine r_getRN C (c := 7) (r := (RX9, TX9, 10)) rfl 0 (by decide) rfl ev11 (lw_n q378 rfl) dX1_kind_32 ?_
    refine r_iload_n C 2 dX1_kind_35 rfl rfl ?_
    obtain ⟨v12, ev12, h⟩ := bs h
    refine r_aald C (kt := 3) ev12 rfl rfl ⟨by decide, by decide⟩ dX1_kind_36 ?_
    refine r_aload_n C 1 dX1_kind_37 rfl rfl ?_
    refine r_iconst C dX1_kind_38 ?_
    obtain ⟨u14, eu14, h⟩ := bs h
    obtain ⟨q13, eq13, h⟩ := bs h
    refine r_callV C (As := [vO v12, vO a2, vI 1]) (b := a0) (rest := []) (st1 := [vI q13.1]) (v := some (vI q13.1)) (r := (RX1, TX1, 19)) (ci := 0) rfl eu14 (m_X1_tables C.tr eq13) (lw_V q1058 q1060 qs24 q120 q1061) rfl hdX1_tables rfl rfl (Nat.le_of_ble_eq_true rfl) ⟨by decide, by decide⟩ dX1_kind_39 rfl ?_
    refine r_iconst C dX1_kind_42 ?_
    refine r_icmp_ne C dX1_kind_43 (tgt := 52) (by decide) (fun c15 => ?_) (fun c15 => ?_)
    · have h := ie_ h c15
      refine r_iload_n C 2 dX1_kind_52 rfl rfl ?_
      cases h
      exact r_xiret C hK dX1_kind_53
    · have h := it_ h c15
      refine r_iinc C 2 [(3, vI (x3 + 1)), (0, vO a0), (2, vO a2)] dX1_kind_46 rfl (by decide) rfl ?_
      refine r_goto C dX1_kind_49 (tgt := 8) (by decide) ?_
      cases h
      refine r_sub [1, 2, 0] rfl ?_
      exact hK
noncomputable def s_X1_kind_l8 (a0 : Nat) (a2 : Nat) (x3 : Int) (μ : Me) : Option (Ex ⊕ (Int × Me)) :=
  whileO (fun s : Int × Me => s_X1_kind_l8_st a0 a2 s.1 s.2) (x3, μ)
theorem e_X1_kind_l8 (a0 : Nat) (a2 : Nat) (x3 : Int) (μ : Me) : s_X1_kind_l8 a0 a2 x3 μ = (s_X1_kind_l8_st a0 a2 x3 μ).bind fun x => x.elim (fun s : Int × Me => s_X1_kind_l8 a0 a2 s.1 s.2) some := whileO_eq _ _
theorem w_X1_kind_l8 {Z : Zt} {fin : Ex ⊕ (Int × Me)} {w : (Ex ⊕ (Int × Me))} (C : CX Z yX1_kind cX1_kind (some .int) 8 4) (X : XE Z) {a0 : Nat} {a2 : Nat} {x3 : Int} {μ : Me} (h : s_X1_kind_l8 a0 a2 x3 μ = some w) (hK : (fun r : Ex ⊕ (Int × Me) => r = fin) w) : WL Z (XQ Z (zoI fin) (zmI fin)) μ 8 [(0, vO a0), (2, vO a2), (3, vI x3)] [] := by
  refine whileO_walk (w := w) (fun s : Int × Me => WL Z (XQ Z (zoI fin) (zmI fin)) s.2 8 [(0, vO a0), (2, vO a2), (3, vI s.1)] []) (fun s v h2 hi hr => ?_) (x3, μ) h
  refine w_X1_kind_l8_st (fin := fin) C X h2 ?_
  cases v with
  | inl s2 => exact hi s2 rfl
  | inr r => have e := hr r rfl; subst e; exact hK
noncomputable def s_X1_kind (a0 : Nat) (x1 : Int) (μ : Me) : Option (Ex ⊕ (Int × Me)) :=
  (ck μ 0 a0).bind fun _ =>
  xb (s_X1_formAt a0 x1 μ) (fun e2 => some (.inl e2)) fun q1 =>
  s_X1_kind_l8 a0 q1.1 0 q1.2
theorem w_X1_kind {Z : Zt} {fin : Ex ⊕ (Int × Me)} {w : Ex ⊕ (Int × Me)} (C : CX Z yX1_kind cX1_kind (some .int) 8 4) (X : XE Z) {a0 : Nat} {x1 : Int} {μ : Me} (h : s_X1_kind a0 x1 μ = some w) (hK : w = fin) : WL Z (XQ Z (zoI fin) (zmI fin)) μ 0 [(0, vO a0), (1, vI x1)] [] := by
  unfold s_X1_kind at h
  refine r_aload_n C 0 dX1_kind_0 rfl rfl ?_
  refine r_iload_n C 1 dX1_kind_1 rfl rfl ?_
  obtain ⟨u3, eu3, h⟩ := bs h
  rcases xbs h with ⟨e2, eq1, h⟩ | ⟨q1, eq1, h⟩
  · refine r_xVx C (As := [vI x1]) (b := a0) (rest := []) (μ1 := e2.2.2) (r := (RX1, TX1, 19)) (ci := 0) rfl eu3 (m_X1_formAt C.tr eq1) (lw_V q799 q801 qs15 q120 q802) rfl hdX1_formAt rfl rfl (Nat.le_of_ble_eq_true rfl) ⟨by decide, by decide⟩ dX1_kind_2 ?_
    cases h
    exact r_xoutI C X hK
  · refine r_xV C (As := [vI x1]) (b := a0) (rest := []) (st1 := [vO q1.1]) (v := some (vO q1.1)) (μ1 := q1.2) (r := (RX1, TX1, 19)) (ci := 0) rfl eu3 (m_X1_formAt C.tr eq1) (lw_V q799 q801 qs15 q120 q802) rfl hdX1_formAt rfl rfl (Nat.le_of_ble_eq_true rfl) ⟨by decide, by decide⟩ dX1_kind_2 rfl ?_
    refine r_astore_n C [(2, vO q1.1), (0, vO a0), (1, vI x1)] dX1_kind_5 rfl (by decide) rfl ?_
    refine r_iconst C dX1_kind_6 ?_
    refine r_istore_n C [(3, vI 0), (2, vO q1.1), (0, vO a0), (1, vI x1)] dX1_kind_7 rfl (by decide) rfl ?_
    refine r_sub [2, 1, 0] rfl ?_
    exact w_X1_kind_l8 (fin := fin) C X h hK
theorem hdX1_kind : zhd yX1_kind 1 := by decide +kernel
theorem m_X1_kind {l : Launch} {D : va_G} {b0 : Nat} (hl : l.stackTraces = false) {a0 : Nat} {x1 : Int} {μ : Me} {w : Ex ⊕ (Int × Me)} (h : s_X1_kind a0 x1 μ = some w) : XN l D b0 yX1_kind (ws_ yX1_kind cX1_kind 4 (some .int)) 8 [vO a0, vI x1] μ (zoI w) (zmI w) :=
  XN.of hl (by decide +kernel) (Nat.le_of_ble_eq_true rfl) (fun Z C X _ _ => w_X1_kind C X h rfl)
noncomputable def s_X1_orbit (a0 : Nat) (x1 : Int) (μ : Me) : Option (Ex ⊕ (Int × Me)) :=
  (ck μ 0 a0).bind fun _ =>
  xb (s_X1_formAt a0 x1 μ) (fun e2 => some (.inl e2)) fun q1 =>
  (gR q1.2 0 a0 1).bind fun v4 =>
  (gR q1.2 4 v4 0).bind fun v5 =>
  (gI q1.2 5 v5 0).bind fun v6 =>
  (ck q1.2 0 a0).bind fun _ =>
  (s_X1_tables a0 q1.1 q1.1 0 q1.2).bind fun q7 =>
  (dvI (((v6 * v6) - 1) * ((v6 * v6) - v6)) q7.1).bind fun v9 =>
  some (.inr (v9, q7.2))
theorem w_X1_orbit {Z : Zt} {fin : Ex ⊕ (Int × Me)} {w : Ex ⊕ (Int × Me)} (C : CX Z yX1_orbit cX1_orbit (some .int) 8 4) (X : XE Z) {a0 : Nat} {x1 : Int} {μ : Me} (h : s_X1_orbit a0 x1 μ = some w) (hK : w = fin) : WL Z (XQ Z (zoI fin) (zmI fin)) μ 0 [(0, vO a0), (1, vI x1)] [] := by
  unfold s_X1_orbit at h
  refine r_aload_n C 0 dX1_orbit_0 rfl rfl ?_
  refine r_iload_n C 1 dX1_orbit_1 rfl rfl ?_
  obtain ⟨u3, eu3, h⟩ := bs h
  rcases xbs h with ⟨e2, eq1, h⟩ | ⟨q1, eq1, h⟩
  · refine r_xVx C (As := [vI x1]) (b := a0) (rest := []) (μ1 := e2.2.2) (r := (RX1, TX1, 19)) (ci := 0) rfl eu3 (m_X1_formAt C.tr eq1) (lw_V q799 q801 qs15 q120 q802) rfl hdX1_formAt rfl rfl (Nat.le_of_ble_eq_true rfl) ⟨by decide, by decide⟩ dX1_orbit_2 ?_
    cases h
    exact r_xoutI C X hK
  · refine r_xV C (As := [vI x1]) (b := a0) (rest := []) (st1 := [vO q1.1]) (v := some (vO q1.1)) (μ1 := q1.2) (r := (RX1, TX1, 19)) (ci := 0) rfl eu3 (m_X1_formAt C.tr eq1) (lw_V q799 q801 qs15 q120 q802) rfl hdX1_formAt rfl rfl (Nat.le_of_ble_eq_true rfl) ⟨by decide, by decide⟩ dX1_orbit_2 rfl ?_
    refine r_astore_n C [(2, vO q1.1), (0, vO a0), (1, vI x1)] dX1_orbit_5 rfl (by decide) rfl ?_
    refine r_aload_n C 1 dX1_orbit_6 rfl rfl ?_
    obtain ⟨v4, ev4, h⟩ := bs h
    refine r_getR C (c := 0) (r := (RX1, TX1, 19)) rfl 1 (by decide) rfl ev4 q422 dX1_orbit_7 ?_
    obtain ⟨v5, ev5, h⟩ := bs h
    refine r_getRN C (c := 4) (r := (RX6, TX6, 6)) rfl 0 (by decide) rfl ev5 (lw_n q320 rfl) dX1_orbit_10 ?_
    obtain ⟨v6, ev6, h⟩ := bs h
    refine r_getIN C (c := 5) (r := (RX7, TX7, 1)) rfl 0 (by decide) rfl ev6 (lw_n q289 rfl) dX1_orbit_13 ?_
    refine r_istore_n C [(3, vI v6), (2, vO q1.1), (0, vO a0), (1, vI x1)] dX1_orbit_16 rfl (by decide) rfl ?_
    refine r_iload_n C 0 dX1_orbit_17 rfl rfl ?_
    refine r_iload_n C 0 dX1_orbit_18 rfl rfl ?_
    refine r_imul C dX1_orbit_19 ?_
    refine r_iconst C dX1_orbit_20 ?_
    refine r_isub C dX1_orbit_21 ?_
    refine r_iload_n C 0 dX1_orbit_22 rfl rfl ?_
    refine r_iload_n C 0 dX1_orbit_23 rfl rfl ?_
    refine r_imul C dX1_orbit_24 ?_
    refine r_iload_n C 0 dX1_orbit_25 rfl rfl ?_
    refine r_isub C dX1_orbit_26 ?_
    refine r_imul C dX1_orbit_27 ?_
    refine r_aload_n C 2 dX1_orbit_28 rfl rfl ?_
    refine r_aload_n C 1 dX1_orbit_29 rfl rfl ?_
    refine r_aload_n C 1 dX1_orbit_30 rfl rfl ?_
    refine r_iconst C dX1_orbit_31 ?_
    obtain ⟨u8, eu8, h⟩ := bs h
    obtain ⟨q7, eq7, h⟩ := bs h
    refine r_callV C (As := [vO q1.1, vO q1.1, vI 0]) (b := a0) (rest := [vI (((v6 * v6) - 1) * ((v6 * v6) - v6))]) (st1 := [vI q7.1, vI (((v6 * v6) - 1) * ((v6 * v6) - v6))]) (v := some (vI q7.1)) (r := (RX1, TX1, 19)) (ci := 0) rfl eu8 (m_X1_tables C.tr eq7) (lw_V q1058 q1060 qs24 q120 q1061) rfl hdX1_tables rfl rfl (Nat.le_of_ble_eq_true rfl) ⟨by decide, by decide⟩ dX1_orbit_32 rfl ?_
    obtain ⟨v9, ev9, h⟩ := bs h
    refine r_idiv C ev9 dX1_orbit_35 ?_
    cases h
    exact r_xiret C hK dX1_orbit_36
theorem hdX1_orbit : zhd yX1_orbit 1 := by decide +kernel
theorem m_X1_orbit {l : Launch} {D : va_G} {b0 : Nat} (hl : l.stackTraces = false) {a0 : Nat} {x1 : Int} {μ : Me} {w : Ex ⊕ (Int × Me)} (h : s_X1_orbit a0 x1 μ = some w) : XN l D b0 yX1_orbit (ws_ yX1_orbit cX1_orbit 4 (some .int)) 8 [vO a0, vI x1] μ (zoI w) (zmI w) :=
  XN.of hl (by decide +kernel) (Nat.le_of_ble_eq_true rfl) (fun Z C X _ _ => w_X1_orbit C X h rfl)
noncomputable def s_X1_two (a0 : Nat) (x1 : Int) (x2 : Int) (x3 : Int) (x4 : Int) (μ : Me) : Option (Int × Me) :=
  (gR μ 0 a0 1).bind fun v1 =>
  (gR μ 4 v1 0).bind fun v2 =>
  (ck μ 5 v2).bind fun _ =>
  (s_X7_of v2 (((w32 x1) * (w32 x2)) + ((w32 x3) * (w32 x4))) μ).bind fun q3 =>
  some (q3.1, q3.2)
theorem w_X1_two {Z : Zt} {fin : Int × Me} {w : Int × Me} (C : CX Z yX1_two cX1_two (some .int) 2 5) {a0 : Nat} {x1 : Int} {x2 : Int} {x3 : Int} {x4 : Int} {μ : Me} (h : s_X1_two a0 x1 x2 x3 x4 μ = some w) (hK : w = fin) : WL Z (QN Z (some (vI fin.1)) fin.2) μ 0 [(0, vO a0), (1, vI x1), (2, vI x2), (3, vI x3), (4, vI x4)] [] := by
  unfold s_X1_two at h
  refine r_aload_n C 0 dX1_two_0 rfl rfl ?_
  obtain ⟨v1, ev1, h⟩ := bs h
  refine r_getR C (c := 0) (r := (RX1, TX1, 19)) rfl 1 (by decide) rfl ev1 q422 dX1_two_1 ?_
  obtain ⟨v2, ev2, h⟩ := bs h
  refine r_getRN C (c := 4) (r := (RX6, TX6, 6)) rfl 0 (by decide) rfl ev2 (lw_n q320 rfl) dX1_two_4 ?_
  refine r_iload_n C 1 dX1_two_7 rfl rfl ?_
  refine r_i2l C dX1_two_8 ?_
  refine r_iload_n C 2 dX1_two_9 rfl rfl ?_
  refine r_i2l C dX1_two_10 ?_
  refine r_lmul C dX1_two_11 ?_
  refine r_iload_n C 3 dX1_two_12 rfl rfl ?_
  refine r_i2l C dX1_two_13 ?_
  refine r_iload C 4 dX1_two_14 rfl ?_
  refine r_i2l C dX1_two_16 ?_
  refine r_lmul C dX1_two_17 ?_
  refine r_ladd C dX1_two_18 ?_
  obtain ⟨u4, eu4, h⟩ := bs h
  obtain ⟨q3, eq3, h⟩ := bs h
  refine r_callV C (As := [vJ (((w32 x1) * (w32 x2)) + ((w32 x3) * (w32 x4)))]) (b := v2) (rest := []) (st1 := [vI q3.1]) (v := some (vI q3.1)) (r := (RX7, TX7, 1)) (ci := 5) rfl eu4 (m_X7_of C.tr eq3) (lw_V q631 q632 q633 q129 q634) rfl hdX7_of rfl rfl (Nat.le_of_ble_eq_true rfl) ⟨by decide, by decide⟩ dX1_two_19 rfl ?_
  cases h
  exact r_iret C hK dX1_two_22
theorem hdX1_two : zhd yX1_two 4 := by decide +kernel
theorem m_X1_two {l : Launch} {D : va_G} {b0 : Nat} (hl : l.stackTraces = false) {a0 : Nat} {x1 : Int} {x2 : Int} {x3 : Int} {x4 : Int} {μ : Me} {w : Int × Me} (h : s_X1_two a0 x1 x2 x3 x4 μ = some w) : MN l D b0 yX1_two (ws_ yX1_two cX1_two 5 (some .int)) 2 [vO a0, vI x1, vI x2, vI x3, vI x4] μ (some (vI w.1)) w.2 :=
  MN.of hl (by decide +kernel) (Nat.le_of_ble_eq_true rfl) (fun Z C _ _ => w_X1_two C h rfl)
noncomputable def s_X1_adds_b17 (a0 : Nat) (x1 : Int) (x2 : Int) (x3 : Int) (x4 : Int) (t0 : Int) (μ : Me) : Option (Ex ⊕ (Int × Me)) :=
  xb (s_X1_mayBe t0 μ) (fun e5 => some (.inl e5)) fun q4 =>
  (gR q4 0 a0 2).bind fun v6 =>
  (gR q4 7 v6 1).bind fun v7 =>
  (gR q4 0 a0 2).bind fun v8 =>
  (gI q4 7 v8 6).bind fun v9 =>
  (aR q4 105 v7 v9).bind fun v10 =>
  (uI q4 v10 0 x1).bind fun m11 =>
  (uI m11 v10 1 x2).bind fun m12 =>
  (uI m12 v10 2 x3).bind fun m13 =>
  (uI m13 v10 3 x4).bind fun m14 =>
  (gR m14 0 a0 2).bind fun v15 =>
  (gI m14 7 v15 6).bind fun v16 =>
  (pI m14 7 v15 6 (v16 + 1)).bind fun m17 =>
  (gR m17 0 a0 2).bind fun v18 =>
  (gI m17 7 v18 6).bind fun v19 =>
  some (.inr ((v19 - 1), m17))
theorem w_X1_adds_b17 {Z : Zt} {fin : Ex ⊕ (Int × Me)} {w : (Ex ⊕ (Int × Me))} (C : CX Z yX1_adds cX1_adds (some .int) 7 6) (X : XE Z) {a0 : Nat} {x1 : Int} {x2 : Int} {x3 : Int} {x4 : Int} {t0 : Int} {μ : Me} (h : s_X1_adds_b17 a0 x1 x2 x3 x4 t0 μ = some w) (hK : (fun r : Ex ⊕ (Int × Me) => r = fin) w) : WL Z (XQ Z (zoI fin) (zmI fin)) μ 17 [(0, vO a0), (1, vI x1), (2, vI x2), (3, vI x3), (4, vI x4)] [vI t0] := by
  unfold s_X1_adds_b17 at h
  rcases xbs h with ⟨e5, eq4, h⟩ | ⟨q4, eq4, h⟩
  · refine r_xSx C (As := [vI t0]) (rest := []) (μ1 := e5.2.2) (m_X1_mayBe C.tr eq4) (lw_S q609 q610 q120 q611) hdX1_mayBe rfl rfl (Nat.le_of_ble_eq_true rfl) ⟨by decide, by decide⟩ dX1_adds_17 ?_
    cases h
    exact r_xoutI C X hK
  · refine r_xS C (As := [vI t0]) (rest := []) (st1 := []) (v := none) (μ1 := q4) (m_X1_mayBe C.tr eq4) (lw_S q609 q610 q120 q611) hdX1_mayBe rfl rfl (Nat.le_of_ble_eq_true rfl) ⟨by decide, by decide⟩ dX1_adds_17 rfl ?_
    refine r_aload_n C 0 dX1_adds_20 rfl rfl ?_
    obtain ⟨v6, ev6, h⟩ := bs h
    refine r_getR C (c := 0) (r := (RX1, TX1, 19)) rfl 2 (by decide) rfl ev6 q426 dX1_adds_21 ?_
    obtain ⟨v7, ev7, h⟩ := bs h
    refine r_getRN C (c := 7) (r := (RX9, TX9, 10)) rfl 1 (by decide) rfl ev7 (lw_n q380 rfl) dX1_adds_24 ?_
    refine r_aload_n C 0 dX1_adds_27 rfl rfl ?_
    obtain ⟨v8, ev8, h⟩ := bs h
    refine r_getR C (c := 0) (r := (RX1, TX1, 19)) rfl 2 (by decide) rfl ev8 q426 dX1_adds_28 ?_
    obtain ⟨v9, ev9, h⟩ := bs h
    refine r_getIN C (c := 7) (r := (RX9, TX9, 10)) rfl 6 (by decide) rfl ev9 (lw_n q390 rfl) dX1_adds_31 ?_
    obtain ⟨v10, ev10, h⟩ := bs h
    refine r_aald C (kt := 4) ev10 rfl rfl ⟨by decide, by decide⟩ dX1_adds_34 ?_
    refine r_astore C [(5, vO v10), (0, vO a0), (1, vI x1), (2, vI x2), (3, vI x3), (4, vI x4)] dX1_adds_35 (by decide) rfl ?_
    refine r_aload C 0 dX1_adds_37 rfl ?_
    refine r_iconst C dX1_adds_39 ?_
    refine r_iload_n C 2 dX1_adds_40 rfl rfl ?_
    obtain ⟨m11, em11, h⟩ := bs h
    refine r_iast C em11 dX1_adds_41 ?_
    refine r_aload C 0 dX1_adds_42 rfl ?_
    refine r_iconst C dX1_adds_44 ?_
    refine r_iload_n C 3 dX1_adds_45 rfl rfl ?_
    obtain ⟨m12, em12, h⟩ := bs h
    refine r_iast C em12 dX1_adds_46 ?_
    refine r_aload C 0 dX1_adds_47 rfl ?_
    refine r_iconst C dX1_adds_49 ?_
    refine r_iload_n C 4 dX1_adds_50 rfl rfl ?_
    obtain ⟨m13, em13, h⟩ := bs h
    refine r_iast C em13 dX1_adds_51 ?_
    refine r_aload C 0 dX1_adds_52 rfl ?_
    refine r_iconst C dX1_adds_54 ?_
    refine r_iload C 5 dX1_adds_55 rfl ?_
    obtain ⟨m14, em14, h⟩ := bs h
    refine r_iast C em14 dX1_adds_57 ?_
    refine r_aload_n C 1 dX1_adds_58 rfl rfl ?_
    obtain ⟨v15, ev15, h⟩ := bs h
    refine r_getR C (c := 0) (r := (RX1, TX1, 19)) rfl 2 (by decide) rfl ev15 q426 dX1_adds_59 ?_
    refine r_dup C dX1_adds_62 rfl ?_
    obtain ⟨v16, ev16, h⟩ := bs h
    refine r_getIN C (c := 7) (r := (RX9, TX9, 10)) rfl 6 (by decide) rfl ev16 (lw_n q390 rfl) dX1_adds_63 ?_
    refine r_iconst C dX1_adds_66 ?_
    refine r_iadd C dX1_adds_67 ?_
    obtain ⟨m17, em17, h⟩ := bs h
    refine r_putIN C (c := 7) (r := (RX9, TX9, 10)) rfl 6 (by decide) rfl ⟨rfl, rfl⟩ rfl em17 (lw_n q390 rfl) dX1_adds_68 ?_
    refine r_aload_n C 1 dX1_adds_71 rfl rfl ?_
    obtain ⟨v18, ev18, h⟩ := bs h
    refine r_getR C (c := 0) (r := (RX1, TX1, 19)) rfl 2 (by decide) rfl ev18 q426 dX1_adds_72 ?_
    obtain ⟨v19, ev19, h⟩ := bs h
    refine r_getIN C (c := 7) (r := (RX9, TX9, 10)) rfl 6 (by decide) rfl ev19 (lw_n q390 rfl) dX1_adds_75 ?_
    refine r_iconst C dX1_adds_78 ?_
    refine r_isub C dX1_adds_79 ?_
    cases h
    exact r_xiret C hK dX1_adds_80
noncomputable def s_X1_adds (a0 : Nat) (x1 : Int) (x2 : Int) (x3 : Int) (x4 : Int) (μ : Me) : Option (Ex ⊕ (Int × Me)) :=
  (gR μ 0 a0 2).bind fun v1 =>
  (gI μ 7 v1 6).bind fun v2 =>
  (if w32 8 ≤ w32 v2 then
  s_X1_adds_b17 a0 x1 x2 x3 x4 0 μ
  else
  s_X1_adds_b17 a0 x1 x2 x3 x4 1 μ)
theorem w_X1_adds {Z : Zt} {fin : Ex ⊕ (Int × Me)} {w : Ex ⊕ (Int × Me)} (C : CX Z yX1_adds cX1_adds (some .int) 7 6) (X : XE Z) {a0 : Nat} {x1 : Int} {x2 : Int} {x3 : Int} {x4 : Int} {μ : Me} (h : s_X1_adds a0 x1 x2 x3 x4 μ = some w) (hK : w = fin) : WL Z (XQ Z (zoI fin) (zmI fin)) μ 0 [(0, vO a0), (1, vI x1), (2, vI x2), (3, vI x3), (4, vI x4)] [] := by
  unfold s_X1_adds at h
  refine r_aload_n C 0 dX1_adds_0 rfl rfl ?_
  obtain ⟨v1, ev1, h⟩ := bs h
  refine r_getR C (c := 0) (r := (RX1, TX1, 19)) rfl 2 (by decide) rfl ev1 q426 dX1_adds_1 ?_
  obtain ⟨v2, ev2, h⟩ := bs h
  refine r_getIN C (c := 7) (r := (RX9, TX9, 10)) rfl 6 (by decide) rfl ev2 (lw_n q390 rfl) dX1_adds_4 ?_
  refine r_bipush C dX1_adds_7 (by decide) ?_
  refine r_icmp_ge C dX1_adds_9 (tgt := 16) (by decide) (fun c3 => ?_) (fun c3 => ?_)
  · have h := it_ h c3
    refine r_iconst C dX1_adds_16 ?_
    exact w_X1_adds_b17 (fin := fin) C X h hK
  · have h := ie_ h c3
    refine r_iconst C dX1_adds_12 ?_
    refine r_goto C dX1_adds_13 (tgt := 17) (by decide) ?_
    exact w_X1_adds_b17 (fin := fin) C X h hK
theorem hdX1_adds : zhd yX1_adds 4 := by decide +kernel
theorem m_X1_adds {l : Launch} {D : va_G} {b0 : Nat} (hl : l.stackTraces = false) {a0 : Nat} {x1 : Int} {x2 : Int} {x3 : Int} {x4 : Int} {μ : Me} {w : Ex ⊕ (Int × Me)} (h : s_X1_adds a0 x1 x2 x3 x4 μ = some w) : XN l D b0 yX1_adds (ws_ yX1_adds cX1_adds 6 (some .int)) 7 [vO a0, vI x1, vI x2, vI x3, vI x4] μ (zoI w) (zmI w) :=
  XN.of hl (by decide +kernel) (Nat.le_of_ble_eq_true rfl) (fun Z C X _ _ => w_X1_adds C X h rfl)
noncomputable def s_X1_join (a0 : Nat) (x1 : Int) (x2 : Int) (μ : Me) : Option (Ex ⊕ (Int × Me)) :=
  (ck μ 0 a0).bind fun _ =>
  xb (s_X1_tableAt a0 x1 μ) (fun e2 => some (.inl e2)) fun q1 =>
  (ck q1.2 0 a0).bind fun _ =>
  xb (s_X1_tableAt a0 x2 q1.2) (fun e5 => some (.inl e5)) fun q4 =>
  (aI q4.2 101 q1.1 0).bind fun v7 =>
  (aI q4.2 101 q4.1 0).bind fun v8 =>
  (aI q4.2 101 q1.1 1).bind fun v9 =>
  (aI q4.2 101 q4.1 2).bind fun v10 =>
  (ck q4.2 0 a0).bind fun _ =>
  (s_X1_two a0 v7 v8 v9 v10 q4.2).bind fun q11 =>
  (aI q11.2 101 q1.1 0).bind fun v13 =>
  (aI q11.2 101 q4.1 1).bind fun v14 =>
  (aI q11.2 101 q1.1 1).bind fun v15 =>
  (aI q11.2 101 q4.1 3).bind fun v16 =>
  (ck q11.2 0 a0).bind fun _ =>
  (s_X1_two a0 v13 v14 v15 v16 q11.2).bind fun q17 =>
  (aI q17.2 101 q1.1 2).bind fun v19 =>
  (aI q17.2 101 q4.1 0).bind fun v20 =>
  (aI q17.2 101 q1.1 3).bind fun v21 =>
  (aI q17.2 101 q4.1 2).bind fun v22 =>
  (ck q17.2 0 a0).bind fun _ =>
  (s_X1_two a0 v19 v20 v21 v22 q17.2).bind fun q23 =>
  (aI q23.2 101 q1.1 2).bind fun v25 =>
  (aI q23.2 101 q4.1 1).bind fun v26 =>
  (aI q23.2 101 q1.1 3).bind fun v27 =>
  (aI q23.2 101 q4.1 3).bind fun v28 =>
  (ck q23.2 0 a0).bind fun _ =>
  (s_X1_two a0 v25 v26 v27 v28 q23.2).bind fun q29 =>
  (ck q29.2 0 a0).bind fun _ =>
  xb (s_X1_adds a0 q11.1 q17.1 q23.1 q29.1 q29.2) (fun e32 => some (.inl e32)) fun q31 =>
  some (.inr (q31.1, q31.2))
theorem w_X1_join {Z : Zt} {fin : Ex ⊕ (Int × Me)} {w : Ex ⊕ (Int × Me)} (C : CX Z yX1_join cX1_join (some .int) 8 5) (X : XE Z) {a0 : Nat} {x1 : Int} {x2 : Int} {μ : Me} (h : s_X1_join a0 x1 x2 μ = some w) (hK : w = fin) : WL Z (XQ Z (zoI fin) (zmI fin)) μ 0 [(0, vO a0), (1, vI x1), (2, vI x2)] [] := by
  unfold s_X1_join at h
  refine r_aload_n C 0 dX1_join_0 rfl rfl ?_
  refine r_iload_n C 1 dX1_join_1 rfl rfl ?_
  obtain ⟨u3, eu3, h⟩ := bs h
  rcases xbs h with ⟨e2, eq1, h⟩ | ⟨q1, eq1, h⟩
  · refine r_xVx C (As := [vI x1]) (b := a0) (rest := []) (μ1 := e2.2.2) (r := (RX1, TX1, 19)) (ci := 0) rfl eu3 (m_X1_tableAt C.tr eq1) (lw_V q848 q850 qs16 q120 q851) rfl hdX1_tableAt rfl rfl (Nat.le_of_ble_eq_true rfl) ⟨by decide, by decide⟩ dX1_join_2 ?_
    cases h
    exact r_xoutI C X hK
  · refine r_xV C (As := [vI x1]) (b := a0) (rest := []) (st1 := [vO q1.1]) (v := some (vO q1.1)) (μ1 := q1.2) (r := (RX1, TX1, 19)) (ci := 0) rfl eu3 (m_X1_tableAt C.tr eq1) (lw_V q848 q850 qs16 q120 q851) rfl hdX1_tableAt rfl rfl (Nat.le_of_ble_eq_true rfl) ⟨by decide, by decide⟩ dX1_join_2 rfl ?_
    refine r_astore_n C [(3, vO q1.1), (0, vO a0), (1, vI x1), (2, vI x2)] dX1_join_5 rfl (by decide) rfl ?_
    refine r_aload_n C 1 dX1_join_6 rfl rfl ?_
    refine r_iload_n C 3 dX1_join_7 rfl rfl ?_
    obtain ⟨u6, eu6, h⟩ := bs h
    rcases xbs h with ⟨e5, eq4, h⟩ | ⟨q4, eq4, h⟩
    · refine r_xVx C (As := [vI x2]) (b := a0) (rest := []) (μ1 := e5.2.2) (r := (RX1, TX1, 19)) (ci := 0) rfl eu6 (m_X1_tableAt C.tr eq4) (lw_V q848 q850 qs16 q120 q851) rfl hdX1_tableAt rfl rfl (Nat.le_of_ble_eq_true rfl) ⟨by decide, by decide⟩ dX1_join_8 ?_
      cases h
      exact r_xoutI C X hK
    · refine r_xV C (As := [vI x2]) (b := a0) (rest := []) (st1 := [vO q4.1]) (v := some (vO q4.1)) (μ1 := q4.2) (r := (RX1, TX1, 19)) (ci := 0) rfl eu6 (m_X1_tableAt C.tr eq4) (lw_V q848 q850 qs16 q120 q851) rfl hdX1_tableAt rfl rfl (Nat.le_of_ble_eq_true rfl) ⟨by decide, by decide⟩ dX1_join_8 rfl ?_
      refine r_astore C [(4, vO q4.1), (3, vO q1.1), (0, vO a0), (1, vI x1), (2, vI x2)] dX1_join_11 (by decide) rfl ?_
      refine r_aload_n C 2 dX1_join_13 rfl rfl ?_
      refine r_aload_n C 2 dX1_join_14 rfl rfl ?_
      refine r_aload_n C 1 dX1_join_15 rfl rfl ?_
      refine r_iconst C dX1_join_16 ?_
      obtain ⟨v7, ev7, h⟩ := bs h
      refine r_iald C ev7 dX1_join_17 ?_
      refine r_aload C 0 dX1_join_18 rfl ?_
      refine r_iconst C dX1_join_20 ?_
      obtain ⟨v8, ev8, h⟩ := bs h
      refine r_iald C ev8 dX1_join_21 ?_
      refine r_aload_n C 1 dX1_join_22 rfl rfl ?_
      refine r_iconst C dX1_join_23 ?_
      obtain ⟨v9, ev9, h⟩ := bs h
      refine r_iald C ev9 dX1_join_24 ?_
      refine r_aload C 0 dX1_join_25 rfl ?_
      refine r_iconst C dX1_join_27 ?_
      obtain ⟨v10, ev10, h⟩ := bs h
      refine r_iald C ev10 dX1_join_28 ?_
      obtain ⟨u12, eu12, h⟩ := bs h
      obtain ⟨q11, eq11, h⟩ := bs h
      refine r_callV C (As := [vI v7, vI v8, vI v9, vI v10]) (b := a0) (rest := [vO a0]) (st1 := [vI q11.1, vO a0]) (v := some (vI q11.1)) (r := (RX1, TX1, 19)) (ci := 0) rfl eu12 (m_X1_two C.tr eq11) (lw_V q1076 q1078 qs25 q120 q1079) rfl hdX1_two rfl rfl (Nat.le_of_ble_eq_true rfl) ⟨by decide, by decide⟩ dX1_join_29 rfl ?_
      refine r_aload_n C 2 dX1_join_32 rfl rfl ?_
      refine r_aload_n C 1 dX1_join_33 rfl rfl ?_
      refine r_iconst C dX1_join_34 ?_
      obtain ⟨v13, ev13, h⟩ := bs h
      refine r_iald C ev13 dX1_join_35 ?_
      refine r_aload C 0 dX1_join_36 rfl ?_
      refine r_iconst C dX1_join_38 ?_
      obtain ⟨v14, ev14, h⟩ := bs h
      refine r_iald C ev14 dX1_join_39 ?_
      refine r_aload_n C 1 dX1_join_40 rfl rfl ?_
      refine r_iconst C dX1_join_41 ?_
      obtain ⟨v15, ev15, h⟩ := bs h
      refine r_iald C ev15 dX1_join_42 ?_
      refine r_aload C 0 dX1_join_43 rfl ?_
      refine r_iconst C dX1_join_45 ?_
      obtain ⟨v16, ev16, h⟩ := bs h
      refine r_iald C ev16 dX1_join_46 ?_
      obtain ⟨u18, eu18, h⟩ := bs h
      obtain ⟨q17, eq17, h⟩ := bs h
      refine r_callV C (As := [vI v13, vI v14, vI v15, vI v16]) (b := a0) (rest := [vI q11.1, vO a0]) (st1 := [vI q17.1, vI q11.1, vO a0]) (v := some (vI q17.1)) (r := (RX1, TX1, 19)) (ci := 0) rfl eu18 (m_X1_two C.tr eq17) (lw_V q1076 q1078 qs25 q120 q1079) rfl hdX1_two rfl rfl (Nat.le_of_ble_eq_true rfl) ⟨by decide, by decide⟩ dX1_join_47 rfl ?_
      refine r_aload_n C 2 dX1_join_50 rfl rfl ?_
      refine r_aload_n C 1 dX1_join_51 rfl rfl ?_
      refine r_iconst C dX1_join_52 ?_
      obtain ⟨v19, ev19, h⟩ := bs h
      refine r_iald C ev19 dX1_join_53 ?_
      refine r_aload C 0 dX1_join_54 rfl ?_
      refine r_iconst C dX1_join_56 ?_
      obtain ⟨v20, ev20, h⟩ := bs h
      refine r_iald C ev20 dX1_join_57 ?_
      refine r_aload_n C 1 dX1_join_58 rfl rfl ?_
      refine r_iconst C dX1_join_59 ?_
      obtain ⟨v21, ev21, h⟩ := bs h
      refine r_iald C ev21 dX1_join_60 ?_
      refine r_aload C 0 dX1_join_61 rfl ?_
      refine r_iconst C dX1_join_63 ?_
      obtain ⟨v22, ev22, h⟩ := bs h
      refine r_iald C ev22 dX1_join_64 ?_
      obtain ⟨u24, eu24, h⟩ := bs h
      obtain ⟨q23, eq23, h⟩ := bs h
      refine r_callV C (As := [vI v19, vI v20, vI v21, vI v22]) (b := a0) (rest := [vI q17.1, vI q11.1, vO a0]) (st1 := [vI q23.1, vI q17.1, vI q11.1, vO a0]) (v := some (vI q23.1)) (r := (RX1, TX1, 19)) (ci := 0) rfl eu24 (m_X1_two C.tr eq23) (lw_V q1076 q1078 qs25 q120 q1079) rfl hdX1_two rfl rfl (Nat.le_of_ble_eq_true rfl) ⟨by decide, by decide⟩ dX1_join_65 rfl ?_
      refine r_aload_n C 2 dX1_join_68 rfl rfl ?_
      refine r_aload_n C 1 dX1_join_69 rfl rfl ?_
      refine r_iconst C dX1_join_70 ?_
      obtain ⟨v25, ev25, h⟩ := bs h
      refine r_iald C ev25 dX1_join_71 ?_
      refine r_aload C 0 dX1_join_72 rfl ?_
      refine r_iconst C dX1_join_74 ?_
      obtain ⟨v26, ev26, h⟩ := bs h
      refine r_iald C ev26 dX1_join_75 ?_
      refine r_aload_n C 1 dX1_join_76 rfl rfl ?_
      refine r_iconst C dX1_join_77 ?_
      obtain ⟨v27, ev27, h⟩ := bs h
      refine r_iald C ev27 dX1_join_78 ?_
      refine r_aload C 0 dX1_join_79 rfl ?_
      refine r_iconst C dX1_join_81 ?_
      obtain ⟨v28, ev28, h⟩ := bs h
      refine r_iald C ev28 dX1_join_82 ?_
      obtain ⟨u30, eu30, h⟩ := bs h
      obtain ⟨q29, eq29, h⟩ := bs h
      refine r_callV C (As := [vI v25, vI v26, vI v27, vI v28]) (b := a0) (rest := [vI q23.1, vI q17.1, vI q11.1, vO a0]) (st1 := [vI q29.1, vI q23.1, vI q17.1, vI q11.1, vO a0]) (v := some (vI q29.1)) (r := (RX1, TX1, 19)) (ci := 0) rfl eu30 (m_X1_two C.tr eq29) (lw_V q1076 q1078 qs25 q120 q1079) rfl hdX1_two rfl rfl (Nat.le_of_ble_eq_true rfl) ⟨by decide, by decide⟩ dX1_join_83 rfl ?_
      obtain ⟨u33, eu33, h⟩ := bs h
      rcases xbs h with ⟨e32, eq31, h⟩ | ⟨q31, eq31, h⟩
      · refine r_xVx C (As := [vI q11.1, vI q17.1, vI q23.1, vI q29.1]) (b := a0) (rest := []) (μ1 := e32.2.2) (r := (RX1, TX1, 19)) (ci := 0) rfl eu33 (m_X1_adds C.tr eq31) (lw_V q1080 q1082 qs26 q120 q1083) rfl hdX1_adds rfl rfl (Nat.le_of_ble_eq_true rfl) ⟨by decide, by decide⟩ dX1_join_86 ?_
        cases h
        exact r_xoutI C X hK
      · refine r_xV C (As := [vI q11.1, vI q17.1, vI q23.1, vI q29.1]) (b := a0) (rest := []) (st1 := [vI q31.1]) (v := some (vI q31.1)) (μ1 := q31.2) (r := (RX1, TX1, 19)) (ci := 0) rfl eu33 (m_X1_adds C.tr eq31) (lw_V q1080 q1082 qs26 q120 q1083) rfl hdX1_adds rfl rfl (Nat.le_of_ble_eq_true rfl) ⟨by decide, by decide⟩ dX1_join_86 rfl ?_
        cases h
        exact r_xiret C hK dX1_join_89
theorem hdX1_join : zhd yX1_join 2 := by decide +kernel
theorem m_X1_join {l : Launch} {D : va_G} {b0 : Nat} (hl : l.stackTraces = false) {a0 : Nat} {x1 : Int} {x2 : Int} {μ : Me} {w : Ex ⊕ (Int × Me)} (h : s_X1_join a0 x1 x2 μ = some w) : XN l D b0 yX1_join (ws_ yX1_join cX1_join 5 (some .int)) 8 [vO a0, vI x1, vI x2] μ (zoI w) (zmI w) :=
  XN.of hl (by decide +kernel) (Nat.le_of_ble_eq_true rfl) (fun Z C X _ _ => w_X1_join C X h rfl)
noncomputable def s_X1_turn (a0 : Nat) (x1 : Int) (μ : Me) : Option (Ex ⊕ (Int × Me)) :=
  (ck μ 0 a0).bind fun _ =>
  xb (s_X1_tableAt a0 x1 μ) (fun e2 => some (.inl e2)) fun q1 =>
  (gR q1.2 0 a0 1).bind fun v4 =>
  (gR q1.2 4 v4 0).bind fun v5 =>
  (aI q1.2 101 q1.1 0).bind fun v6 =>
  (aI q1.2 101 q1.1 1).bind fun v7 =>
  (aI q1.2 101 q1.1 2).bind fun v8 =>
  (aI q1.2 101 q1.1 3).bind fun v9 =>
  (ck q1.2 0 a0).bind fun _ =>
  (s_X1_detOf a0 v6 v7 v8 v9 q1.2).bind fun q10 =>
  (ck q10.2 5 v5).bind fun _ =>
  (s_X7_inverse v5 q10.1 q10.2).bind fun q12 =>
  (aI q12.2 101 q1.1 3).bind fun v14 =>
  (ck q12.2 0 a0).bind fun _ =>
  (s_X1_two a0 v14 q12.1 0 0 q12.2).bind fun q15 =>
  (aI q15.2 101 q1.1 1).bind fun v17 =>
  (ck q15.2 0 a0).bind fun _ =>
  (s_X1_two a0 (-v17) q12.1 0 0 q15.2).bind fun q18 =>
  (aI q18.2 101 q1.1 2).bind fun v20 =>
  (ck q18.2 0 a0).bind fun _ =>
  (s_X1_two a0 (-v20) q12.1 0 0 q18.2).bind fun q21 =>
  (aI q21.2 101 q1.1 0).bind fun v23 =>
  (ck q21.2 0 a0).bind fun _ =>
  (s_X1_two a0 v23 q12.1 0 0 q21.2).bind fun q24 =>
  (ck q24.2 0 a0).bind fun _ =>
  xb (s_X1_adds a0 q15.1 q18.1 q21.1 q24.1 q24.2) (fun e27 => some (.inl e27)) fun q26 =>
  some (.inr (q26.1, q26.2))
theorem w_X1_turn {Z : Zt} {fin : Ex ⊕ (Int × Me)} {w : Ex ⊕ (Int × Me)} (C : CX Z yX1_turn cX1_turn (some .int) 8 4) (X : XE Z) {a0 : Nat} {x1 : Int} {μ : Me} (h : s_X1_turn a0 x1 μ = some w) (hK : w = fin) : WL Z (XQ Z (zoI fin) (zmI fin)) μ 0 [(0, vO a0), (1, vI x1)] [] := by
  unfold s_X1_turn at h
  refine r_aload_n C 0 dX1_turn_0 rfl rfl ?_
  refine r_iload_n C 1 dX1_turn_1 rfl rfl ?_
  obtain ⟨u3, eu3, h⟩ := bs h
  rcases xbs h with ⟨e2, eq1, h⟩ | ⟨q1, eq1, h⟩
  · refine r_xVx C (As := [vI x1]) (b := a0) (rest := []) (μ1 := e2.2.2) (r := (RX1, TX1, 19)) (ci := 0) rfl eu3 (m_X1_tableAt C.tr eq1) (lw_V q848 q850 qs16 q120 q851) rfl hdX1_tableAt rfl rfl (Nat.le_of_ble_eq_true rfl) ⟨by decide, by decide⟩ dX1_turn_2 ?_
    cases h
    exact r_xoutI C X hK
  · refine r_xV C (As := [vI x1]) (b := a0) (rest := []) (st1 := [vO q1.1]) (v := some (vO q1.1)) (μ1 := q1.2) (r := (RX1, TX1, 19)) (ci := 0) rfl eu3 (m_X1_tableAt C.tr eq1) (lw_V q848 q850 qs16 q120 q851) rfl hdX1_tableAt rfl rfl (Nat.le_of_ble_eq_true rfl) ⟨by decide, by decide⟩ dX1_turn_2 rfl ?_
    refine r_astore_n C [(2, vO q1.1), (0, vO a0), (1, vI x1)] dX1_turn_5 rfl (by decide) rfl ?_
    refine r_aload_n C 1 dX1_turn_6 rfl rfl ?_
    obtain ⟨v4, ev4, h⟩ := bs h
    refine r_getR C (c := 0) (r := (RX1, TX1, 19)) rfl 1 (by decide) rfl ev4 q422 dX1_turn_7 ?_
    obtain ⟨v5, ev5, h⟩ := bs h
    refine r_getRN C (c := 4) (r := (RX6, TX6, 6)) rfl 0 (by decide) rfl ev5 (lw_n q320 rfl) dX1_turn_10 ?_
    refine r_aload_n C 1 dX1_turn_13 rfl rfl ?_
    refine r_aload_n C 0 dX1_turn_14 rfl rfl ?_
    refine r_iconst C dX1_turn_15 ?_
    obtain ⟨v6, ev6, h⟩ := bs h
    refine r_iald C ev6 dX1_turn_16 ?_
    refine r_aload_n C 0 dX1_turn_17 rfl rfl ?_
    refine r_iconst C dX1_turn_18 ?_
    obtain ⟨v7, ev7, h⟩ := bs h
    refine r_iald C ev7 dX1_turn_19 ?_
    refine r_aload_n C 0 dX1_turn_20 rfl rfl ?_
    refine r_iconst C dX1_turn_21 ?_
    obtain ⟨v8, ev8, h⟩ := bs h
    refine r_iald C ev8 dX1_turn_22 ?_
    refine r_aload_n C 0 dX1_turn_23 rfl rfl ?_
    refine r_iconst C dX1_turn_24 ?_
    obtain ⟨v9, ev9, h⟩ := bs h
    refine r_iald C ev9 dX1_turn_25 ?_
    obtain ⟨u11, eu11, h⟩ := bs h
    obtain ⟨q10, eq10, h⟩ := bs h
    refine r_callV C (As := [vI v6, vI v7, vI v8, vI v9]) (b := a0) (rest := [vO v5]) (st1 := [vI q10.1, vO v5]) (v := some (vI q10.1)) (r := (RX1, TX1, 19)) (ci := 0) rfl eu11 (m_X1_detOf C.tr eq10) (lw_V q642 q644 qs3 q120 q645) rfl hdX1_detOf rfl rfl (Nat.le_of_ble_eq_true rfl) ⟨by decide, by decide⟩ dX1_turn_26 rfl ?_
    obtain ⟨u13, eu13, h⟩ := bs h
    obtain ⟨q12, eq12, h⟩ := bs h
    refine r_callV C (As := [vI q10.1]) (b := v5) (rest := []) (st1 := [vI q12.1]) (v := some (vI q12.1)) (r := (RX7, TX7, 1)) (ci := 5) rfl eu13 (m_X7_inverse C.tr eq12) (lw_V q1039 q1040 q1041 q129 q1042) rfl hdX7_inverse rfl rfl (Nat.le_of_ble_eq_true rfl) ⟨by decide, by decide⟩ dX1_turn_29 rfl ?_
    refine r_istore_n C [(3, vI q12.1), (2, vO q1.1), (0, vO a0), (1, vI x1)] dX1_turn_32 rfl (by decide) rfl ?_
    refine r_aload_n C 2 dX1_turn_33 rfl rfl ?_
    refine r_aload_n C 2 dX1_turn_34 rfl rfl ?_
    refine r_aload_n C 1 dX1_turn_35 rfl rfl ?_
    refine r_iconst C dX1_turn_36 ?_
    obtain ⟨v14, ev14, h⟩ := bs h
    refine r_iald C ev14 dX1_turn_37 ?_
    refine r_iload_n C 0 dX1_turn_38 rfl rfl ?_
    refine r_iconst C dX1_turn_39 ?_
    refine r_iconst C dX1_turn_40 ?_
    obtain ⟨u16, eu16, h⟩ := bs h
    obtain ⟨q15, eq15, h⟩ := bs h
    refine r_callV C (As := [vI v14, vI q12.1, vI 0, vI 0]) (b := a0) (rest := [vO a0]) (st1 := [vI q15.1, vO a0]) (v := some (vI q15.1)) (r := (RX1, TX1, 19)) (ci := 0) rfl eu16 (m_X1_two C.tr eq15) (lw_V q1076 q1078 qs25 q120 q1079) rfl hdX1_two rfl rfl (Nat.le_of_ble_eq_true rfl) ⟨by decide, by decide⟩ dX1_turn_41 rfl ?_
    refine r_aload_n C 2 dX1_turn_44 rfl rfl ?_
    refine r_aload_n C 1 dX1_turn_45 rfl rfl ?_
    refine r_iconst C dX1_turn_46 ?_
    obtain ⟨v17, ev17, h⟩ := bs h
    refine r_iald C ev17 dX1_turn_47 ?_
    refine r_ineg C dX1_turn_48 ?_
    refine r_iload_n C 0 dX1_turn_49 rfl rfl ?_
    refine r_iconst C dX1_turn_50 ?_
    refine r_iconst C dX1_turn_51 ?_
    obtain ⟨u19, eu19, h⟩ := bs h
    obtain ⟨q18, eq18, h⟩ := bs h
    refine r_callV C (As := [vI (-v17), vI q12.1, vI 0, vI 0]) (b := a0) (rest := [vI q15.1, vO a0]) (st1 := [vI q18.1, vI q15.1, vO a0]) (v := some (vI q18.1)) (r := (RX1, TX1, 19)) (ci := 0) rfl eu19 (m_X1_two C.tr eq18) (lw_V q1076 q1078 qs25 q120 q1079) rfl hdX1_two rfl rfl (Nat.le_of_ble_eq_true rfl) ⟨by decide, by decide⟩ dX1_turn_52 rfl ?_
    refine r_aload_n C 2 dX1_turn_55 rfl rfl ?_
    refine r_aload_n C 1 dX1_turn_56 rfl rfl ?_
    refine r_iconst C dX1_turn_57 ?_
    obtain ⟨v20, ev20, h⟩ := bs h
    refine r_iald C ev20 dX1_turn_58 ?_
    refine r_ineg C dX1_turn_59 ?_
    refine r_iload_n C 0 dX1_turn_60 rfl rfl ?_
    refine r_iconst C dX1_turn_61 ?_
    refine r_iconst C dX1_turn_62 ?_
    obtain ⟨u22, eu22, h⟩ := bs h
    obtain ⟨q21, eq21, h⟩ := bs h
    refine r_callV C (As := [vI (-v20), vI q12.1, vI 0, vI 0]) (b := a0) (rest := [vI q18.1, vI q15.1, vO a0]) (st1 := [vI q21.1, vI q18.1, vI q15.1, vO a0]) (v := some (vI q21.1)) (r := (RX1, TX1, 19)) (ci := 0) rfl eu22 (m_X1_two C.tr eq21) (lw_V q1076 q1078 qs25 q120 q1079) rfl hdX1_two rfl rfl (Nat.le_of_ble_eq_true rfl) ⟨by decide, by decide⟩ dX1_turn_63 rfl ?_
    refine r_aload_n C 2 dX1_turn_66 rfl rfl ?_
    refine r_aload_n C 1 dX1_turn_67 rfl rfl ?_
    refine r_iconst C dX1_turn_68 ?_
    obtain ⟨v23, ev23, h⟩ := bs h
    refine r_iald C ev23 dX1_turn_69 ?_
    refine r_iload_n C 0 dX1_turn_70 rfl rfl ?_
    refine r_iconst C dX1_turn_71 ?_
    refine r_iconst C dX1_turn_72 ?_
    obtain ⟨u25, eu25, h⟩ := bs h
    obtain ⟨q24, eq24, h⟩ := bs h
    refine r_callV C (As := [vI v23, vI q12.1, vI 0, vI 0]) (b := a0) (rest := [vI q21.1, vI q18.1, vI q15.1, vO a0]) (st1 := [vI q24.1, vI q21.1, vI q18.1, vI q15.1, vO a0]) (v := some (vI q24.1)) (r := (RX1, TX1, 19)) (ci := 0) rfl eu25 (m_X1_two C.tr eq24) (lw_V q1076 q1078 qs25 q120 q1079) rfl hdX1_two rfl rfl (Nat.le_of_ble_eq_true rfl) ⟨by decide, by decide⟩ dX1_turn_73 rfl ?_
    obtain ⟨u28, eu28, h⟩ := bs h
    rcases xbs h with ⟨e27, eq26, h⟩ | ⟨q26, eq26, h⟩
    · refine r_xVx C (As := [vI q15.1, vI q18.1, vI q21.1, vI q24.1]) (b := a0) (rest := []) (μ1 := e27.2.2) (r := (RX1, TX1, 19)) (ci := 0) rfl eu28 (m_X1_adds C.tr eq26) (lw_V q1080 q1082 qs26 q120 q1083) rfl hdX1_adds rfl rfl (Nat.le_of_ble_eq_true rfl) ⟨by decide, by decide⟩ dX1_turn_76 ?_
      cases h
      exact r_xoutI C X hK
    · refine r_xV C (As := [vI q15.1, vI q18.1, vI q21.1, vI q24.1]) (b := a0) (rest := []) (st1 := [vI q26.1]) (v := some (vI q26.1)) (μ1 := q26.2) (r := (RX1, TX1, 19)) (ci := 0) rfl eu28 (m_X1_adds C.tr eq26) (lw_V q1080 q1082 qs26 q120 q1083) rfl hdX1_adds rfl rfl (Nat.le_of_ble_eq_true rfl) ⟨by decide, by decide⟩ dX1_turn_76 rfl ?_
      cases h
      exact r_xiret C hK dX1_turn_79
theorem hdX1_turn : zhd yX1_turn 1 := by decide +kernel
theorem m_X1_turn {l : Launch} {D : va_G} {b0 : Nat} (hl : l.stackTraces = false) {a0 : Nat} {x1 : Int} {μ : Me} {w : Ex ⊕ (Int × Me)} (h : s_X1_turn a0 x1 μ = some w) : XN l D b0 yX1_turn (ws_ yX1_turn cX1_turn 4 (some .int)) 8 [vO a0, vI x1] μ (zoI w) (zmI w) :=
  XN.of hl (by decide +kernel) (Nat.le_of_ble_eq_true rfl) (fun Z C X _ _ => w_X1_turn C X h rfl)
noncomputable def s_X1_told (a0 : Nat) (x1 : Int) (x2 : Int) (μ : Me) : Option (Ex ⊕ (Int × Me)) :=
  (ck μ 0 a0).bind fun _ =>
  xb (s_X1_tableAt a0 x1 μ) (fun e2 => some (.inl e2)) fun q1 =>
  (s_X1_isIn (w32 x2) 0 3 q1.2).bind fun q4 =>
  (if w32 q4.1 = 0 then
  some (.inr ((-1), q4.2))
  else
  (aI q4.2 101 q1.1 x2).bind fun v6 =>
  some (.inr (v6, q4.2)))
theorem w_X1_told {Z : Zt} {fin : Ex ⊕ (Int × Me)} {w : Ex ⊕ (Int × Me)} (C : CX Z yX1_told cX1_told (some .int) 8 4) (X : XE Z) {a0 : Nat} {x1 : Int} {x2 : Int} {μ : Me} (h : s_X1_told a0 x1 x2 μ = some w) (hK : w = fin) : WL Z (XQ Z (zoI fin) (zmI fin)) μ 0 [(0, vO a0), (1, vI x1), (2, vI x2)] [] := by
  unfold s_X1_told at h
  refine r_aload_n C 0 dX1_told_0 rfl rfl ?_
  refine r_iload_n C 1 dX1_told_1 rfl rfl ?_
  obtain ⟨u3, eu3, h⟩ := bs h
  rcases xbs h with ⟨e2, eq1, h⟩ | ⟨q1, eq1, h⟩
  · refine r_xVx C (As := [vI x1]) (b := a0) (rest := []) (μ1 := e2.2.2) (r := (RX1, TX1, 19)) (ci := 0) rfl eu3 (m_X1_tableAt C.tr eq1) (lw_V q848 q850 qs16 q120 q851) rfl hdX1_tableAt rfl rfl (Nat.le_of_ble_eq_true rfl) ⟨by decide, by decide⟩ dX1_told_2 ?_
    cases h
    exact r_xoutI C X hK
  · refine r_xV C (As := [vI x1]) (b := a0) (rest := []) (st1 := [vO q1.1]) (v := some (vO q1.1)) (μ1 := q1.2) (r := (RX1, TX1, 19)) (ci := 0) rfl eu3 (m_X1_tableAt C.tr eq1) (lw_V q848 q850 qs16 q120 q851) rfl hdX1_tableAt rfl rfl (Nat.le_of_ble_eq_true rfl) ⟨by decide, by decide⟩ dX1_told_2 rfl ?_
    refine r_astore_n C [(3, vO q1.1), (0, vO a0), (1, vI x1), (2, vI x2)] dX1_told_5 rfl (by decide) rfl ?_
    refine r_iload_n C 3 dX1_told_6 rfl rfl ?_
    refine r_i2l C dX1_told_7 ?_
    refine r_lconst (v := 0) C dX1_told_8 (by decide) ?_
    refine r_ldc2 (n := 3) C q1098 dX1_told_9 (by decide) ?_
    obtain ⟨q4, eq4, h⟩ := bs h
    refine r_callS C (As := [vJ (w32 x2), vJ 0, vJ 3]) (rest := []) (st1 := [vI q4.1]) (v := some (vI q4.1)) (m_X1_isIn C.tr eq4) (lw_S q499 q500 q120 q501) hdX1_isIn rfl rfl (Nat.le_of_ble_eq_true rfl) ⟨by decide, by decide⟩ dX1_told_12 rfl ?_
    refine r_if_eq C dX1_told_15 (tgt := 24) (by decide) (fun c5 => ?_) (fun c5 => ?_)
    · have h := it_ h c5
      refine r_iconst C dX1_told_24 ?_
      cases h
      exact r_xiret C hK dX1_told_25
    · have h := ie_ h c5
      refine r_aload_n C 0 dX1_told_18 rfl rfl ?_
      refine r_iload_n C 3 dX1_told_19 rfl rfl ?_
      obtain ⟨v6, ev6, h⟩ := bs h
      refine r_iald C ev6 dX1_told_20 ?_
      refine r_goto C dX1_told_21 (tgt := 25) (by decide) ?_
      cases h
      exact r_xiret C hK dX1_told_25
theorem hdX1_told : zhd yX1_told 2 := by decide +kernel
theorem m_X1_told {l : Launch} {D : va_G} {b0 : Nat} (hl : l.stackTraces = false) {a0 : Nat} {x1 : Int} {x2 : Int} {μ : Me} {w : Ex ⊕ (Int × Me)} (h : s_X1_told a0 x1 x2 μ = some w) : XN l D b0 yX1_told (ws_ yX1_told cX1_told 4 (some .int)) 8 [vO a0, vI x1, vI x2] μ (zoI w) (zmI w) :=
  XN.of hl (by decide +kernel) (Nat.le_of_ble_eq_true rfl) (fun Z C X _ _ => w_X1_told C X h rfl)
noncomputable def s_X1_bares_l30_st (a1 : Nat) (a2 : Nat) (x3 : Int) (x4 : Int) (μ : Me) : Option ((Int × Me) ⊕ (Int × Me)) :=
  (gI μ 6 a2 1).bind fun v7 =>
  (if w32 v7 < w32 x4 then
  some (.inr (x3, μ))
  else
  (gR μ 6 a2 0).bind fun v9 =>
  (gR μ 6 a1 0).bind fun v10 =>
  (aI μ 101 v10 (x3 + x4)).bind fun v11 =>
  (uI μ v9 x4 v11).bind fun m12 =>
  some (.inl ((x4 + 1), m12)))
theorem w_X1_bares_l30_st {Z : Zt} {fin : Int × Me} {w : ((Int × Me) ⊕ (Int × Me))} (C : CX Z yX1_bares cX1_bares (some .int) 2 5) {a1 : Nat} {a2 : Nat} {x3 : Int} {x4 : Int} {μ : Me} (h : s_X1_bares_l30_st a1 a2 x3 x4 μ = some w) (hK : (Sum.elim (fun s : Int × Me => WL Z (QN Z (some (vI fin.1)) fin.2) s.2 30 [(1, vO a1), (2, vO a2), (3, vI x3), (4, vI s.1)] []) (fun r : Int × Me => r = fin)) w) : WL Z (QN Z (some (vI fin.1)) fin.2) μ 30 [(1, vO a1), (2, vO a2), (3, vI x3), (4, vI x4)] [] := by
  unfold s_X1_bares_l30_st at h
  refine r_iload C 3 dX1_bares_30 rfl ?_
  refine r_aload_n C 1 dX1_bares_32 rfl rfl ?_
  obtain ⟨v7, ev7, h⟩ := bs h
  refine r_getIN C (c := 6) (r := (RX8, TX8, 2)) rfl 1 (by decide) rfl ev7 (lw_n q309 rfl) dX1_bares_33 ?_
  refine r_icmp_gt C dX1_bares_36 (tgt := 61) (by decide) (fun c8 => ?_) (fun c8 => ?_)
  · have h := it_ h c8
    refine r_iload_n C 2 dX1_bares_61 rfl rfl ?_
    cases h
    exact r_iret C hK dX1_bares_62
  · have h := ie_ h c8
    refine r_aload_n C 1 dX1_bares_39 rfl rfl ?_
    obtain ⟨v9, ev9, h⟩ := bs h
    refine r_getRN C (c := 6) (r := (RX8, TX8, 2)) rfl 0 (by decide) rfl ev9 (lw_n q304 rfl) dX1_bares_40 ?_
    refine r_iload C 3 dX1_bares_43 rfl ?_
    refine r_aload_n C 0 dX1_bares_45 rfl rfl ?_
    obtain ⟨v10, ev10, h⟩ := bs h
    refine r_getRN C (c := 6) (r := (RX8, TX8, 2)) rfl 0 (by decide) rfl ev10 (lw_n q304 rfl) dX1_bares_46 ?_
    refine r_iload_n C 2 dX1_bares_49 rfl rfl ?_
    refine r_iload C 3 dX1_bares_50 rfl ?_
    refine r_iadd C dX1_bares_52 ?_
    obtain ⟨v11, ev11, h⟩ := bs h
    refine r_iald C ev11 dX1_bares_53 ?_
    obtain ⟨m12, em12, h⟩ := bs h
    refine r_iast C em12 dX1_bares_54 ?_
    refine r_iinc C 3 [(4, vI (x4 + 1)), (1, vO a1), (2, vO a2), (3, vI x3)] dX1_bares_55 rfl (by decide) rfl ?_
    refine r_goto C dX1_bares_58 (tgt := 30) (by decide) ?_
    cases h
    refine r_sub [1, 2, 3, 0] rfl ?_
    exact hK
noncomputable def s_X1_bares_l30 (a1 : Nat) (a2 : Nat) (x3 : Int) (x4 : Int) (μ : Me) : Option (Int × Me) :=
  whileO (fun s : Int × Me => s_X1_bares_l30_st a1 a2 x3 s.1 s.2) (x4, μ)
theorem e_X1_bares_l30 (a1 : Nat) (a2 : Nat) (x3 : Int) (x4 : Int) (μ : Me) : s_X1_bares_l30 a1 a2 x3 x4 μ = (s_X1_bares_l30_st a1 a2 x3 x4 μ).bind fun x => x.elim (fun s : Int × Me => s_X1_bares_l30 a1 a2 x3 s.1 s.2) some := whileO_eq _ _
theorem w_X1_bares_l30 {Z : Zt} {fin : Int × Me} {w : (Int × Me)} (C : CX Z yX1_bares cX1_bares (some .int) 2 5) {a1 : Nat} {a2 : Nat} {x3 : Int} {x4 : Int} {μ : Me} (h : s_X1_bares_l30 a1 a2 x3 x4 μ = some w) (hK : (fun r : Int × Me => r = fin) w) : WL Z (QN Z (some (vI fin.1)) fin.2) μ 30 [(1, vO a1), (2, vO a2), (3, vI x3), (4, vI x4)] [] := by
  refine whileO_walk (w := w) (fun s : Int × Me => WL Z (QN Z (some (vI fin.1)) fin.2) s.2 30 [(1, vO a1), (2, vO a2), (3, vI x3), (4, vI s.1)] []) (fun s v h2 hi hr => ?_) (x4, μ) h
  refine w_X1_bares_l30_st (fin := fin) C h2 ?_
  cases v with
  | inl s2 => exact hi s2 rfl
  | inr r => have e := hr r rfl; subst e; exact hK
noncomputable def s_X1_bares_b17 (a1 : Nat) (a2 : Nat) (x3 : Int)  (μ : Me) : Option (Int × Me) :=
  (gI μ 6 a1 1).bind fun v4 =>
  (ck μ 6 a2).bind fun _ =>
  (s_X8_nought a2 (v4 - x3) μ).bind fun q5 =>
  s_X1_bares_l30 a1 a2 x3 0 q5
theorem w_X1_bares_b17 {Z : Zt} {fin : Int × Me} {w : (Int × Me)} (C : CX Z yX1_bares cX1_bares (some .int) 2 5) {a1 : Nat} {a2 : Nat} {x3 : Int}  {μ : Me} (h : s_X1_bares_b17 a1 a2 x3 μ = some w) (hK : (fun r : Int × Me => r = fin) w) : WL Z (QN Z (some (vI fin.1)) fin.2) μ 17 [(1, vO a1), (2, vO a2), (3, vI x3)] [] := by
  unfold s_X1_bares_b17 at h
  refine r_aload_n C 1 dX1_bares_17 rfl rfl ?_
  refine r_aload_n C 0 dX1_bares_18 rfl rfl ?_
  obtain ⟨v4, ev4, h⟩ := bs h
  refine r_getIN C (c := 6) (r := (RX8, TX8, 2)) rfl 1 (by decide) rfl ev4 (lw_n q309 rfl) dX1_bares_19 ?_
  refine r_iload_n C 2 dX1_bares_22 rfl rfl ?_
  refine r_isub C dX1_bares_23 ?_
  obtain ⟨u6, eu6, h⟩ := bs h
  obtain ⟨q5, eq5, h⟩ := bs h
  refine r_callV C (As := [vI (v4 - x3)]) (b := a2) (rest := []) (st1 := []) (v := none) (r := (RX8, TX8, 2)) (ci := 6) rfl eu6 (m_X8_nought C.tr eq5) (lw_V q627 q628 q629 q130 q630) rfl hdX8_nought rfl rfl (Nat.le_of_ble_eq_true rfl) ⟨by decide, by decide⟩ dX1_bares_24 rfl ?_
  refine r_iconst C dX1_bares_27 ?_
  refine r_istore C [(4, vI 0), (1, vO a1), (2, vO a2), (3, vI x3)] dX1_bares_28 (by decide) rfl ?_
  refine r_sub [1, 2, 3, 0] rfl ?_
  exact w_X1_bares_l30 (fin := fin) C h hK
noncomputable def s_X1_bares_l2_st (a1 : Nat) (a2 : Nat) (x3 : Int) (μ : Me) : Option ((Int × Me) ⊕ (Int × Me)) :=
  (gR μ 6 a1 0).bind fun v1 =>
  (aI μ 101 v1 x3).bind fun v2 =>
  (if w32 v2 = 0 then
  some (.inl ((x3 + 1), μ))
  else
  (s_X1_bares_b17 a1 a2 x3 μ).map Sum.inr)
theorem w_X1_bares_l2_st {Z : Zt} {fin : Int × Me} {w : ((Int × Me) ⊕ (Int × Me))} (C : CX Z yX1_bares cX1_bares (some .int) 2 5) {a1 : Nat} {a2 : Nat} {x3 : Int} {μ : Me} (h : s_X1_bares_l2_st a1 a2 x3 μ = some w) (hK : (Sum.elim (fun s : Int × Me => WL Z (QN Z (some (vI fin.1)) fin.2) s.2 2 [(1, vO a1), (2, vO a2), (3, vI s.1)] []) (fun r : Int × Me => r = fin)) w) : WL Z (QN Z (some (vI fin.1)) fin.2) μ 2 [(1, vO a1), (2, vO a2), (3, vI x3)] [] := by
  unfold s_X1_bares_l2_st at h
  refine r_aload_n C 0 dX1_bares_2 rfl rfl ?_
  obtain ⟨v1, ev1, h⟩ := bs h
  refine r_getRN C (c := 6) (r := (RX8, TX8, 2)) rfl 0 (by decide) rfl ev1 (lw_n q304 rfl) dX1_bares_3 ?_
  refine r_iload_n C 2 dX1_bares_6 rfl rfl ?_
  obtain ⟨v2, ev2, h⟩ := bs h
  refine r_iald C ev2 dX1_bares_7 ?_
  refine r_if_ne C dX1_bares_8 (tgt := 17) (by decide) (fun c3 => ?_) (fun c3 => ?_)
  · have h := ie_ h c3
    obtain ⟨z, hz, ez⟩ := ms_ h; clear h; subst ez; have h := hz; clear hz
    exact w_X1_bares_b17 (fin := fin) C h hK
  · have h := it_ h c3
    refine r_iinc C 2 [(3, vI (x3 + 1)), (1, vO a1), (2, vO a2)] dX1_bares_11 rfl (by decide) rfl ?_
    refine r_goto C dX1_bares_14 (tgt := 2) (by decide) ?_
    cases h
    refine r_sub [1, 2, 0] rfl ?_
    exact hK
noncomputable def s_X1_bares_l2 (a1 : Nat) (a2 : Nat) (x3 : Int) (μ : Me) : Option (Int × Me) :=
  whileO (fun s : Int × Me => s_X1_bares_l2_st a1 a2 s.1 s.2) (x3, μ)
theorem e_X1_bares_l2 (a1 : Nat) (a2 : Nat) (x3 : Int) (μ : Me) : s_X1_bares_l2 a1 a2 x3 μ = (s_X1_bares_l2_st a1 a2 x3 μ).bind fun x => x.elim (fun s : Int × Me => s_X1_bares_l2 a1 a2 s.1 s.2) some := whileO_eq _ _
theorem w_X1_bares_l2 {Z : Zt} {fin : Int × Me} {w : (Int × Me)} (C : CX Z yX1_bares cX1_bares (some .int) 2 5) {a1 : Nat} {a2 : Nat} {x3 : Int} {μ : Me} (h : s_X1_bares_l2 a1 a2 x3 μ = some w) (hK : (fun r : Int × Me => r = fin) w) : WL Z (QN Z (some (vI fin.1)) fin.2) μ 2 [(1, vO a1), (2, vO a2), (3, vI x3)] [] := by
  refine whileO_walk (w := w) (fun s : Int × Me => WL Z (QN Z (some (vI fin.1)) fin.2) s.2 2 [(1, vO a1), (2, vO a2), (3, vI s.1)] []) (fun s v h2 hi hr => ?_) (x3, μ) h
  refine w_X1_bares_l2_st (fin := fin) C h2 ?_
  cases v with
  | inl s2 => exact hi s2 rfl
  | inr r => have e := hr r rfl; subst e; exact hK
noncomputable def s_X1_bares (a0 : Nat) (a1 : Nat) (a2 : Nat) (μ : Me) : Option (Int × Me) :=
  s_X1_bares_l2 a1 a2 0 μ
theorem w_X1_bares {Z : Zt} {fin : Int × Me} {w : Int × Me} (C : CX Z yX1_bares cX1_bares (some .int) 2 5) {a0 : Nat} {a1 : Nat} {a2 : Nat} {μ : Me} (h : s_X1_bares a0 a1 a2 μ = some w) (hK : w = fin) : WL Z (QN Z (some (vI fin.1)) fin.2) μ 0 [(0, vO a0), (1, vO a1), (2, vO a2)] [] := by
  unfold s_X1_bares at h
  refine r_iconst C dX1_bares_0 ?_
  refine r_istore_n C [(3, vI 0), (0, vO a0), (1, vO a1), (2, vO a2)] dX1_bares_1 rfl (by decide) rfl ?_
  refine r_sub [2, 3, 0] rfl ?_
  exact w_X1_bares_l2 (fin := fin) C h hK
theorem hdX1_bares : zhd yX1_bares 2 := by decide +kernel
theorem m_X1_bares {l : Launch} {D : va_G} {b0 : Nat} (hl : l.stackTraces = false) {a0 : Nat} {a1 : Nat} {a2 : Nat} {μ : Me} {w : Int × Me} (h : s_X1_bares a0 a1 a2 μ = some w) : MN l D b0 yX1_bares (ws_ yX1_bares cX1_bares 5 (some .int)) 2 [vO a0, vO a1, vO a2] μ (some (vI w.1)) w.2 :=
  MN.of hl (by decide +kernel) (Nat.le_of_ble_eq_true rfl) (fun Z C _ _ => w_X1_bares C h rfl)
noncomputable def s_X1_quotient_b227 (x3 : Int) (a9 : Nat) (a10 : Nat)  (μ : Me) : Option (Ex ⊕ (Int × Me)) :=
  (ck μ 6 a9).bind fun _ =>
  (s_X8_isNought a9 μ).bind fun q31 =>
  (if w32 q31.1 = 0 then
  some (.inr ((-2), q31.2))
  else
  (s_X1_tells a10 x3 q31.2).bind fun q34 =>
  some (.inr (q34.1, q34.2)))
theorem w_X1_quotient_b227 {Z : Zt} {fin : Ex ⊕ (Int × Me)} {w : (Ex ⊕ (Int × Me))} (C : CX Z yX1_quotient cX1_quotient (some .int) 8 13) (X : XE Z) {x3 : Int} {a9 : Nat} {a10 : Nat}  {μ : Me} (h : s_X1_quotient_b227 x3 a9 a10 μ = some w) (hK : (fun r : Ex ⊕ (Int × Me) => r = fin) w) : WL Z (XQ Z (zoI fin) (zmI fin)) μ 227 [(3, vI x3), (9, vO a9), (10, vO a10)] [] := by
  unfold s_X1_quotient_b227 at h
  refine r_aload C 1 dX1_quotient_227 rfl ?_
  obtain ⟨u32, eu32, h⟩ := bs h
  obtain ⟨q31, eq31, h⟩ := bs h
  refine r_callV C (As := []) (b := a9) (rest := []) (st1 := [vI q31.1]) (v := some (vI q31.1)) (r := (RX8, TX8, 2)) (ci := 6) rfl eu32 (m_X8_isNought C.tr eq31) (lw_V q544 q545 q546 q130 q547) rfl hdX8_isNought rfl rfl (Nat.le_of_ble_eq_true rfl) ⟨by decide, by decide⟩ dX1_quotient_229 rfl ?_
  refine r_if_eq C dX1_quotient_232 (tgt := 244) (by decide) (fun c33 => ?_) (fun c33 => ?_)
  · have h := it_ h c33
    refine r_bipush C dX1_quotient_244 (by decide) ?_
    cases h
    exact r_xiret C hK dX1_quotient_246
  · have h := ie_ h c33
    refine r_aload C 2 dX1_quotient_235 rfl ?_
    refine r_iload_n C 0 dX1_quotient_237 rfl rfl ?_
    obtain ⟨q34, eq34, h⟩ := bs h
    refine r_callS C (As := [vO a10, vI x3]) (rest := []) (st1 := [vI q34.1]) (v := some (vI q34.1)) (m_X1_tells C.tr eq34) (lw_S q821 q822 q120 q823) hdX1_tells rfl rfl (Nat.le_of_ble_eq_true rfl) ⟨by decide, by decide⟩ dX1_quotient_238 rfl ?_
    refine r_goto C dX1_quotient_241 (tgt := 246) (by decide) ?_
    cases h
    exact r_xiret C hK dX1_quotient_246
noncomputable def s_X1_quotient_l152_st (a0 : Nat) (x3 : Int) (a5 : Nat) (x6 : Int) (x7 : Int) (x8 : Int) (a9 : Nat) (a10 : Nat) (x11 : Int) (x12 : Int) (μ : Me) : Option ((Int × Me) ⊕ ((Int × Me) ⊕ (Ex ⊕ (Int × Me)))) :=
  (gI μ 6 a5 1).bind fun v43 =>
  (if w32 v43 < w32 x12 then
  some (.inr (.inl ((x11 + 1), μ)))
  else
  (gR μ 6 a9 0).bind fun v45 =>
  (gR μ 0 a0 1).bind fun v46 =>
  (gR μ 4 v46 0).bind fun v47 =>
  (gR μ 6 a9 0).bind fun v48 =>
  (aI μ 101 v48 (x11 + x12)).bind fun v49 =>
  (gR μ 6 a10 0).bind fun v50 =>
  (aI μ 101 v50 x11).bind fun v51 =>
  (gR μ 6 a5 0).bind fun v52 =>
  (aI μ 101 v52 x12).bind fun v53 =>
  (ck μ 5 v47).bind fun _ =>
  (s_X7_of v47 ((w32 v49) - ((w32 v51) * (w32 v53))) μ).bind fun q54 =>
  (uI q54.2 v45 (x11 + x12) q54.1).bind fun m56 =>
  some (.inl ((x12 + 1), m56)))
theorem w_X1_quotient_l152_st {Z : Zt} {fin : Ex ⊕ (Int × Me)} {w : ((Int × Me) ⊕ ((Int × Me) ⊕ (Ex ⊕ (Int × Me))))} (C : CX Z yX1_quotient cX1_quotient (some .int) 8 13) (X : XE Z) {a0 : Nat} {x3 : Int} {a5 : Nat} {x6 : Int} {x7 : Int} {x8 : Int} {a9 : Nat} {a10 : Nat} {x11 : Int} {x12 : Int} {μ : Me} (h : s_X1_quotient_l152_st a0 x3 a5 x6 x7 x8 a9 a10 x11 x12 μ = some w) (hK : (Sum.elim (fun s : Int × Me => WL Z (XQ Z (zoI fin) (zmI fin)) s.2 152 [(0, vO a0), (3, vI x3), (5, vO a5), (6, vI x6), (7, vI x7), (8, vI x8), (9, vO a9), (10, vO a10), (11, vI x11), (12, vI s.1)] []) (Sum.elim (fun s : Int × Me => WL Z (XQ Z (zoI fin) (zmI fin)) s.2 108 [(0, vO a0), (3, vI x3), (5, vO a5), (6, vI x6), (7, vI x7), (8, vI x8), (9, vO a9), (10, vO a10), (11, vI s.1)] []) (fun r : Ex ⊕ (Int × Me) => r = fin))) w) : WL Z (XQ Z (zoI fin) (zmI fin)) μ 152 [(0, vO a0), (3, vI x3), (5, vO a5), (6, vI x6), (7, vI x7), (8, vI x8), (9, vO a9), (10, vO a10), (11, vI x11), (12, vI x12)] [] := by
  unfold s_X1_quotient_l152_st at h
  refine r_iload C 9 dX1_quotient_152 rfl ?_
  refine r_aload C 2 dX1_quotient_154 rfl ?_
  obtain ⟨v43, ev43, h⟩ := bs h
  refine r_getIN C (c := 6) (r := (RX8, TX8, 2)) rfl 1 (by decide) rfl ev43 (lw_n q309 rfl) dX1_quotient_156 ?_
  refine r_icmp_gt C dX1_quotient_159 (tgt := 221) (by decide) (fun c44 => ?_) (fun c44 => ?_)
  · have h := it_ h c44
    refine r_iinc C 8 [(11, vI (x11 + 1)), (0, vO a0), (3, vI x3), (5, vO a5), (6, vI x6), (7, vI x7), (8, vI x8), (9, vO a9), (10, vO a10), (12, vI x12)] dX1_quotient_221 rfl (by decide) rfl ?_
    refine r_goto C dX1_quotient_224 (tgt := 108) (by decide) ?_
    cases h
    refine r_sub [1, 2, 3, 4, 5, 6, 7, 8, 0] rfl ?_
    exact hK
  · have h := ie_ h c44
    refine r_aload C 6 dX1_quotient_162 rfl ?_
    obtain ⟨v45, ev45, h⟩ := bs h
    refine r_getRN C (c := 6) (r := (RX8, TX8, 2)) rfl 0 (by decide) rfl ev45 (lw_n q304 rfl) dX1_quotient_164 ?_
    refine r_iload C 8 dX1_quotient_167 rfl ?_
    refine r_iload C 9 dX1_quotient_169 rfl ?_
    refine r_iadd C dX1_quotient_171 ?_
    refine r_aload_n C 0 dX1_quotient_172 rfl rfl ?_
    obtain ⟨v46, ev46, h⟩ := bs h
    refine r_getR C (c := 0) (r := (RX1, TX1, 19)) rfl 1 (by decide) rfl ev46 q422 dX1_quotient_173 ?_
    obtain ⟨v47, ev47, h⟩ := bs h
    refine r_getRN C (c := 4) (r := (RX6, TX6, 6)) rfl 0 (by decide) rfl ev47 (lw_n q320 rfl) dX1_quotient_176 ?_
    refine r_aload C 6 dX1_quotient_179 rfl ?_
    obtain ⟨v48, ev48, h⟩ := bs h
    refine r_getRN C (c := 6) (r := (RX8, TX8, 2)) rfl 0 (by decide) rfl ev48 (lw_n q304 rfl) dX1_quotient_181 ?_
    refine r_iload C 8 dX1_quotient_184 rfl ?_
    refine r_iload C 9 dX1_quotient_186 rfl ?_
    refine r_iadd C dX1_quotient_188 ?_
    obtain ⟨v49, ev49, h⟩ := bs h
    refine r_iald C ev49 dX1_quotient_189 ?_
    refine r_i2l C dX1_quotient_190 ?_
    refine r_aload C 7 dX1_quotient_191 rfl ?_
    obtain ⟨v50, ev50, h⟩ := bs h
    refine r_getRN C (c := 6) (r := (RX8, TX8, 2)) rfl 0 (by decide) rfl ev50 (lw_n q304 rfl) dX1_quotient_193 ?_
    refine r_iload C 8 dX1_quotient_196 rfl ?_
    obtain ⟨v51, ev51, h⟩ := bs h
    refine r_iald C ev51 dX1_quotient_198 ?_
    refine r_i2l C dX1_quotient_199 ?_
    refine r_aload C 2 dX1_quotient_200 rfl ?_
    obtain ⟨v52, ev52, h⟩ := bs h
    refine r_getRN C (c := 6) (r := (RX8, TX8, 2)) rfl 0 (by decide) rfl ev52 (lw_n q304 rfl) dX1_quotient_202 ?_
    refine r_iload C 9 dX1_quotient_205 rfl ?_
    obtain ⟨v53, ev53, h⟩ := bs h
    refine r_iald C ev53 dX1_quotient_207 ?_
    refine r_i2l C dX1_quotient_208 ?_
    refine r_lmul C dX1_quotient_209 ?_
    refine r_lsub C dX1_quotient_210 ?_
    obtain ⟨u55, eu55, h⟩ := bs h
    obtain ⟨q54, eq54, h⟩ := bs h
    refine r_callV C (As := [vJ ((w32 v49) - ((w32 v51) * (w32 v53)))]) (b := v47) (rest := [vI (x11 + x12), vO v45]) (st1 := [vI q54.1, vI (x11 + x12), vO v45]) (v := some (vI q54.1)) (r := (RX7, TX7, 1)) (ci := 5) rfl eu55 (m_X7_of C.tr eq54) (lw_V q631 q632 q633 q129 q634) rfl hdX7_of rfl rfl (Nat.le_of_ble_eq_true rfl) ⟨by decide, by decide⟩ dX1_quotient_211 rfl ?_
    obtain ⟨m56, em56, h⟩ := bs h
    refine r_iast C em56 dX1_quotient_214 ?_
    refine r_iinc C 9 [(12, vI (x12 + 1)), (0, vO a0), (3, vI x3), (5, vO a5), (6, vI x6), (7, vI x7), (8, vI x8), (9, vO a9), (10, vO a10), (11, vI x11)] dX1_quotient_215 rfl (by decide) rfl ?_
    refine r_goto C dX1_quotient_218 (tgt := 152) (by decide) ?_
    cases h
    refine r_sub [1, 2, 3, 4, 5, 6, 7, 8, 9, 0] rfl ?_
    exact hK
noncomputable def s_X1_quotient_l152 (a0 : Nat) (x3 : Int) (a5 : Nat) (x6 : Int) (x7 : Int) (x8 : Int) (a9 : Nat) (a10 : Nat) (x11 : Int) (x12 : Int) (μ : Me) : Option ((Int × Me) ⊕ (Ex ⊕ (Int × Me))) :=
  whileO (fun s : Int × Me => s_X1_quotient_l152_st a0 x3 a5 x6 x7 x8 a9 a10 x11 s.1 s.2) (x12, μ)
theorem e_X1_quotient_l152 (a0 : Nat) (x3 : Int) (a5 : Nat) (x6 : Int) (x7 : Int) (x8 : Int) (a9 : Nat) (a10 : Nat) (x11 : Int) (x12 : Int) (μ : Me) : s_X1_quotient_l152 a0 x3 a5 x6 x7 x8 a9 a10 x11 x12 μ = (s_X1_quotient_l152_st a0 x3 a5 x6 x7 x8 a9 a10 x11 x12 μ).bind fun x => x.elim (fun s : Int × Me => s_X1_quotient_l152 a0 x3 a5 x6 x7 x8 a9 a10 x11 s.1 s.2) some := whileO_eq _ _
theorem w_X1_quotient_l152 {Z : Zt} {fin : Ex ⊕ (Int × Me)} {w : ((Int × Me) ⊕ (Ex ⊕ (Int × Me)))} (C : CX Z yX1_quotient cX1_quotient (some .int) 8 13) (X : XE Z) {a0 : Nat} {x3 : Int} {a5 : Nat} {x6 : Int} {x7 : Int} {x8 : Int} {a9 : Nat} {a10 : Nat} {x11 : Int} {x12 : Int} {μ : Me} (h : s_X1_quotient_l152 a0 x3 a5 x6 x7 x8 a9 a10 x11 x12 μ = some w) (hK : (Sum.elim (fun s : Int × Me => WL Z (XQ Z (zoI fin) (zmI fin)) s.2 108 [(0, vO a0), (3, vI x3), (5, vO a5), (6, vI x6), (7, vI x7), (8, vI x8), (9, vO a9), (10, vO a10), (11, vI s.1)] []) (fun r : Ex ⊕ (Int × Me) => r = fin)) w) : WL Z (XQ Z (zoI fin) (zmI fin)) μ 152 [(0, vO a0), (3, vI x3), (5, vO a5), (6, vI x6), (7, vI x7), (8, vI x8), (9, vO a9), (10, vO a10), (11, vI x11), (12, vI x12)] [] := by
  refine whileO_walk (w := w) (fun s : Int × Me => WL Z (XQ Z (zoI fin) (zmI fin)) s.2 152 [(0, vO a0), (3, vI x3), (5, vO a5), (6, vI x6), (7, vI x7), (8, vI x8), (9, vO a9), (10, vO a10), (11, vI x11), (12, vI s.1)] []) (fun s v h2 hi hr => ?_) (x12, μ) h
  refine w_X1_quotient_l152_st (fin := fin) C X h2 ?_
  cases v with
  | inl s2 => exact hi s2 rfl
  | inr r => have e := hr r rfl; subst e; exact hK
noncomputable def s_X1_quotient_l108_st (a0 : Nat) (x3 : Int) (a5 : Nat) (x6 : Int) (x7 : Int) (x8 : Int) (a9 : Nat) (a10 : Nat) (x11 : Int) (μ : Me) : Option ((Int × Me) ⊕ (Ex ⊕ (Int × Me))) :=
  (if w32 x6 < w32 x11 then
  (s_X1_quotient_b227 x3 a9 a10 μ).map Sum.inr
  else
  (gR μ 6 a10 0).bind fun v35 =>
  (gR μ 0 a0 1).bind fun v36 =>
  (gR μ 4 v36 0).bind fun v37 =>
  (gR μ 6 a9 0).bind fun v38 =>
  (aI μ 101 v38 (x11 + x7)).bind fun v39 =>
  (ck μ 5 v37).bind fun _ =>
  (s_X7_of v37 ((w32 v39) * (w32 x8)) μ).bind fun q40 =>
  (uI q40.2 v35 x11 q40.1).bind fun m42 =>
  s_X1_quotient_l152 a0 x3 a5 x6 x7 x8 a9 a10 x11 0 m42)
theorem w_X1_quotient_l108_st {Z : Zt} {fin : Ex ⊕ (Int × Me)} {w : ((Int × Me) ⊕ (Ex ⊕ (Int × Me)))} (C : CX Z yX1_quotient cX1_quotient (some .int) 8 13) (X : XE Z) {a0 : Nat} {x3 : Int} {a5 : Nat} {x6 : Int} {x7 : Int} {x8 : Int} {a9 : Nat} {a10 : Nat} {x11 : Int} {μ : Me} (h : s_X1_quotient_l108_st a0 x3 a5 x6 x7 x8 a9 a10 x11 μ = some w) (hK : (Sum.elim (fun s : Int × Me => WL Z (XQ Z (zoI fin) (zmI fin)) s.2 108 [(0, vO a0), (3, vI x3), (5, vO a5), (6, vI x6), (7, vI x7), (8, vI x8), (9, vO a9), (10, vO a10), (11, vI s.1)] []) (fun r : Ex ⊕ (Int × Me) => r = fin)) w) : WL Z (XQ Z (zoI fin) (zmI fin)) μ 108 [(0, vO a0), (3, vI x3), (5, vO a5), (6, vI x6), (7, vI x7), (8, vI x8), (9, vO a9), (10, vO a10), (11, vI x11)] [] := by
  unfold s_X1_quotient_l108_st at h
  refine r_iload C 8 dX1_quotient_108 rfl ?_
  refine r_iload C 3 dX1_quotient_110 rfl ?_
  refine r_icmp_gt C dX1_quotient_112 (tgt := 227) (by decide) (fun c30 => ?_) (fun c30 => ?_)
  · have h := it_ h c30
    obtain ⟨z, hz, ez⟩ := ms_ h; clear h; subst ez; have h := hz; clear hz
    refine r_sub [1, 6, 7] rfl ?_
    exact w_X1_quotient_b227 (fin := fin) C X h hK
  · have h := ie_ h c30
    refine r_aload C 7 dX1_quotient_115 rfl ?_
    obtain ⟨v35, ev35, h⟩ := bs h
    refine r_getRN C (c := 6) (r := (RX8, TX8, 2)) rfl 0 (by decide) rfl ev35 (lw_n q304 rfl) dX1_quotient_117 ?_
    refine r_iload C 8 dX1_quotient_120 rfl ?_
    refine r_aload_n C 0 dX1_quotient_122 rfl rfl ?_
    obtain ⟨v36, ev36, h⟩ := bs h
    refine r_getR C (c := 0) (r := (RX1, TX1, 19)) rfl 1 (by decide) rfl ev36 q422 dX1_quotient_123 ?_
    obtain ⟨v37, ev37, h⟩ := bs h
    refine r_getRN C (c := 4) (r := (RX6, TX6, 6)) rfl 0 (by decide) rfl ev37 (lw_n q320 rfl) dX1_quotient_126 ?_
    refine r_aload C 6 dX1_quotient_129 rfl ?_
    obtain ⟨v38, ev38, h⟩ := bs h
    refine r_getRN C (c := 6) (r := (RX8, TX8, 2)) rfl 0 (by decide) rfl ev38 (lw_n q304 rfl) dX1_quotient_131 ?_
    refine r_iload C 8 dX1_quotient_134 rfl ?_
    refine r_iload C 4 dX1_quotient_136 rfl ?_
    refine r_iadd C dX1_quotient_138 ?_
    obtain ⟨v39, ev39, h⟩ := bs h
    refine r_iald C ev39 dX1_quotient_139 ?_
    refine r_i2l C dX1_quotient_140 ?_
    refine r_iload C 5 dX1_quotient_141 rfl ?_
    refine r_i2l C dX1_quotient_143 ?_
    refine r_lmul C dX1_quotient_144 ?_
    obtain ⟨u41, eu41, h⟩ := bs h
    obtain ⟨q40, eq40, h⟩ := bs h
    refine r_callV C (As := [vJ ((w32 v39) * (w32 x8))]) (b := v37) (rest := [vI x11, vO v35]) (st1 := [vI q40.1, vI x11, vO v35]) (v := some (vI q40.1)) (r := (RX7, TX7, 1)) (ci := 5) rfl eu41 (m_X7_of C.tr eq40) (lw_V q631 q632 q633 q129 q634) rfl hdX7_of rfl rfl (Nat.le_of_ble_eq_true rfl) ⟨by decide, by decide⟩ dX1_quotient_145 rfl ?_
    obtain ⟨m42, em42, h⟩ := bs h
    refine r_iast C em42 dX1_quotient_148 ?_
    refine r_iconst C dX1_quotient_149 ?_
    refine r_istore C [(12, vI 0), (0, vO a0), (3, vI x3), (5, vO a5), (6, vI x6), (7, vI x7), (8, vI x8), (9, vO a9), (10, vO a10), (11, vI x11)] dX1_quotient_150 (by decide) rfl ?_
    refine r_sub [1, 2, 3, 4, 5, 6, 7, 8, 9, 0] rfl ?_
    exact w_X1_quotient_l152 (fin := fin) C X h hK
noncomputable def s_X1_quotient_l108 (a0 : Nat) (x3 : Int) (a5 : Nat) (x6 : Int) (x7 : Int) (x8 : Int) (a9 : Nat) (a10 : Nat) (x11 : Int) (μ : Me) : Option (Ex ⊕ (Int × Me)) :=
  whileO (fun s : Int × Me => s_X1_quotient_l108_st a0 x3 a5 x6 x7 x8 a9 a10 s.1 s.2) (x11, μ)
theorem e_X1_quotient_l108 (a0 : Nat) (x3 : Int) (a5 : Nat) (x6 : Int) (x7 : Int) (x8 : Int) (a9 : Nat) (a10 : Nat) (x11 : Int) (μ : Me) : s_X1_quotient_l108 a0 x3 a5 x6 x7 x8 a9 a10 x11 μ = (s_X1_quotient_l108_st a0 x3 a5 x6 x7 x8 a9 a10 x11 μ).bind fun x => x.elim (fun s : Int × Me => s_X1_quotient_l108 a0 x3 a5 x6 x7 x8 a9 a10 s.1 s.2) some := whileO_eq _ _
theorem w_X1_quotient_l108 {Z : Zt} {fin : Ex ⊕ (Int × Me)} {w : (Ex ⊕ (Int × Me))} (C : CX Z yX1_quotient cX1_quotient (some .int) 8 13) (X : XE Z) {a0 : Nat} {x3 : Int} {a5 : Nat} {x6 : Int} {x7 : Int} {x8 : Int} {a9 : Nat} {a10 : Nat} {x11 : Int} {μ : Me} (h : s_X1_quotient_l108 a0 x3 a5 x6 x7 x8 a9 a10 x11 μ = some w) (hK : (fun r : Ex ⊕ (Int × Me) => r = fin) w) : WL Z (XQ Z (zoI fin) (zmI fin)) μ 108 [(0, vO a0), (3, vI x3), (5, vO a5), (6, vI x6), (7, vI x7), (8, vI x8), (9, vO a9), (10, vO a10), (11, vI x11)] [] := by
  refine whileO_walk (w := w) (fun s : Int × Me => WL Z (XQ Z (zoI fin) (zmI fin)) s.2 108 [(0, vO a0), (3, vI x3), (5, vO a5), (6, vI x6), (7, vI x7), (8, vI x8), (9, vO a9), (10, vO a10), (11, vI s.1)] []) (fun s v h2 hi hr => ?_) (x11, μ) h
  refine w_X1_quotient_l108_st (fin := fin) C X h2 ?_
  cases v with
  | inl s2 => exact hi s2 rfl
  | inr r => have e := hr r rfl; subst e; exact hK
noncomputable def s_X1_quotient (a0 : Nat) (x1 : Int) (x2 : Int) (x3 : Int) (μ : Me) : Option (Ex ⊕ (Int × Me)) :=
  (ck μ 0 a0).bind fun _ =>
  xb (s_X1_formAt a0 x1 μ) (fun e2 => some (.inl e2)) fun q1 =>
  (ck q1.2 0 a0).bind fun _ =>
  xb (s_X1_formAt a0 x2 q1.2) (fun e5 => some (.inl e5)) fun q4 =>
  (gI q4.2 6 q1.1 1).bind fun v7 =>
  (gI q4.2 6 q4.1 1).bind fun v8 =>
  (if w32 (v7 - v8) < 0 then
  some (.inr ((-2), q4.2))
  else
  (ck q4.2 6 q4.1).bind fun _ =>
  (s_X8_isNought q4.1 q4.2).bind fun q10 =>
  (if w32 q10.1 = 0 then
  (gR q10.2 0 a0 7).bind fun v13 =>
  (ck q10.2 0 a0).bind fun _ =>
  (s_X1_bares a0 q4.1 v13 q10.2).bind fun q14 =>
  (gR q14.2 0 a0 1).bind fun v16 =>
  (gR q14.2 4 v16 0).bind fun v17 =>
  (gR q14.2 6 q4.1 0).bind fun v18 =>
  (aI q14.2 101 v18 q14.1).bind fun v19 =>
  (ck q14.2 5 v17).bind fun _ =>
  (s_X7_inverse v17 v19 q14.2).bind fun q20 =>
  (gR q20.2 0 a0 4).bind fun v22 =>
  (aR q20.2 104 v22 0).bind fun v23 =>
  (gR q20.2 0 a0 4).bind fun v24 =>
  (aR q20.2 104 v24 1).bind fun v25 =>
  (ck q20.2 6 v23).bind fun _ =>
  (s_X8_be v23 q1.1 q20.2).bind fun q26 =>
  (ck q26 6 v25).bind fun _ =>
  (s_X8_nought v25 (v7 - v8) q26).bind fun q28 =>
  s_X1_quotient_l108 a0 x3 q4.1 (v7 - v8) q14.1 q20.1 v23 v25 0 q28
  else
  some (.inr ((-2), q10.2))))
theorem w_X1_quotient {Z : Zt} {fin : Ex ⊕ (Int × Me)} {w : Ex ⊕ (Int × Me)} (C : CX Z yX1_quotient cX1_quotient (some .int) 8 13) (X : XE Z) {a0 : Nat} {x1 : Int} {x2 : Int} {x3 : Int} {μ : Me} (h : s_X1_quotient a0 x1 x2 x3 μ = some w) (hK : w = fin) : WL Z (XQ Z (zoI fin) (zmI fin)) μ 0 [(0, vO a0), (1, vI x1), (2, vI x2), (3, vI x3)] [] := by
  unfold s_X1_quotient at h
  refine r_aload_n C 0 dX1_quotient_0 rfl rfl ?_
  refine r_iload_n C 1 dX1_quotient_1 rfl rfl ?_
  obtain ⟨u3, eu3, h⟩ := bs h
  rcases xbs h with ⟨e2, eq1, h⟩ | ⟨q1, eq1, h⟩
  · refine r_xVx C (As := [vI x1]) (b := a0) (rest := []) (μ1 := e2.2.2) (r := (RX1, TX1, 19)) (ci := 0) rfl eu3 (m_X1_formAt C.tr eq1) (lw_V q799 q801 qs15 q120 q802) rfl hdX1_formAt rfl rfl (Nat.le_of_ble_eq_true rfl) ⟨by decide, by decide⟩ dX1_quotient_2 ?_
    cases h
    exact r_xoutI C X hK
  · refine r_xV C (As := [vI x1]) (b := a0) (rest := []) (st1 := [vO q1.1]) (v := some (vO q1.1)) (μ1 := q1.2) (r := (RX1, TX1, 19)) (ci := 0) rfl eu3 (m_X1_formAt C.tr eq1) (lw_V q799 q801 qs15 q120 q802) rfl hdX1_formAt rfl rfl (Nat.le_of_ble_eq_true rfl) ⟨by decide, by decide⟩ dX1_quotient_2 rfl ?_
    refine r_astore C [(4, vO q1.1), (0, vO a0), (1, vI x1), (2, vI x2), (3, vI x3)] dX1_quotient_5 (by decide) rfl ?_
    refine r_aload_n C 1 dX1_quotient_7 rfl rfl ?_
    refine r_iload_n C 3 dX1_quotient_8 rfl rfl ?_
    obtain ⟨u6, eu6, h⟩ := bs h
    rcases xbs h with ⟨e5, eq4, h⟩ | ⟨q4, eq4, h⟩
    · refine r_xVx C (As := [vI x2]) (b := a0) (rest := []) (μ1 := e5.2.2) (r := (RX1, TX1, 19)) (ci := 0) rfl eu6 (m_X1_formAt C.tr eq4) (lw_V q799 q801 qs15 q120 q802) rfl hdX1_formAt rfl rfl (Nat.le_of_ble_eq_true rfl) ⟨by decide, by decide⟩ dX1_quotient_9 ?_
      cases h
      exact r_xoutI C X hK
    · refine r_xV C (As := [vI x2]) (b := a0) (rest := []) (st1 := [vO q4.1]) (v := some (vO q4.1)) (μ1 := q4.2) (r := (RX1, TX1, 19)) (ci := 0) rfl eu6 (m_X1_formAt C.tr eq4) (lw_V q799 q801 qs15 q120 q802) rfl hdX1_formAt rfl rfl (Nat.le_of_ble_eq_true rfl) ⟨by decide, by decide⟩ dX1_quotient_9 rfl ?_
      refine r_astore C [(5, vO q4.1), (4, vO q1.1), (0, vO a0), (1, vI x1), (2, vI x2), (3, vI x3)] dX1_quotient_12 (by decide) rfl ?_
      refine r_aload C 1 dX1_quotient_14 rfl ?_
      obtain ⟨v7, ev7, h⟩ := bs h
      refine r_getIN C (c := 6) (r := (RX8, TX8, 2)) rfl 1 (by decide) rfl ev7 (lw_n q309 rfl) dX1_quotient_16 ?_
      refine r_aload C 0 dX1_quotient_19 rfl ?_
      obtain ⟨v8, ev8, h⟩ := bs h
      refine r_getIN C (c := 6) (r := (RX8, TX8, 2)) rfl 1 (by decide) rfl ev8 (lw_n q309 rfl) dX1_quotient_21 ?_
      refine r_isub C dX1_quotient_24 ?_
      refine r_istore C [(6, vI (v7 - v8)), (5, vO q4.1), (4, vO q1.1), (0, vO a0), (1, vI x1), (2, vI x2), (3, vI x3)] dX1_quotient_25 (by decide) rfl ?_
      refine r_iload C 0 dX1_quotient_27 rfl ?_
      refine r_if_lt C dX1_quotient_29 (tgt := 40) (by decide) (fun c9 => ?_) (fun c9 => ?_)
      · have h := it_ h c9
        refine r_bipush C dX1_quotient_40 (by decide) ?_
        cases h
        exact r_xiret C hK dX1_quotient_42
      · have h := ie_ h c9
        refine r_aload C 1 dX1_quotient_32 rfl ?_
        obtain ⟨u11, eu11, h⟩ := bs h
        obtain ⟨q10, eq10, h⟩ := bs h
        refine r_callV C (As := []) (b := q4.1) (rest := []) (st1 := [vI q10.1]) (v := some (vI q10.1)) (r := (RX8, TX8, 2)) (ci := 6) rfl eu11 (m_X8_isNought C.tr eq10) (lw_V q544 q545 q546 q130 q547) rfl hdX8_isNought rfl rfl (Nat.le_of_ble_eq_true rfl) ⟨by decide, by decide⟩ dX1_quotient_34 rfl ?_
        refine r_if_eq C dX1_quotient_37 (tgt := 43) (by decide) (fun c12 => ?_) (fun c12 => ?_)
        · have h := it_ h c12
          refine r_aload_n C 3 dX1_quotient_43 rfl rfl ?_
          refine r_aload C 1 dX1_quotient_44 rfl ?_
          refine r_aload_n C 3 dX1_quotient_46 rfl rfl ?_
          obtain ⟨v13, ev13, h⟩ := bs h
          refine r_getR C (c := 0) (r := (RX1, TX1, 19)) rfl 7 (by decide) rfl ev13 q435 dX1_quotient_47 ?_
          obtain ⟨u15, eu15, h⟩ := bs h
          obtain ⟨q14, eq14, h⟩ := bs h
          refine r_callV C (As := [vO q4.1, vO v13]) (b := a0) (rest := []) (st1 := [vI q14.1]) (v := some (vI q14.1)) (r := (RX1, TX1, 19)) (ci := 0) rfl eu15 (m_X1_bares C.tr eq14) (lw_V q1106 q1108 qs27 q120 q1109) rfl hdX1_bares rfl rfl (Nat.le_of_ble_eq_true rfl) ⟨by decide, by decide⟩ dX1_quotient_50 rfl ?_
          refine r_istore C [(7, vI q14.1), (6, vI (v7 - v8)), (5, vO q4.1), (4, vO q1.1), (0, vO a0), (1, vI x1), (2, vI x2), (3, vI x3)] dX1_quotient_53 (by decide) rfl ?_
          refine r_aload_n C 4 dX1_quotient_55 rfl rfl ?_
          obtain ⟨v16, ev16, h⟩ := bs h
          refine r_getR C (c := 0) (r := (RX1, TX1, 19)) rfl 1 (by decide) rfl ev16 q422 dX1_quotient_56 ?_
          obtain ⟨v17, ev17, h⟩ := bs h
          refine r_getRN C (c := 4) (r := (RX6, TX6, 6)) rfl 0 (by decide) rfl ev17 (lw_n q320 rfl) dX1_quotient_59 ?_
          refine r_aload C 2 dX1_quotient_62 rfl ?_
          obtain ⟨v18, ev18, h⟩ := bs h
          refine r_getRN C (c := 6) (r := (RX8, TX8, 2)) rfl 0 (by decide) rfl ev18 (lw_n q304 rfl) dX1_quotient_64 ?_
          refine r_iload C 0 dX1_quotient_67 rfl ?_
          obtain ⟨v19, ev19, h⟩ := bs h
          refine r_iald C ev19 dX1_quotient_69 ?_
          obtain ⟨u21, eu21, h⟩ := bs h
          obtain ⟨q20, eq20, h⟩ := bs h
          refine r_callV C (As := [vI v19]) (b := v17) (rest := []) (st1 := [vI q20.1]) (v := some (vI q20.1)) (r := (RX7, TX7, 1)) (ci := 5) rfl eu21 (m_X7_inverse C.tr eq20) (lw_V q1039 q1040 q1041 q129 q1042) rfl hdX7_inverse rfl rfl (Nat.le_of_ble_eq_true rfl) ⟨by decide, by decide⟩ dX1_quotient_70 rfl ?_
          refine r_istore C [(8, vI q20.1), (7, vI q14.1), (6, vI (v7 - v8)), (5, vO q4.1), (4, vO q1.1), (0, vO a0), (1, vI x1), (2, vI x2), (3, vI x3)] dX1_quotient_73 (by decide) rfl ?_
          refine r_aload_n C 5 dX1_quotient_75 rfl rfl ?_
          obtain ⟨v22, ev22, h⟩ := bs h
          refine r_getR C (c := 0) (r := (RX1, TX1, 19)) rfl 4 (by decide) rfl ev22 q428 dX1_quotient_76 ?_
          refine r_iconst C dX1_quotient_79 ?_
          obtain ⟨v23, ev23, h⟩ := bs h
          refine r_aald C (kt := 3) ev23 rfl rfl ⟨by decide, by decide⟩ dX1_quotient_80 ?_
          refine r_astore C [(9, vO v23), (8, vI q20.1), (7, vI q14.1), (6, vI (v7 - v8)), (5, vO q4.1), (4, vO q1.1), (0, vO a0), (1, vI x1), (2, vI x2), (3, vI x3)] dX1_quotient_81 (by decide) rfl ?_
          refine r_aload_n C 6 dX1_quotient_83 rfl rfl ?_
          obtain ⟨v24, ev24, h⟩ := bs h
          refine r_getR C (c := 0) (r := (RX1, TX1, 19)) rfl 4 (by decide) rfl ev24 q428 dX1_quotient_84 ?_
          refine r_iconst C dX1_quotient_87 ?_
          obtain ⟨v25, ev25, h⟩ := bs h
          refine r_aald C (kt := 3) ev25 rfl rfl ⟨by decide, by decide⟩ dX1_quotient_88 ?_
          refine r_astore C [(10, vO v25), (9, vO v23), (8, vI q20.1), (7, vI q14.1), (6, vI (v7 - v8)), (5, vO q4.1), (4, vO q1.1), (0, vO a0), (1, vI x1), (2, vI x2), (3, vI x3)] dX1_quotient_89 (by decide) rfl ?_
          refine r_aload C 1 dX1_quotient_91 rfl ?_
          refine r_aload C 6 dX1_quotient_93 rfl ?_
          obtain ⟨u27, eu27, h⟩ := bs h
          obtain ⟨q26, eq26, h⟩ := bs h
          refine r_callV C (As := [vO q1.1]) (b := v23) (rest := []) (st1 := []) (v := none) (r := (RX8, TX8, 2)) (ci := 6) rfl eu27 (m_X8_be C.tr eq26) (lw_V q510 q511 q512 q130 q513) rfl hdX8_be rfl rfl (Nat.le_of_ble_eq_true rfl) ⟨by decide, by decide⟩ dX1_quotient_95 rfl ?_
          refine r_aload C 0 dX1_quotient_98 rfl ?_
          refine r_iload C 4 dX1_quotient_100 rfl ?_
          obtain ⟨u29, eu29, h⟩ := bs h
          obtain ⟨q28, eq28, h⟩ := bs h
          refine r_callV C (As := [vI (v7 - v8)]) (b := v25) (rest := []) (st1 := []) (v := none) (r := (RX8, TX8, 2)) (ci := 6) rfl eu29 (m_X8_nought C.tr eq28) (lw_V q627 q628 q629 q130 q630) rfl hdX8_nought rfl rfl (Nat.le_of_ble_eq_true rfl) ⟨by decide, by decide⟩ dX1_quotient_102 rfl ?_
          refine r_iconst C dX1_quotient_105 ?_
          refine r_istore C [(11, vI 0), (10, vO v25), (9, vO v23), (8, vI q20.1), (7, vI q14.1), (6, vI (v7 - v8)), (5, vO q4.1), (4, vO q1.1), (0, vO a0), (1, vI x1), (2, vI x2), (3, vI x3)] dX1_quotient_106 (by decide) rfl ?_
          refine r_sub [8, 11, 6, 5, 4, 3, 2, 1, 0] rfl ?_
          exact w_X1_quotient_l108 (fin := fin) C X h hK
        · have h := ie_ h c12
          refine r_bipush C dX1_quotient_40 (by decide) ?_
          cases h
          exact r_xiret C hK dX1_quotient_42
theorem hdX1_quotient : zhd yX1_quotient 3 := by decide +kernel
theorem m_X1_quotient {l : Launch} {D : va_G} {b0 : Nat} (hl : l.stackTraces = false) {a0 : Nat} {x1 : Int} {x2 : Int} {x3 : Int} {μ : Me} {w : Ex ⊕ (Int × Me)} (h : s_X1_quotient a0 x1 x2 x3 μ = some w) : XN l D b0 yX1_quotient (ws_ yX1_quotient cX1_quotient 13 (some .int)) 8 [vO a0, vI x1, vI x2, vI x3] μ (zoI w) (zmI w) :=
  XN.of hl (by decide +kernel) (Nat.le_of_ble_eq_true rfl) (fun Z C X _ _ => w_X1_quotient C X h rfl)
noncomputable def s_X6_differs_b109 (a0 : Nat) (a1 : Nat) (x2 : Int) (x3 : Int) (a4 : Nat) (x5 : Int) (x6 : Int)  (μ : Me) : Option ((Int × Me) ⊕ (Me)) :=
  (gR μ 6 a4 0).bind fun v10 =>
  (uI μ v10 (x5 - x3) x6).bind fun m11 =>
  some (.inl ((x5 + 1), m11))
theorem w_X6_differs_b109 {Z : Zt} {fin : Me} {w : ((Int × Me) ⊕ (Me))} (C : CX Z yX6_differs cX6_differs none 2 8) {a0 : Nat} {a1 : Nat} {x2 : Int} {x3 : Int} {a4 : Nat} {x5 : Int} {x6 : Int}  {μ : Me} (h : s_X6_differs_b109 a0 a1 x2 x3 a4 x5 x6 μ = some w) (hK : (Sum.elim (fun s : Int × Me => WL Z (QN Z none fin) s.2 16 [(0, vO a0), (1, vO a1), (2, vI x2), (3, vI x3), (4, vO a4), (5, vI s.1)] []) (fun r : Me => r = fin)) w) : WL Z (QN Z none fin) μ 109 [(0, vO a0), (1, vO a1), (2, vI x2), (3, vI x3), (4, vO a4), (5, vI x5), (6, vI x6)] [] := by
  unfold s_X6_differs_b109 at h
  refine r_aload C 4 dX6_differs_109 rfl ?_
  obtain ⟨v10, ev10, h⟩ := bs h
  refine r_getRN C (c := 6) (r := (RX8, TX8, 2)) rfl 0 (by decide) rfl ev10 (lw_n q300 rfl) dX6_differs_111 ?_
  refine r_iload C 5 dX6_differs_114 rfl ?_
  refine r_iload_n C 3 dX6_differs_116 rfl rfl ?_
  refine r_isub C dX6_differs_117 ?_
  refine r_iload C 6 dX6_differs_118 rfl ?_
  obtain ⟨m11, em11, h⟩ := bs h
  refine r_iast C em11 dX6_differs_120 ?_
  refine r_iinc C 5 [(5, vI (x5 + 1)), (0, vO a0), (1, vO a1), (2, vI x2), (3, vI x3), (4, vO a4), (6, vI x6)] dX6_differs_121 rfl (by decide) rfl ?_
  refine r_goto C dX6_differs_124 (tgt := 16) (by decide) ?_
  cases h
  refine r_sub [1, 2, 3, 4, 5, 0] rfl ?_
  exact hK
noncomputable def s_X6_differs_l78_st (a0 : Nat) (a1 : Nat) (x2 : Int) (x3 : Int) (a4 : Nat) (x5 : Int) (x6 : Int) (x7 : Int) (μ : Me) : Option ((Int × Int × Me) ⊕ ((Int × Me) ⊕ (Me))) :=
  (if w32 x3 ≤ w32 x7 then
  (s_X6_differs_b109 a0 a1 x2 x3 a4 x5 x6 μ).map Sum.inr
  else
  (gR μ 4 a0 0).bind fun v12 =>
  (ck μ 5 v12).bind fun _ =>
  (s_X7_of v12 ((w32 x6) * (w32 (x5 - x7))) μ).bind fun q13 =>
  some (.inl (q13.1, (x7 + 1), q13.2)))
theorem w_X6_differs_l78_st {Z : Zt} {fin : Me} {w : ((Int × Int × Me) ⊕ ((Int × Me) ⊕ (Me)))} (C : CX Z yX6_differs cX6_differs none 2 8) {a0 : Nat} {a1 : Nat} {x2 : Int} {x3 : Int} {a4 : Nat} {x5 : Int} {x6 : Int} {x7 : Int} {μ : Me} (h : s_X6_differs_l78_st a0 a1 x2 x3 a4 x5 x6 x7 μ = some w) (hK : (Sum.elim (fun s : Int × Int × Me => WL Z (QN Z none fin) s.2.2 78 [(0, vO a0), (1, vO a1), (2, vI x2), (3, vI x3), (4, vO a4), (5, vI x5), (6, vI s.1), (7, vI s.2.1)] []) (Sum.elim (fun s : Int × Me => WL Z (QN Z none fin) s.2 16 [(0, vO a0), (1, vO a1), (2, vI x2), (3, vI x3), (4, vO a4), (5, vI s.1)] []) (fun r : Me => r = fin))) w) : WL Z (QN Z none fin) μ 78 [(0, vO a0), (1, vO a1), (2, vI x2), (3, vI x3), (4, vO a4), (5, vI x5), (6, vI x6), (7, vI x7)] [] := by
  unfold s_X6_differs_l78_st at h
  refine r_iload C 7 dX6_differs_78 rfl ?_
  refine r_iload_n C 3 dX6_differs_80 rfl rfl ?_
  refine r_icmp_ge C dX6_differs_81 (tgt := 109) (by decide) (fun c9 => ?_) (fun c9 => ?_)
  · have h := it_ h c9
    obtain ⟨z, hz, ez⟩ := ms_ h; clear h; subst ez; have h := hz; clear hz
    refine r_sub [0, 1, 2, 3, 4, 5, 6] rfl ?_
    exact w_X6_differs_b109 (fin := fin) C h hK
  · have h := ie_ h c9
    refine r_aload_n C 0 dX6_differs_84 rfl rfl ?_
    obtain ⟨v12, ev12, h⟩ := bs h
    refine r_getR C (c := 4) (r := (RX6, TX6, 6)) rfl 0 (by decide) rfl ev12 q316 dX6_differs_85 ?_
    refine r_iload C 6 dX6_differs_88 rfl ?_
    refine r_i2l C dX6_differs_90 ?_
    refine r_iload C 5 dX6_differs_91 rfl ?_
    refine r_iload C 7 dX6_differs_93 rfl ?_
    refine r_isub C dX6_differs_95 ?_
    refine r_i2l C dX6_differs_96 ?_
    refine r_lmul C dX6_differs_97 ?_
    obtain ⟨u14, eu14, h⟩ := bs h
    obtain ⟨q13, eq13, h⟩ := bs h
    refine r_callV C (As := [vJ ((w32 x6) * (w32 (x5 - x7)))]) (b := v12) (rest := []) (st1 := [vI q13.1]) (v := some (vI q13.1)) (r := (RX7, TX7, 1)) (ci := 5) rfl eu14 (m_X7_of C.tr eq13) (lw_V q840 q632 q633 q129 q634) rfl hdX7_of rfl rfl (Nat.le_of_ble_eq_true rfl) ⟨by decide, by decide⟩ dX6_differs_98 rfl ?_
    refine r_istore C [(6, vI q13.1), (0, vO a0), (1, vO a1), (2, vI x2), (3, vI x3), (4, vO a4), (5, vI x5), (7, vI x7)] dX6_differs_101 (by decide) rfl ?_
    refine r_iinc C 7 [(7, vI (x7 + 1)), (6, vI q13.1), (0, vO a0), (1, vO a1), (2, vI x2), (3, vI x3), (4, vO a4), (5, vI x5)] dX6_differs_103 rfl (by decide) rfl ?_
    refine r_goto C dX6_differs_106 (tgt := 78) (by decide) ?_
    cases h
    refine r_sub [2, 3, 4, 5, 6, 7, 1, 0] rfl ?_
    exact hK
noncomputable def s_X6_differs_l78 (a0 : Nat) (a1 : Nat) (x2 : Int) (x3 : Int) (a4 : Nat) (x5 : Int) (x6 : Int) (x7 : Int) (μ : Me) : Option ((Int × Me) ⊕ (Me)) :=
  whileO (fun s : Int × Int × Me => s_X6_differs_l78_st a0 a1 x2 x3 a4 x5 s.1 s.2.1 s.2.2) (x6, x7, μ)
theorem e_X6_differs_l78 (a0 : Nat) (a1 : Nat) (x2 : Int) (x3 : Int) (a4 : Nat) (x5 : Int) (x6 : Int) (x7 : Int) (μ : Me) : s_X6_differs_l78 a0 a1 x2 x3 a4 x5 x6 x7 μ = (s_X6_differs_l78_st a0 a1 x2 x3 a4 x5 x6 x7 μ).bind fun x => x.elim (fun s : Int × Int × Me => s_X6_differs_l78 a0 a1 x2 x3 a4 x5 s.1 s.2.1 s.2.2) some := whileO_eq _ _
theorem w_X6_differs_l78 {Z : Zt} {fin : Me} {w : ((Int × Me) ⊕ (Me))} (C : CX Z yX6_differs cX6_differs none 2 8) {a0 : Nat} {a1 : Nat} {x2 : Int} {x3 : Int} {a4 : Nat} {x5 : Int} {x6 : Int} {x7 : Int} {μ : Me} (h : s_X6_differs_l78 a0 a1 x2 x3 a4 x5 x6 x7 μ = some w) (hK : (Sum.elim (fun s : Int × Me => WL Z (QN Z none fin) s.2 16 [(0, vO a0), (1, vO a1), (2, vI x2), (3, vI x3), (4, vO a4), (5, vI s.1)] []) (fun r : Me => r = fin)) w) : WL Z (QN Z none fin) μ 78 [(0, vO a0), (1, vO a1), (2, vI x2), (3, vI x3), (4, vO a4), (5, vI x5), (6, vI x6), (7, vI x7)] [] := by
  refine whileO_walk (w := w) (fun s : Int × Int × Me => WL Z (QN Z none fin) s.2.2 78 [(0, vO a0), (1, vO a1), (2, vI x2), (3, vI x3), (4, vO a4), (5, vI x5), (6, vI s.1), (7, vI s.2.1)] []) (fun s v h2 hi hr => ?_) (x6, x7, μ) h
  refine w_X6_differs_l78_st (fin := fin) C h2 ?_
  cases v with
  | inl s2 => exact hi s2 rfl
  | inr r => have e := hr r rfl; subst e; exact hK
noncomputable def s_X6_differs_l39_st (a0 : Nat) (a1 : Nat) (x2 : Int) (x3 : Int) (a4 : Nat) (x5 : Int) (x6 : Int) (x7 : Int) (μ : Me) : Option ((Int × Int × Me) ⊕ ((Int × Me) ⊕ (Me))) :=
  (if w32 x2 ≤ w32 x7 then
  (s_X6_differs_l78 a0 a1 x2 x3 a4 x5 x6 0 μ).map Sum.inr
  else
  (gR μ 4 a0 0).bind fun v15 =>
  (gI μ 6 a1 1).bind fun v16 =>
  (ck μ 5 v15).bind fun _ =>
  (s_X7_of v15 ((w32 x6) * (w32 ((v16 - x5) - x7))) μ).bind fun q17 =>
  some (.inl (q17.1, (x7 + 1), q17.2)))
theorem w_X6_differs_l39_st {Z : Zt} {fin : Me} {w : ((Int × Int × Me) ⊕ ((Int × Me) ⊕ (Me)))} (C : CX Z yX6_differs cX6_differs none 2 8) {a0 : Nat} {a1 : Nat} {x2 : Int} {x3 : Int} {a4 : Nat} {x5 : Int} {x6 : Int} {x7 : Int} {μ : Me} (h : s_X6_differs_l39_st a0 a1 x2 x3 a4 x5 x6 x7 μ = some w) (hK : (Sum.elim (fun s : Int × Int × Me => WL Z (QN Z none fin) s.2.2 39 [(0, vO a0), (1, vO a1), (2, vI x2), (3, vI x3), (4, vO a4), (5, vI x5), (6, vI s.1), (7, vI s.2.1)] []) (Sum.elim (fun s : Int × Me => WL Z (QN Z none fin) s.2 16 [(0, vO a0), (1, vO a1), (2, vI x2), (3, vI x3), (4, vO a4), (5, vI s.1)] []) (fun r : Me => r = fin))) w) : WL Z (QN Z none fin) μ 39 [(0, vO a0), (1, vO a1), (2, vI x2), (3, vI x3), (4, vO a4), (5, vI x5), (6, vI x6), (7, vI x7)] [] := by
  unfold s_X6_differs_l39_st at h
  refine r_iload C 7 dX6_differs_39 rfl ?_
  refine r_iload_n C 2 dX6_differs_41 rfl rfl ?_
  refine r_icmp_ge C dX6_differs_42 (tgt := 75) (by decide) (fun c8 => ?_) (fun c8 => ?_)
  · have h := it_ h c8
    refine r_iconst C dX6_differs_75 ?_
    refine r_istore C [(7, vI 0), (0, vO a0), (1, vO a1), (2, vI x2), (3, vI x3), (4, vO a4), (5, vI x5), (6, vI x6)] dX6_differs_76 (by decide) rfl ?_
    obtain ⟨z, hz, ez⟩ := ms_ h; clear h; subst ez; have h := hz; clear hz
    refine r_sub [1, 2, 3, 4, 5, 6, 7, 0] rfl ?_
    exact w_X6_differs_l78 (fin := fin) C h hK
  · have h := ie_ h c8
    refine r_aload_n C 0 dX6_differs_45 rfl rfl ?_
    obtain ⟨v15, ev15, h⟩ := bs h
    refine r_getR C (c := 4) (r := (RX6, TX6, 6)) rfl 0 (by decide) rfl ev15 q316 dX6_differs_46 ?_
    refine r_iload C 6 dX6_differs_49 rfl ?_
    refine r_i2l C dX6_differs_51 ?_
    refine r_aload_n C 1 dX6_differs_52 rfl rfl ?_
    obtain ⟨v16, ev16, h⟩ := bs h
    refine r_getIN C (c := 6) (r := (RX8, TX8, 2)) rfl 1 (by decide) rfl ev16 (lw_n q305 rfl) dX6_differs_53 ?_
    refine r_iload C 5 dX6_differs_56 rfl ?_
    refine r_isub C dX6_differs_58 ?_
    refine r_iload C 7 dX6_differs_59 rfl ?_
    refine r_isub C dX6_differs_61 ?_
    refine r_i2l C dX6_differs_62 ?_
    refine r_lmul C dX6_differs_63 ?_
    obtain ⟨u18, eu18, h⟩ := bs h
    obtain ⟨q17, eq17, h⟩ := bs h
    refine r_callV C (As := [vJ ((w32 x6) * (w32 ((v16 - x5) - x7)))]) (b := v15) (rest := []) (st1 := [vI q17.1]) (v := some (vI q17.1)) (r := (RX7, TX7, 1)) (ci := 5) rfl eu18 (m_X7_of C.tr eq17) (lw_V q840 q632 q633 q129 q634) rfl hdX7_of rfl rfl (Nat.le_of_ble_eq_true rfl) ⟨by decide, by decide⟩ dX6_differs_64 rfl ?_
    refine r_istore C [(6, vI q17.1), (0, vO a0), (1, vO a1), (2, vI x2), (3, vI x3), (4, vO a4), (5, vI x5), (7, vI x7)] dX6_differs_67 (by decide) rfl ?_
    refine r_iinc C 7 [(7, vI (x7 + 1)), (6, vI q17.1), (0, vO a0), (1, vO a1), (2, vI x2), (3, vI x3), (4, vO a4), (5, vI x5)] dX6_differs_69 rfl (by decide) rfl ?_
    refine r_goto C dX6_differs_72 (tgt := 39) (by decide) ?_
    cases h
    refine r_sub [2, 3, 4, 5, 6, 7, 1, 0] rfl ?_
    exact hK
noncomputable def s_X6_differs_l39 (a0 : Nat) (a1 : Nat) (x2 : Int) (x3 : Int) (a4 : Nat) (x5 : Int) (x6 : Int) (x7 : Int) (μ : Me) : Option ((Int × Me) ⊕ (Me)) :=
  whileO (fun s : Int × Int × Me => s_X6_differs_l39_st a0 a1 x2 x3 a4 x5 s.1 s.2.1 s.2.2) (x6, x7, μ)
theorem e_X6_differs_l39 (a0 : Nat) (a1 : Nat) (x2 : Int) (x3 : Int) (a4 : Nat) (x5 : Int) (x6 : Int) (x7 : Int) (μ : Me) : s_X6_differs_l39 a0 a1 x2 x3 a4 x5 x6 x7 μ = (s_X6_differs_l39_st a0 a1 x2 x3 a4 x5 x6 x7 μ).bind fun x => x.elim (fun s : Int × Int × Me => s_X6_differs_l39 a0 a1 x2 x3 a4 x5 s.1 s.2.1 s.2.2) some := whileO_eq _ _
theorem w_X6_differs_l39 {Z : Zt} {fin : Me} {w : ((Int × Me) ⊕ (Me))} (C : CX Z yX6_differs cX6_differs none 2 8) {a0 : Nat} {a1 : Nat} {x2 : Int} {x3 : Int} {a4 : Nat} {x5 : Int} {x6 : Int} {x7 : Int} {μ : Me} (h : s_X6_differs_l39 a0 a1 x2 x3 a4 x5 x6 x7 μ = some w) (hK : (Sum.elim (fun s : Int × Me => WL Z (QN Z none fin) s.2 16 [(0, vO a0), (1, vO a1), (2, vI x2), (3, vI x3), (4, vO a4), (5, vI s.1)] []) (fun r : Me => r = fin)) w) : WL Z (QN Z none fin) μ 39 [(0, vO a0), (1, vO a1), (2, vI x2), (3, vI x3), (4, vO a4), (5, vI x5), (6, vI x6), (7, vI x7)] [] := by
  refine whileO_walk (w := w) (fun s : Int × Int × Me => WL Z (QN Z none fin) s.2.2 39 [(0, vO a0), (1, vO a1), (2, vI x2), (3, vI x3), (4, vO a4), (5, vI x5), (6, vI s.1), (7, vI s.2.1)] []) (fun s v h2 hi hr => ?_) (x6, x7, μ) h
  refine w_X6_differs_l39_st (fin := fin) C h2 ?_
  cases v with
  | inl s2 => exact hi s2 rfl
  | inr r => have e := hr r rfl; subst e; exact hK
noncomputable def s_X6_differs_l16_st (a0 : Nat) (a1 : Nat) (x2 : Int) (x3 : Int) (a4 : Nat) (x5 : Int) (μ : Me) : Option ((Int × Me) ⊕ (Me)) :=
  (gI μ 6 a1 1).bind fun v4 =>
  (if w32 (v4 - x2) < w32 x5 then
  some (.inr μ)
  else
  (gR μ 6 a1 0).bind fun v6 =>
  (aI μ 101 v6 x5).bind fun v7 =>
  s_X6_differs_l39 a0 a1 x2 x3 a4 x5 v7 0 μ)
theorem w_X6_differs_l16_st {Z : Zt} {fin : Me} {w : ((Int × Me) ⊕ (Me))} (C : CX Z yX6_differs cX6_differs none 2 8) {a0 : Nat} {a1 : Nat} {x2 : Int} {x3 : Int} {a4 : Nat} {x5 : Int} {μ : Me} (h : s_X6_differs_l16_st a0 a1 x2 x3 a4 x5 μ = some w) (hK : (Sum.elim (fun s : Int × Me => WL Z (QN Z none fin) s.2 16 [(0, vO a0), (1, vO a1), (2, vI x2), (3, vI x3), (4, vO a4), (5, vI s.1)] []) (fun r : Me => r = fin)) w) : WL Z (QN Z none fin) μ 16 [(0, vO a0), (1, vO a1), (2, vI x2), (3, vI x3), (4, vO a4), (5, vI x5)] [] := by
  unfold s_X6_differs_l16_st at h
  refine r_iload C 5 dX6_differs_16 rfl ?_
  refine r_aload_n C 1 dX6_differs_18 rfl rfl ?_
  obtain ⟨v4, ev4, h⟩ := bs h
  refine r_getIN C (c := 6) (r := (RX8, TX8, 2)) rfl 1 (by decide) rfl ev4 (lw_n q305 rfl) dX6_differs_19 ?_
  refine r_iload_n C 2 dX6_differs_22 rfl rfl ?_
  refine r_isub C dX6_differs_23 ?_
  refine r_icmp_gt C dX6_differs_24 (tgt := 127) (by decide) (fun c5 => ?_) (fun c5 => ?_)
  · have h := it_ h c5
    cases h
    exact r_vret C hK dX6_differs_127
  · have h := ie_ h c5
    refine r_aload_n C 1 dX6_differs_27 rfl rfl ?_
    obtain ⟨v6, ev6, h⟩ := bs h
    refine r_getRN C (c := 6) (r := (RX8, TX8, 2)) rfl 0 (by decide) rfl ev6 (lw_n q300 rfl) dX6_differs_28 ?_
    refine r_iload C 5 dX6_differs_31 rfl ?_
    obtain ⟨v7, ev7, h⟩ := bs h
    refine r_iald C ev7 dX6_differs_33 ?_
    refine r_istore C [(6, vI v7), (0, vO a0), (1, vO a1), (2, vI x2), (3, vI x3), (4, vO a4), (5, vI x5)] dX6_differs_34 (by decide) rfl ?_
    refine r_iconst C dX6_differs_36 ?_
    refine r_istore C [(7, vI 0), (6, vI v7), (0, vO a0), (1, vO a1), (2, vI x2), (3, vI x3), (4, vO a4), (5, vI x5)] dX6_differs_37 (by decide) rfl ?_
    refine r_sub [2, 3, 4, 5, 6, 7, 1, 0] rfl ?_
    exact w_X6_differs_l39 (fin := fin) C h hK
noncomputable def s_X6_differs_l16 (a0 : Nat) (a1 : Nat) (x2 : Int) (x3 : Int) (a4 : Nat) (x5 : Int) (μ : Me) : Option (Me) :=
  whileO (fun s : Int × Me => s_X6_differs_l16_st a0 a1 x2 x3 a4 s.1 s.2) (x5, μ)
theorem e_X6_differs_l16 (a0 : Nat) (a1 : Nat) (x2 : Int) (x3 : Int) (a4 : Nat) (x5 : Int) (μ : Me) : s_X6_differs_l16 a0 a1 x2 x3 a4 x5 μ = (s_X6_differs_l16_st a0 a1 x2 x3 a4 x5 μ).bind fun x => x.elim (fun s : Int × Me => s_X6_differs_l16 a0 a1 x2 x3 a4 s.1 s.2) some := whileO_eq _ _
theorem w_X6_differs_l16 {Z : Zt} {fin : Me} {w : (Me)} (C : CX Z yX6_differs cX6_differs none 2 8) {a0 : Nat} {a1 : Nat} {x2 : Int} {x3 : Int} {a4 : Nat} {x5 : Int} {μ : Me} (h : s_X6_differs_l16 a0 a1 x2 x3 a4 x5 μ = some w) (hK : (fun r : Me => r = fin) w) : WL Z (QN Z none fin) μ 16 [(0, vO a0), (1, vO a1), (2, vI x2), (3, vI x3), (4, vO a4), (5, vI x5)] [] := by
  refine whileO_walk (w := w) (fun s : Int × Me => WL Z (QN Z none fin) s.2 16 [(0, vO a0), (1, vO a1), (2, vI x2), (3, vI x3), (4, vO a4), (5, vI s.1)] []) (fun s v h2 hi hr => ?_) (x5, μ) h
  refine w_X6_differs_l16_st (fin := fin) C h2 ?_
  cases v with
  | inl s2 => exact hi s2 rfl
  | inr r => have e := hr r rfl; subst e; exact hK
noncomputable def s_X6_differs (a0 : Nat) (a1 : Nat) (x2 : Int) (x3 : Int) (a4 : Nat) (μ : Me) : Option (Me) :=
  (gI μ 6 a1 1).bind fun v1 =>
  (ck μ 6 a4).bind fun _ =>
  (s_X8_nought a4 ((v1 - x2) - x3) μ).bind fun q2 =>
  s_X6_differs_l16 a0 a1 x2 x3 a4 x3 q2
theorem w_X6_differs {Z : Zt} {fin : Me} {w : Me} (C : CX Z yX6_differs cX6_differs none 2 8) {a0 : Nat} {a1 : Nat} {x2 : Int} {x3 : Int} {a4 : Nat} {μ : Me} (h : s_X6_differs a0 a1 x2 x3 a4 μ = some w) (hK : w = fin) : WL Z (QN Z none fin) μ 0 [(0, vO a0), (1, vO a1), (2, vI x2), (3, vI x3), (4, vO a4)] [] := by
  unfold s_X6_differs at h
  refine r_aload C 4 dX6_differs_0 rfl ?_
  refine r_aload_n C 1 dX6_differs_2 rfl rfl ?_
  obtain ⟨v1, ev1, h⟩ := bs h
  refine r_getIN C (c := 6) (r := (RX8, TX8, 2)) rfl 1 (by decide) rfl ev1 (lw_n q305 rfl) dX6_differs_3 ?_
  refine r_iload_n C 2 dX6_differs_6 rfl rfl ?_
  refine r_isub C dX6_differs_7 ?_
  refine r_iload_n C 3 dX6_differs_8 rfl rfl ?_
  refine r_isub C dX6_differs_9 ?_
  obtain ⟨u3, eu3, h⟩ := bs h
  obtain ⟨q2, eq2, h⟩ := bs h
  refine r_callV C (As := [vI ((v1 - x2) - x3)]) (b := a4) (rest := []) (st1 := []) (v := none) (r := (RX8, TX8, 2)) (ci := 6) rfl eu3 (m_X8_nought C.tr eq2) (lw_V q863 q628 q629 q130 q630) rfl hdX8_nought rfl rfl (Nat.le_of_ble_eq_true rfl) ⟨by decide, by decide⟩ dX6_differs_10 rfl ?_
  refine r_iload_n C 3 dX6_differs_13 rfl rfl ?_
  refine r_istore C [(5, vI x3), (0, vO a0), (1, vO a1), (2, vI x2), (3, vI x3), (4, vO a4)] dX6_differs_14 (by decide) rfl ?_
  refine r_sub [1, 2, 3, 4, 5, 0] rfl ?_
  exact w_X6_differs_l16 (fin := fin) C h hK
theorem hdX6_differs : zhd yX6_differs 4 := by decide +kernel
theorem m_X6_differs {l : Launch} {D : va_G} {b0 : Nat} (hl : l.stackTraces = false) {a0 : Nat} {a1 : Nat} {x2 : Int} {x3 : Int} {a4 : Nat} {μ : Me} {w : Me} (h : s_X6_differs a0 a1 x2 x3 a4 μ = some w) : MN l D b0 yX6_differs (ws_ yX6_differs cX6_differs 8 none) 2 [vO a0, vO a1, vI x2, vI x3, vO a4] μ none w :=
  MN.of hl (by decide +kernel) (Nat.le_of_ble_eq_true rfl) (fun Z C _ _ => w_X6_differs C h rfl)
noncomputable def s_X1_rest_b144 (a1 : Nat)  (μ : Me) : Option (Int × Me) :=
  (ck μ 6 a1).bind fun _ =>
  (s_X8_isNought a1 μ).bind fun q10 =>
  (if w32 q10.1 = 0 then
  some (1, q10.2)
  else
  some (0, q10.2))
theorem w_X1_rest_b144 {Z : Zt} {fin : Int × Me} {w : (Int × Me)} (C : CX Z yX1_rest cX1_rest (some .boolean) 4 6) {a1 : Nat}  {μ : Me} (h : s_X1_rest_b144 a1 μ = some w) (hK : (fun r : Int × Me => r = fin) w) : WL Z (QN Z (some (vI fin.1)) fin.2) μ 144 [(1, vO a1)] [] := by
  unfold s_X1_rest_b144 at h
  refine r_aload_n C 0 dX1_rest_144 rfl rfl ?_
  obtain ⟨u11, eu11, h⟩ := bs h
  obtain ⟨q10, eq10, h⟩ := bs h
  refine r_callV C (As := []) (b := a1) (rest := []) (st1 := [vI q10.1]) (v := some (vI q10.1)) (r := (RX8, TX8, 2)) (ci := 6) rfl eu11 (m_X8_isNought C.tr eq10) (lw_V q544 q545 q546 q130 q547) rfl hdX8_isNought rfl rfl (Nat.le_of_ble_eq_true rfl) ⟨by decide, by decide⟩ dX1_rest_145 rfl ?_
  refine r_if_ne C dX1_rest_148 (tgt := 155) (by decide) (fun c12 => ?_) (fun c12 => ?_)
  · have h := ie_ h c12
    refine r_iconst C dX1_rest_155 ?_
    cases h
    exact r_zret C (Or.inl rfl) hK dX1_rest_156
  · have h := it_ h c12
    refine r_iconst C dX1_rest_151 ?_
    refine r_goto C dX1_rest_152 (tgt := 156) (by decide) ?_
    cases h
    exact r_zret C (Or.inr rfl) hK dX1_rest_156
noncomputable def s_X1_rest_b113 (a0 : Nat) (a1 : Nat) (a2 : Nat) (x3 : Int)  (μ : Me) : Option ((Me) ⊕ (Int × Me)) :=
  (ck μ 6 a1).bind fun _ =>
  (s_X8_isNought a1 μ).bind fun q24 =>
  (if w32 q24.1 = 0 then
  (gR q24.2 0 a0 7).bind fun v27 =>
  (ck q24.2 0 a0).bind fun _ =>
  (s_X1_bares a0 a1 v27 q24.2).bind fun q28 =>
  (gR q28.2 0 a0 7).bind fun v30 =>
  (ck q28.2 6 a1).bind fun _ =>
  (s_X8_be a1 v30 q28.2).bind fun q31 =>
  some (.inl q31)
  else
  some (.inr (0, q24.2)))
theorem w_X1_rest_b113 {Z : Zt} {fin : Int × Me} {w : ((Me) ⊕ (Int × Me))} (C : CX Z yX1_rest cX1_rest (some .boolean) 4 6) {a0 : Nat} {a1 : Nat} {a2 : Nat} {x3 : Int}  {μ : Me} (h : s_X1_rest_b113 a0 a1 a2 x3 μ = some w) (hK : (Sum.elim (fun s : Me => WL Z (QN Z (some (vI fin.1)) fin.2) s 17 [(0, vO a0), (1, vO a1), (2, vO a2), (3, vI x3)] []) (fun r : Int × Me => r = fin)) w) : WL Z (QN Z (some (vI fin.1)) fin.2) μ 113 [(0, vO a0), (1, vO a1), (2, vO a2), (3, vI x3)] [] := by
  unfold s_X1_rest_b113 at h
  refine r_aload_n C 1 dX1_rest_113 rfl rfl ?_
  obtain ⟨u25, eu25, h⟩ := bs h
  obtain ⟨q24, eq24, h⟩ := bs h
  refine r_callV C (As := []) (b := a1) (rest := []) (st1 := [vI q24.1]) (v := some (vI q24.1)) (r := (RX8, TX8, 2)) (ci := 6) rfl eu25 (m_X8_isNought C.tr eq24) (lw_V q544 q545 q546 q130 q547) rfl hdX8_isNought rfl rfl (Nat.le_of_ble_eq_true rfl) ⟨by decide, by decide⟩ dX1_rest_114 rfl ?_
  refine r_if_eq C dX1_rest_117 (tgt := 122) (by decide) (fun c26 => ?_) (fun c26 => ?_)
  · have h := it_ h c26
    refine r_aload_n C 0 dX1_rest_122 rfl rfl ?_
    refine r_aload_n C 1 dX1_rest_123 rfl rfl ?_
    refine r_aload_n C 0 dX1_rest_124 rfl rfl ?_
    obtain ⟨v27, ev27, h⟩ := bs h
    refine r_getR C (c := 0) (r := (RX1, TX1, 19)) rfl 7 (by decide) rfl ev27 q435 dX1_rest_125 ?_
    obtain ⟨u29, eu29, h⟩ := bs h
    obtain ⟨q28, eq28, h⟩ := bs h
    refine r_callV C (As := [vO a1, vO v27]) (b := a0) (rest := []) (st1 := [vI q28.1]) (v := some (vI q28.1)) (r := (RX1, TX1, 19)) (ci := 0) rfl eu29 (m_X1_bares C.tr eq28) (lw_V q1106 q1108 qs27 q120 q1109) rfl hdX1_bares rfl rfl (Nat.le_of_ble_eq_true rfl) ⟨by decide, by decide⟩ dX1_rest_128 rfl ?_
    refine r_istore C [(5, vI q28.1), (0, vO a0), (1, vO a1), (2, vO a2), (3, vI x3)] dX1_rest_131 (by decide) rfl ?_
    refine r_aload_n C 2 dX1_rest_133 rfl rfl ?_
    refine r_aload_n C 1 dX1_rest_134 rfl rfl ?_
    obtain ⟨v30, ev30, h⟩ := bs h
    refine r_getR C (c := 0) (r := (RX1, TX1, 19)) rfl 7 (by decide) rfl ev30 q435 dX1_rest_135 ?_
    obtain ⟨u32, eu32, h⟩ := bs h
    obtain ⟨q31, eq31, h⟩ := bs h
    refine r_callV C (As := [vO v30]) (b := a1) (rest := []) (st1 := []) (v := none) (r := (RX8, TX8, 2)) (ci := 6) rfl eu32 (m_X8_be C.tr eq31) (lw_V q510 q511 q512 q130 q513) rfl hdX8_be rfl rfl (Nat.le_of_ble_eq_true rfl) ⟨by decide, by decide⟩ dX1_rest_138 rfl ?_
    refine r_goto C dX1_rest_141 (tgt := 17) (by decide) ?_
    cases h
    refine r_sub [1, 2, 3, 4] rfl ?_
    exact hK
  · have h := ie_ h c26
    refine r_iconst C dX1_rest_120 ?_
    cases h
    exact r_zret C (Or.inl rfl) hK dX1_rest_121
noncomputable def s_X1_rest_l60_st (a0 : Nat) (a1 : Nat) (a2 : Nat) (x3 : Int) (x4 : Int) (x5 : Int) (μ : Me) : Option ((Int × Me) ⊕ ((Me) ⊕ (Int × Me))) :=
  (gI μ 6 a2 1).bind fun v22 =>
  (if w32 v22 < w32 x5 then
  (s_X1_rest_b113 a0 a1 a2 x3 μ).map Sum.inr
  else
  (gR μ 6 a1 0).bind fun v33 =>
  (gR μ 0 a0 1).bind fun v34 =>
  (gR μ 4 v34 0).bind fun v35 =>
  (gR μ 6 a1 0).bind fun v36 =>
  (aI μ 101 v36 x5).bind fun v37 =>
  (gR μ 6 a2 0).bind fun v38 =>
  (aI μ 101 v38 x5).bind fun v39 =>
  (ck μ 5 v35).bind fun _ =>
  (s_X7_of v35 ((w32 v37) - ((w32 x4) * (w32 v39))) μ).bind fun q40 =>
  (uI q40.2 v33 x5 q40.1).bind fun m42 =>
  some (.inl ((x5 + 1), m42)))
theorem w_X1_rest_l60_st {Z : Zt} {fin : Int × Me} {w : ((Int × Me) ⊕ ((Me) ⊕ (Int × Me)))} (C : CX Z yX1_rest cX1_rest (some .boolean) 4 6) {a0 : Nat} {a1 : Nat} {a2 : Nat} {x3 : Int} {x4 : Int} {x5 : Int} {μ : Me} (h : s_X1_rest_l60_st a0 a1 a2 x3 x4 x5 μ = some w) (hK : (Sum.elim (fun s : Int × Me => WL Z (QN Z (some (vI fin.1)) fin.2) s.2 60 [(0, vO a0), (1, vO a1), (2, vO a2), (3, vI x3), (4, vI x4), (5, vI s.1)] []) (Sum.elim (fun s : Me => WL Z (QN Z (some (vI fin.1)) fin.2) s 17 [(0, vO a0), (1, vO a1), (2, vO a2), (3, vI x3)] []) (fun r : Int × Me => r = fin))) w) : WL Z (QN Z (some (vI fin.1)) fin.2) μ 60 [(0, vO a0), (1, vO a1), (2, vO a2), (3, vI x3), (4, vI x4), (5, vI x5)] [] := by
  unfold s_X1_rest_l60_st at h
  refine r_iload C 5 dX1_rest_60 rfl ?_
  refine r_aload_n C 2 dX1_rest_62 rfl rfl ?_
  obtain ⟨v22, ev22, h⟩ := bs h
  refine r_getIN C (c := 6) (r := (RX8, TX8, 2)) rfl 1 (by decide) rfl ev22 (lw_n q309 rfl) dX1_rest_63 ?_
  refine r_icmp_gt C dX1_rest_66 (tgt := 113) (by decide) (fun c23 => ?_) (fun c23 => ?_)
  · have h := it_ h c23
    obtain ⟨z, hz, ez⟩ := ms_ h; clear h; subst ez; have h := hz; clear hz
    refine r_sub [0, 1, 2, 3] rfl ?_
    exact w_X1_rest_b113 (fin := fin) C h hK
  · have h := ie_ h c23
    refine r_aload_n C 1 dX1_rest_69 rfl rfl ?_
    obtain ⟨v33, ev33, h⟩ := bs h
    refine r_getRN C (c := 6) (r := (RX8, TX8, 2)) rfl 0 (by decide) rfl ev33 (lw_n q304 rfl) dX1_rest_70 ?_
    refine r_iload C 5 dX1_rest_73 rfl ?_
    refine r_aload_n C 0 dX1_rest_75 rfl rfl ?_
    obtain ⟨v34, ev34, h⟩ := bs h
    refine r_getR C (c := 0) (r := (RX1, TX1, 19)) rfl 1 (by decide) rfl ev34 q422 dX1_rest_76 ?_
    obtain ⟨v35, ev35, h⟩ := bs h
    refine r_getRN C (c := 4) (r := (RX6, TX6, 6)) rfl 0 (by decide) rfl ev35 (lw_n q320 rfl) dX1_rest_79 ?_
    refine r_aload_n C 1 dX1_rest_82 rfl rfl ?_
    obtain ⟨v36, ev36, h⟩ := bs h
    refine r_getRN C (c := 6) (r := (RX8, TX8, 2)) rfl 0 (by decide) rfl ev36 (lw_n q304 rfl) dX1_rest_83 ?_
    refine r_iload C 5 dX1_rest_86 rfl ?_
    obtain ⟨v37, ev37, h⟩ := bs h
    refine r_iald C ev37 dX1_rest_88 ?_
    refine r_i2l C dX1_rest_89 ?_
    refine r_iload C 4 dX1_rest_90 rfl ?_
    refine r_i2l C dX1_rest_92 ?_
    refine r_aload_n C 2 dX1_rest_93 rfl rfl ?_
    obtain ⟨v38, ev38, h⟩ := bs h
    refine r_getRN C (c := 6) (r := (RX8, TX8, 2)) rfl 0 (by decide) rfl ev38 (lw_n q304 rfl) dX1_rest_94 ?_
    refine r_iload C 5 dX1_rest_97 rfl ?_
    obtain ⟨v39, ev39, h⟩ := bs h
    refine r_iald C ev39 dX1_rest_99 ?_
    refine r_i2l C dX1_rest_100 ?_
    refine r_lmul C dX1_rest_101 ?_
    refine r_lsub C dX1_rest_102 ?_
    obtain ⟨u41, eu41, h⟩ := bs h
    obtain ⟨q40, eq40, h⟩ := bs h
    refine r_callV C (As := [vJ ((w32 v37) - ((w32 x4) * (w32 v39)))]) (b := v35) (rest := [vI x5, vO v33]) (st1 := [vI q40.1, vI x5, vO v33]) (v := some (vI q40.1)) (r := (RX7, TX7, 1)) (ci := 5) rfl eu41 (m_X7_of C.tr eq40) (lw_V q631 q632 q633 q129 q634) rfl hdX7_of rfl rfl (Nat.le_of_ble_eq_true rfl) ⟨by decide, by decide⟩ dX1_rest_103 rfl ?_
    obtain ⟨m42, em42, h⟩ := bs h
    refine r_iast C em42 dX1_rest_106 ?_
    refine r_iinc C 5 [(5, vI (x5 + 1)), (0, vO a0), (1, vO a1), (2, vO a2), (3, vI x3), (4, vI x4)] dX1_rest_107 rfl (by decide) rfl ?_
    refine r_goto C dX1_rest_110 (tgt := 60) (by decide) ?_
    cases h
    refine r_sub [1, 2, 3, 4, 5, 0] rfl ?_
    exact hK
noncomputable def s_X1_rest_l60 (a0 : Nat) (a1 : Nat) (a2 : Nat) (x3 : Int) (x4 : Int) (x5 : Int) (μ : Me) : Option ((Me) ⊕ (Int × Me)) :=
  whileO (fun s : Int × Me => s_X1_rest_l60_st a0 a1 a2 x3 x4 s.1 s.2) (x5, μ)
theorem e_X1_rest_l60 (a0 : Nat) (a1 : Nat) (a2 : Nat) (x3 : Int) (x4 : Int) (x5 : Int) (μ : Me) : s_X1_rest_l60 a0 a1 a2 x3 x4 x5 μ = (s_X1_rest_l60_st a0 a1 a2 x3 x4 x5 μ).bind fun x => x.elim (fun s : Int × Me => s_X1_rest_l60 a0 a1 a2 x3 x4 s.1 s.2) some := whileO_eq _ _
theorem w_X1_rest_l60 {Z : Zt} {fin : Int × Me} {w : ((Me) ⊕ (Int × Me))} (C : CX Z yX1_rest cX1_rest (some .boolean) 4 6) {a0 : Nat} {a1 : Nat} {a2 : Nat} {x3 : Int} {x4 : Int} {x5 : Int} {μ : Me} (h : s_X1_rest_l60 a0 a1 a2 x3 x4 x5 μ = some w) (hK : (Sum.elim (fun s : Me => WL Z (QN Z (some (vI fin.1)) fin.2) s 17 [(0, vO a0), (1, vO a1), (2, vO a2), (3, vI x3)] []) (fun r : Int × Me => r = fin)) w) : WL Z (QN Z (some (vI fin.1)) fin.2) μ 60 [(0, vO a0), (1, vO a1), (2, vO a2), (3, vI x3), (4, vI x4), (5, vI x5)] [] := by
  refine whileO_walk (w := w) (fun s : Int × Me => WL Z (QN Z (some (vI fin.1)) fin.2) s.2 60 [(0, vO a0), (1, vO a1), (2, vO a2), (3, vI x3), (4, vI x4), (5, vI s.1)] []) (fun s v h2 hi hr => ?_) (x5, μ) h
  refine w_X1_rest_l60_st (fin := fin) C h2 ?_
  cases v with
  | inl s2 => exact hi s2 rfl
  | inr r => have e := hr r rfl; subst e; exact hK
noncomputable def s_X1_rest_l17_st (a0 : Nat) (a1 : Nat) (a2 : Nat) (x3 : Int) (μ : Me) : Option ((Me) ⊕ (Int × Me)) :=
  (gI μ 6 a1 1).bind fun v7 =>
  (gI μ 6 a2 1).bind fun v8 =>
  (if w32 v7 < w32 v8 then
  (s_X1_rest_b144 a1 μ).map Sum.inr
  else
  (ck μ 6 a1).bind fun _ =>
  (s_X8_isNought a1 μ).bind fun q13 =>
  (if w32 q13.1 = 0 then
  (gR q13.2 0 a0 1).bind fun v16 =>
  (gR q13.2 4 v16 0).bind fun v17 =>
  (gR q13.2 6 a1 0).bind fun v18 =>
  (aI q13.2 101 v18 0).bind fun v19 =>
  (ck q13.2 5 v17).bind fun _ =>
  (s_X7_of v17 ((w32 v19) * (w32 x3)) q13.2).bind fun q20 =>
  s_X1_rest_l60 a0 a1 a2 x3 q20.1 0 q20.2
  else
  (s_X1_rest_b144 a1 q13.2).map Sum.inr))
theorem w_X1_rest_l17_st {Z : Zt} {fin : Int × Me} {w : ((Me) ⊕ (Int × Me))} (C : CX Z yX1_rest cX1_rest (some .boolean) 4 6) {a0 : Nat} {a1 : Nat} {a2 : Nat} {x3 : Int} {μ : Me} (h : s_X1_rest_l17_st a0 a1 a2 x3 μ = some w) (hK : (Sum.elim (fun s : Me => WL Z (QN Z (some (vI fin.1)) fin.2) s 17 [(0, vO a0), (1, vO a1), (2, vO a2), (3, vI x3)] []) (fun r : Int × Me => r = fin)) w) : WL Z (QN Z (some (vI fin.1)) fin.2) μ 17 [(0, vO a0), (1, vO a1), (2, vO a2), (3, vI x3)] [] := by
  unfold s_X1_rest_l17_st at h
  refine r_aload_n C 1 dX1_rest_17 rfl rfl ?_
  obtain ⟨v7, ev7, h⟩ := bs h
  refine r_getIN C (c := 6) (r := (RX8, TX8, 2)) rfl 1 (by decide) rfl ev7 (lw_n q309 rfl) dX1_rest_18 ?_
  refine r_aload_n C 2 dX1_rest_21 rfl rfl ?_
  obtain ⟨v8, ev8, h⟩ := bs h
  refine r_getIN C (c := 6) (r := (RX8, TX8, 2)) rfl 1 (by decide) rfl ev8 (lw_n q309 rfl) dX1_rest_22 ?_
  refine r_icmp_lt C dX1_rest_25 (tgt := 144) (by decide) (fun c9 => ?_) (fun c9 => ?_)
  · have h := it_ h c9
    obtain ⟨z, hz, ez⟩ := ms_ h; clear h; subst ez; have h := hz; clear hz
    refine r_sub [1] rfl ?_
    exact w_X1_rest_b144 (fin := fin) C h hK
  · have h := ie_ h c9
    refine r_aload_n C 1 dX1_rest_28 rfl rfl ?_
    obtain ⟨u14, eu14, h⟩ := bs h
    obtain ⟨q13, eq13, h⟩ := bs h
    refine r_callV C (As := []) (b := a1) (rest := []) (st1 := [vI q13.1]) (v := some (vI q13.1)) (r := (RX8, TX8, 2)) (ci := 6) rfl eu14 (m_X8_isNought C.tr eq13) (lw_V q544 q545 q546 q130 q547) rfl hdX8_isNought rfl rfl (Nat.le_of_ble_eq_true rfl) ⟨by decide, by decide⟩ dX1_rest_29 rfl ?_
    refine r_if_ne C dX1_rest_32 (tgt := 144) (by decide) (fun c15 => ?_) (fun c15 => ?_)
    · have h := ie_ h c15
      obtain ⟨z, hz, ez⟩ := ms_ h; clear h; subst ez; have h := hz; clear hz
      refine r_sub [1] rfl ?_
      exact w_X1_rest_b144 (fin := fin) C h hK
    · have h := it_ h c15
      refine r_aload_n C 0 dX1_rest_35 rfl rfl ?_
      obtain ⟨v16, ev16, h⟩ := bs h
      refine r_getR C (c := 0) (r := (RX1, TX1, 19)) rfl 1 (by decide) rfl ev16 q422 dX1_rest_36 ?_
      obtain ⟨v17, ev17, h⟩ := bs h
      refine r_getRN C (c := 4) (r := (RX6, TX6, 6)) rfl 0 (by decide) rfl ev17 (lw_n q320 rfl) dX1_rest_39 ?_
      refine r_aload_n C 1 dX1_rest_42 rfl rfl ?_
      obtain ⟨v18, ev18, h⟩ := bs h
      refine r_getRN C (c := 6) (r := (RX8, TX8, 2)) rfl 0 (by decide) rfl ev18 (lw_n q304 rfl) dX1_rest_43 ?_
      refine r_iconst C dX1_rest_46 ?_
      obtain ⟨v19, ev19, h⟩ := bs h
      refine r_iald C ev19 dX1_rest_47 ?_
      refine r_i2l C dX1_rest_48 ?_
      refine r_iload_n C 3 dX1_rest_49 rfl rfl ?_
      refine r_i2l C dX1_rest_50 ?_
      refine r_lmul C dX1_rest_51 ?_
      obtain ⟨u21, eu21, h⟩ := bs h
      obtain ⟨q20, eq20, h⟩ := bs h
      refine r_callV C (As := [vJ ((w32 v19) * (w32 x3))]) (b := v17) (rest := []) (st1 := [vI q20.1]) (v := some (vI q20.1)) (r := (RX7, TX7, 1)) (ci := 5) rfl eu21 (m_X7_of C.tr eq20) (lw_V q631 q632 q633 q129 q634) rfl hdX7_of rfl rfl (Nat.le_of_ble_eq_true rfl) ⟨by decide, by decide⟩ dX1_rest_52 rfl ?_
      refine r_istore C [(4, vI q20.1), (0, vO a0), (1, vO a1), (2, vO a2), (3, vI x3)] dX1_rest_55 (by decide) rfl ?_
      refine r_iconst C dX1_rest_57 ?_
      refine r_istore C [(5, vI 0), (4, vI q20.1), (0, vO a0), (1, vO a1), (2, vO a2), (3, vI x3)] dX1_rest_58 (by decide) rfl ?_
      refine r_sub [2, 3, 4, 5, 1, 0] rfl ?_
      exact w_X1_rest_l60 (fin := fin) C h hK
noncomputable def s_X1_rest_l17 (a0 : Nat) (a1 : Nat) (a2 : Nat) (x3 : Int) (μ : Me) : Option (Int × Me) :=
  whileO (fun s : Me => s_X1_rest_l17_st a0 a1 a2 x3 s) μ
theorem e_X1_rest_l17 (a0 : Nat) (a1 : Nat) (a2 : Nat) (x3 : Int) (μ : Me) : s_X1_rest_l17 a0 a1 a2 x3 μ = (s_X1_rest_l17_st a0 a1 a2 x3 μ).bind fun x => x.elim (fun s : Me => s_X1_rest_l17 a0 a1 a2 x3 s) some := whileO_eq _ _
theorem w_X1_rest_l17 {Z : Zt} {fin : Int × Me} {w : (Int × Me)} (C : CX Z yX1_rest cX1_rest (some .boolean) 4 6) {a0 : Nat} {a1 : Nat} {a2 : Nat} {x3 : Int} {μ : Me} (h : s_X1_rest_l17 a0 a1 a2 x3 μ = some w) (hK : (fun r : Int × Me => r = fin) w) : WL Z (QN Z (some (vI fin.1)) fin.2) μ 17 [(0, vO a0), (1, vO a1), (2, vO a2), (3, vI x3)] [] := by
  refine whileO_walk (w := w) (fun s : Me => WL Z (QN Z (some (vI fin.1)) fin.2) s 17 [(0, vO a0), (1, vO a1), (2, vO a2), (3, vI x3)] []) (fun s v h2 hi hr => ?_) μ h
  refine w_X1_rest_l17_st (fin := fin) C h2 ?_
  cases v with
  | inl s2 => exact hi s2 rfl
  | inr r => have e := hr r rfl; subst e; exact hK
noncomputable def s_X1_rest (a0 : Nat) (a1 : Nat) (a2 : Nat) (μ : Me) : Option (Int × Me) :=
  (gR μ 0 a0 1).bind fun v1 =>
  (gR μ 4 v1 0).bind fun v2 =>
  (gR μ 6 a2 0).bind fun v3 =>
  (aI μ 101 v3 0).bind fun v4 =>
  (ck μ 5 v2).bind fun _ =>
  (s_X7_inverse v2 v4 μ).bind fun q5 =>
  s_X1_rest_l17 a0 a1 a2 q5.1 q5.2
theorem w_X1_rest {Z : Zt} {fin : Int × Me} {w : Int × Me} (C : CX Z yX1_rest cX1_rest (some .boolean) 4 6) {a0 : Nat} {a1 : Nat} {a2 : Nat} {μ : Me} (h : s_X1_rest a0 a1 a2 μ = some w) (hK : w = fin) : WL Z (QN Z (some (vI fin.1)) fin.2) μ 0 [(0, vO a0), (1, vO a1), (2, vO a2)] [] := by
  unfold s_X1_rest at h
  refine r_aload_n C 0 dX1_rest_0 rfl rfl ?_
  obtain ⟨v1, ev1, h⟩ := bs h
  refine r_getR C (c := 0) (r := (RX1, TX1, 19)) rfl 1 (by decide) rfl ev1 q422 dX1_rest_1 ?_
  obtain ⟨v2, ev2, h⟩ := bs h
  refine r_getRN C (c := 4) (r := (RX6, TX6, 6)) rfl 0 (by decide) rfl ev2 (lw_n q320 rfl) dX1_rest_4 ?_
  refine r_aload_n C 2 dX1_rest_7 rfl rfl ?_
  obtain ⟨v3, ev3, h⟩ := bs h
  refine r_getRN C (c := 6) (r := (RX8, TX8, 2)) rfl 0 (by decide) rfl ev3 (lw_n q304 rfl) dX1_rest_8 ?_
  refine r_iconst C dX1_rest_11 ?_
  obtain ⟨v4, ev4, h⟩ := bs h
  refine r_iald C ev4 dX1_rest_12 ?_
  obtain ⟨u6, eu6, h⟩ := bs h
  obtain ⟨q5, eq5, h⟩ := bs h
  refine r_callV C (As := [vI v4]) (b := v2) (rest := []) (st1 := [vI q5.1]) (v := some (vI q5.1)) (r := (RX7, TX7, 1)) (ci := 5) rfl eu6 (m_X7_inverse C.tr eq5) (lw_V q1039 q1040 q1041 q129 q1042) rfl hdX7_inverse rfl rfl (Nat.le_of_ble_eq_true rfl) ⟨by decide, by decide⟩ dX1_rest_13 rfl ?_
  refine r_istore_n C [(3, vI q5.1), (0, vO a0), (1, vO a1), (2, vO a2)] dX1_rest_16 rfl (by decide) rfl ?_
  refine r_sub [1, 2, 3, 0] rfl ?_
  exact w_X1_rest_l17 (fin := fin) C h hK
theorem hdX1_rest : zhd yX1_rest 2 := by decide +kernel
theorem m_X1_rest {l : Launch} {D : va_G} {b0 : Nat} (hl : l.stackTraces = false) {a0 : Nat} {a1 : Nat} {a2 : Nat} {μ : Me} {w : Int × Me} (h : s_X1_rest a0 a1 a2 μ = some w) : MN l D b0 yX1_rest (ws_ yX1_rest cX1_rest 6 (some .boolean)) 4 [vO a0, vO a1, vO a2] μ (some (vI w.1)) w.2 :=
  MN.of hl (by decide +kernel) (Nat.le_of_ble_eq_true rfl) (fun Z C _ _ => w_X1_rest C h rfl)
noncomputable def s_X1_commons_l102_st (a0 : Nat) (x3 : Int) (a5 : Nat) (x6 : Int) (a7 : Nat) (x8 : Int) (μ : Me) : Option ((Int × Me) ⊕ (Nat × Me)) :=
  (gI μ 6 a5 1).bind fun v24 =>
  (if w32 v24 < w32 x8 then
  some (.inr (a7, μ))
  else
  (gR μ 6 a7 0).bind fun v26 =>
  (gR μ 0 a0 1).bind fun v27 =>
  (gR μ 4 v27 0).bind fun v28 =>
  (gR μ 6 a5 0).bind fun v29 =>
  (aI μ 101 v29 x8).bind fun v30 =>
  (ck μ 5 v28).bind fun _ =>
  (s_X7_of v28 ((w32 v30) * (w32 x6)) μ).bind fun q31 =>
  (uI q31.2 v26 (x3 + x8) q31.1).bind fun m33 =>
  some (.inl ((x8 + 1), m33)))
theorem w_X1_commons_l102_st {Z : Zt} {fin : Nat × Me} {w : ((Int × Me) ⊕ (Nat × Me))} (C : CX Z yX1_commons cX1_commons (some (.object "LetterForms$Form")) 5 9) {a0 : Nat} {x3 : Int} {a5 : Nat} {x6 : Int} {a7 : Nat} {x8 : Int} {μ : Me} (h : s_X1_commons_l102_st a0 x3 a5 x6 a7 x8 μ = some w) (hK : (Sum.elim (fun s : Int × Me => WL Z (QN Z (some (vO fin.1)) fin.2) s.2 102 [(0, vO a0), (3, vI x3), (5, vO a5), (6, vI x6), (7, vO a7), (8, vI s.1)] []) (fun r : Nat × Me => r = fin)) w) : WL Z (QN Z (some (vO fin.1)) fin.2) μ 102 [(0, vO a0), (3, vI x3), (5, vO a5), (6, vI x6), (7, vO a7), (8, vI x8)] [] := by
  unfold s_X1_commons_l102_st at h
  refine r_iload C 5 dX1_commons_102 rfl ?_
  refine r_aload C 2 dX1_commons_104 rfl ?_
  obtain ⟨v24, ev24, h⟩ := bs h
  refine r_getIN C (c := 6) (r := (RX8, TX8, 2)) rfl 1 (by decide) rfl ev24 (lw_n q309 rfl) dX1_commons_106 ?_
  refine r_icmp_gt C dX1_commons_109 (tgt := 151) (by decide) (fun c25 => ?_) (fun c25 => ?_)
  · have h := it_ h c25
    refine r_aload C 4 dX1_commons_151 rfl ?_
    cases h
    exact r_aret C (Or.inl ⟨_, rfl⟩) hK dX1_commons_153
  · have h := ie_ h c25
    refine r_aload C 4 dX1_commons_112 rfl ?_
    obtain ⟨v26, ev26, h⟩ := bs h
    refine r_getRN C (c := 6) (r := (RX8, TX8, 2)) rfl 0 (by decide) rfl ev26 (lw_n q304 rfl) dX1_commons_114 ?_
    refine r_iload_n C 1 dX1_commons_117 rfl rfl ?_
    refine r_iload C 5 dX1_commons_118 rfl ?_
    refine r_iadd C dX1_commons_120 ?_
    refine r_aload_n C 0 dX1_commons_121 rfl rfl ?_
    obtain ⟨v27, ev27, h⟩ := bs h
    refine r_getR C (c := 0) (r := (RX1, TX1, 19)) rfl 1 (by decide) rfl ev27 q422 dX1_commons_122 ?_
    obtain ⟨v28, ev28, h⟩ := bs h
    refine r_getRN C (c := 4) (r := (RX6, TX6, 6)) rfl 0 (by decide) rfl ev28 (lw_n q320 rfl) dX1_commons_125 ?_
    refine r_aload C 2 dX1_commons_128 rfl ?_
    obtain ⟨v29, ev29, h⟩ := bs h
    refine r_getRN C (c := 6) (r := (RX8, TX8, 2)) rfl 0 (by decide) rfl ev29 (lw_n q304 rfl) dX1_commons_130 ?_
    refine r_iload C 5 dX1_commons_133 rfl ?_
    obtain ⟨v30, ev30, h⟩ := bs h
    refine r_iald C ev30 dX1_commons_135 ?_
    refine r_i2l C dX1_commons_136 ?_
    refine r_iload C 3 dX1_commons_137 rfl ?_
    refine r_i2l C dX1_commons_139 ?_
    refine r_lmul C dX1_commons_140 ?_
    obtain ⟨u32, eu32, h⟩ := bs h
    obtain ⟨q31, eq31, h⟩ := bs h
    refine r_callV C (As := [vJ ((w32 v30) * (w32 x6))]) (b := v28) (rest := [vI (x3 + x8), vO v26]) (st1 := [vI q31.1, vI (x3 + x8), vO v26]) (v := some (vI q31.1)) (r := (RX7, TX7, 1)) (ci := 5) rfl eu32 (m_X7_of C.tr eq31) (lw_V q631 q632 q633 q129 q634) rfl hdX7_of rfl rfl (Nat.le_of_ble_eq_true rfl) ⟨by decide, by decide⟩ dX1_commons_141 rfl ?_
    obtain ⟨m33, em33, h⟩ := bs h
    refine r_iast C em33 dX1_commons_144 ?_
    refine r_iinc C 5 [(8, vI (x8 + 1)), (0, vO a0), (3, vI x3), (5, vO a5), (6, vI x6), (7, vO a7)] dX1_commons_145 rfl (by decide) rfl ?_
    refine r_goto C dX1_commons_148 (tgt := 102) (by decide) ?_
    cases h
    refine r_sub [1, 2, 3, 4, 5, 0] rfl ?_
    exact hK
noncomputable def s_X1_commons_l102 (a0 : Nat) (x3 : Int) (a5 : Nat) (x6 : Int) (a7 : Nat) (x8 : Int) (μ : Me) : Option (Nat × Me) :=
  whileO (fun s : Int × Me => s_X1_commons_l102_st a0 x3 a5 x6 a7 s.1 s.2) (x8, μ)
theorem e_X1_commons_l102 (a0 : Nat) (x3 : Int) (a5 : Nat) (x6 : Int) (a7 : Nat) (x8 : Int) (μ : Me) : s_X1_commons_l102 a0 x3 a5 x6 a7 x8 μ = (s_X1_commons_l102_st a0 x3 a5 x6 a7 x8 μ).bind fun x => x.elim (fun s : Int × Me => s_X1_commons_l102 a0 x3 a5 x6 a7 s.1 s.2) some := whileO_eq _ _
theorem w_X1_commons_l102 {Z : Zt} {fin : Nat × Me} {w : (Nat × Me)} (C : CX Z yX1_commons cX1_commons (some (.object "LetterForms$Form")) 5 9) {a0 : Nat} {x3 : Int} {a5 : Nat} {x6 : Int} {a7 : Nat} {x8 : Int} {μ : Me} (h : s_X1_commons_l102 a0 x3 a5 x6 a7 x8 μ = some w) (hK : (fun r : Nat × Me => r = fin) w) : WL Z (QN Z (some (vO fin.1)) fin.2) μ 102 [(0, vO a0), (3, vI x3), (5, vO a5), (6, vI x6), (7, vO a7), (8, vI x8)] [] := by
  refine whileO_walk (w := w) (fun s : Int × Me => WL Z (QN Z (some (vO fin.1)) fin.2) s.2 102 [(0, vO a0), (3, vI x3), (5, vO a5), (6, vI x6), (7, vO a7), (8, vI s.1)] []) (fun s v h2 hi hr => ?_) (x8, μ) h
  refine w_X1_commons_l102_st (fin := fin) C h2 ?_
  cases v with
  | inl s2 => exact hi s2 rfl
  | inr r => have e := hr r rfl; subst e; exact hK
noncomputable def s_X1_commons_b60 (a0 : Nat) (x3 : Int) (a5 : Nat)  (μ : Me) : Option (Nat × Me) :=
  (gR μ 0 a0 1).bind fun v13 =>
  (gR μ 4 v13 0).bind fun v14 =>
  (gR μ 6 a5 0).bind fun v15 =>
  (aI μ 101 v15 0).bind fun v16 =>
  (ck μ 5 v14).bind fun _ =>
  (s_X7_inverse v14 v16 μ).bind fun q17 =>
  (gR q17.2 0 a0 4).bind fun v19 =>
  (aR q17.2 104 v19 0).bind fun v20 =>
  (gI q17.2 6 a5 1).bind fun v21 =>
  (ck q17.2 6 v20).bind fun _ =>
  (s_X8_nought v20 (v21 + x3) q17.2).bind fun q22 =>
  s_X1_commons_l102 a0 x3 a5 q17.1 v20 0 q22
theorem w_X1_commons_b60 {Z : Zt} {fin : Nat × Me} {w : (Nat × Me)} (C : CX Z yX1_commons cX1_commons (some (.object "LetterForms$Form")) 5 9) {a0 : Nat} {x3 : Int} {a5 : Nat}  {μ : Me} (h : s_X1_commons_b60 a0 x3 a5 μ = some w) (hK : (fun r : Nat × Me => r = fin) w) : WL Z (QN Z (some (vO fin.1)) fin.2) μ 60 [(0, vO a0), (3, vI x3), (5, vO a5)] [] := by
  unfold s_X1_commons_b60 at h
  refine r_aload_n C 0 dX1_commons_60 rfl rfl ?_
  obtain ⟨v13, ev13, h⟩ := bs h
  refine r_getR C (c := 0) (r := (RX1, TX1, 19)) rfl 1 (by decide) rfl ev13 q422 dX1_commons_61 ?_
  obtain ⟨v14, ev14, h⟩ := bs h
  refine r_getRN C (c := 4) (r := (RX6, TX6, 6)) rfl 0 (by decide) rfl ev14 (lw_n q320 rfl) dX1_commons_64 ?_
  refine r_aload C 2 dX1_commons_67 rfl ?_
  obtain ⟨v15, ev15, h⟩ := bs h
  refine r_getRN C (c := 6) (r := (RX8, TX8, 2)) rfl 0 (by decide) rfl ev15 (lw_n q304 rfl) dX1_commons_69 ?_
  refine r_iconst C dX1_commons_72 ?_
  obtain ⟨v16, ev16, h⟩ := bs h
  refine r_iald C ev16 dX1_commons_73 ?_
  obtain ⟨u18, eu18, h⟩ := bs h
  obtain ⟨q17, eq17, h⟩ := bs h
  refine r_callV C (As := [vI v16]) (b := v14) (rest := []) (st1 := [vI q17.1]) (v := some (vI q17.1)) (r := (RX7, TX7, 1)) (ci := 5) rfl eu18 (m_X7_inverse C.tr eq17) (lw_V q1039 q1040 q1041 q129 q1042) rfl hdX7_inverse rfl rfl (Nat.le_of_ble_eq_true rfl) ⟨by decide, by decide⟩ dX1_commons_74 rfl ?_
  refine r_istore C [(6, vI q17.1), (0, vO a0), (3, vI x3), (5, vO a5)] dX1_commons_77 (by decide) rfl ?_
  refine r_aload_n C 1 dX1_commons_79 rfl rfl ?_
  obtain ⟨v19, ev19, h⟩ := bs h
  refine r_getR C (c := 0) (r := (RX1, TX1, 19)) rfl 4 (by decide) rfl ev19 q428 dX1_commons_80 ?_
  refine r_iconst C dX1_commons_83 ?_
  obtain ⟨v20, ev20, h⟩ := bs h
  refine r_aald C (kt := 3) ev20 rfl rfl ⟨by decide, by decide⟩ dX1_commons_84 ?_
  refine r_astore C [(7, vO v20), (6, vI q17.1), (0, vO a0), (3, vI x3), (5, vO a5)] dX1_commons_85 (by decide) rfl ?_
  refine r_aload C 0 dX1_commons_87 rfl ?_
  refine r_aload C 4 dX1_commons_89 rfl ?_
  obtain ⟨v21, ev21, h⟩ := bs h
  refine r_getIN C (c := 6) (r := (RX8, TX8, 2)) rfl 1 (by decide) rfl ev21 (lw_n q309 rfl) dX1_commons_91 ?_
  refine r_iload_n C 3 dX1_commons_94 rfl rfl ?_
  refine r_iadd C dX1_commons_95 ?_
  obtain ⟨u23, eu23, h⟩ := bs h
  obtain ⟨q22, eq22, h⟩ := bs h
  refine r_callV C (As := [vI (v21 + x3)]) (b := v20) (rest := []) (st1 := []) (v := none) (r := (RX8, TX8, 2)) (ci := 6) rfl eu23 (m_X8_nought C.tr eq22) (lw_V q627 q628 q629 q130 q630) rfl hdX8_nought rfl rfl (Nat.le_of_ble_eq_true rfl) ⟨by decide, by decide⟩ dX1_commons_96 rfl ?_
  refine r_iconst C dX1_commons_99 ?_
  refine r_istore C [(8, vI 0), (7, vO v20), (6, vI q17.1), (0, vO a0), (3, vI x3), (5, vO a5)] dX1_commons_100 (by decide) rfl ?_
  refine r_sub [3, 4, 5, 2, 1, 0] rfl ?_
  exact w_X1_commons_l102 (fin := fin) C h hK
noncomputable def s_X1_commons_l34_st (a0 : Nat) (x3 : Int) (a4 : Nat) (a5 : Nat) (μ : Me) : Option ((Nat × Nat × Me) ⊕ (Nat × Me)) :=
  (ck μ 0 a0).bind fun _ =>
  (s_X1_rest a0 a4 a5 μ).bind fun q10 =>
  (if w32 q10.1 = 0 then
  (s_X1_commons_b60 a0 x3 a5 q10.2).map Sum.inr
  else
  some (.inl (a5, a4, q10.2)))
theorem w_X1_commons_l34_st {Z : Zt} {fin : Nat × Me} {w : ((Nat × Nat × Me) ⊕ (Nat × Me))} (C : CX Z yX1_commons cX1_commons (some (.object "LetterForms$Form")) 5 9) {a0 : Nat} {x3 : Int} {a4 : Nat} {a5 : Nat} {μ : Me} (h : s_X1_commons_l34_st a0 x3 a4 a5 μ = some w) (hK : (Sum.elim (fun s : Nat × Nat × Me => WL Z (QN Z (some (vO fin.1)) fin.2) s.2.2 34 [(0, vO a0), (3, vI x3), (4, vO s.1), (5, vO s.2.1)] []) (fun r : Nat × Me => r = fin)) w) : WL Z (QN Z (some (vO fin.1)) fin.2) μ 34 [(0, vO a0), (3, vI x3), (4, vO a4), (5, vO a5)] [] := by
  unfold s_X1_commons_l34_st at h
  refine r_aload_n C 0 dX1_commons_34 rfl rfl ?_
  refine r_aload C 2 dX1_commons_35 rfl ?_
  refine r_aload C 3 dX1_commons_37 rfl ?_
  obtain ⟨u11, eu11, h⟩ := bs h
  obtain ⟨q10, eq10, h⟩ := bs h
  refine r_callV C (As := [vO a4, vO a5]) (b := a0) (rest := []) (st1 := [vI q10.1]) (v := some (vI q10.1)) (r := (RX1, TX1, 19)) (ci := 0) rfl eu11 (m_X1_rest C.tr eq10) (lw_V q1123 q1125 qs29 q120 q1126) rfl hdX1_rest rfl rfl (Nat.le_of_ble_eq_true rfl) ⟨by decide, by decide⟩ dX1_commons_39 rfl ?_
  refine r_if_eq C dX1_commons_42 (tgt := 60) (by decide) (fun c12 => ?_) (fun c12 => ?_)
  · have h := it_ h c12
    obtain ⟨z, hz, ez⟩ := ms_ h; clear h; subst ez; have h := hz; clear hz
    refine r_sub [0, 1, 3] rfl ?_
    exact w_X1_commons_b60 (fin := fin) C h hK
  · have h := ie_ h c12
    refine r_aload C 2 dX1_commons_45 rfl ?_
    refine r_astore C [(6, vO a4), (0, vO a0), (3, vI x3), (4, vO a4), (5, vO a5)] dX1_commons_47 (by decide) rfl ?_
    refine r_aload C 4 dX1_commons_49 rfl ?_
    refine r_astore C [(4, vO a5), (6, vO a4), (0, vO a0), (3, vI x3), (5, vO a5)] dX1_commons_51 (by decide) rfl ?_
    refine r_aload C 1 dX1_commons_53 rfl ?_
    refine r_astore C [(5, vO a4), (4, vO a5), (6, vO a4), (0, vO a0), (3, vI x3)] dX1_commons_55 (by decide) rfl ?_
    refine r_goto C dX1_commons_57 (tgt := 34) (by decide) ?_
    cases h
    refine r_sub [3, 4, 1, 0] rfl ?_
    exact hK
noncomputable def s_X1_commons_l34 (a0 : Nat) (x3 : Int) (a4 : Nat) (a5 : Nat) (μ : Me) : Option (Nat × Me) :=
  whileO (fun s : Nat × Nat × Me => s_X1_commons_l34_st a0 x3 s.1 s.2.1 s.2.2) (a4, a5, μ)
theorem e_X1_commons_l34 (a0 : Nat) (x3 : Int) (a4 : Nat) (a5 : Nat) (μ : Me) : s_X1_commons_l34 a0 x3 a4 a5 μ = (s_X1_commons_l34_st a0 x3 a4 a5 μ).bind fun x => x.elim (fun s : Nat × Nat × Me => s_X1_commons_l34 a0 x3 s.1 s.2.1 s.2.2) some := whileO_eq _ _
theorem w_X1_commons_l34 {Z : Zt} {fin : Nat × Me} {w : (Nat × Me)} (C : CX Z yX1_commons cX1_commons (some (.object "LetterForms$Form")) 5 9) {a0 : Nat} {x3 : Int} {a4 : Nat} {a5 : Nat} {μ : Me} (h : s_X1_commons_l34 a0 x3 a4 a5 μ = some w) (hK : (fun r : Nat × Me => r = fin) w) : WL Z (QN Z (some (vO fin.1)) fin.2) μ 34 [(0, vO a0), (3, vI x3), (4, vO a4), (5, vO a5)] [] := by
  refine whileO_walk (w := w) (fun s : Nat × Nat × Me => WL Z (QN Z (some (vO fin.1)) fin.2) s.2.2 34 [(0, vO a0), (3, vI x3), (4, vO s.1), (5, vO s.2.1)] []) (fun s v h2 hi hr => ?_) (a4, a5, μ) h
  refine w_X1_commons_l34_st (fin := fin) C h2 ?_
  cases v with
  | inl s2 => exact hi s2 rfl
  | inr r => have e := hr r rfl; subst e; exact hK
noncomputable def s_X1_commons (a0 : Nat) (a1 : Nat) (a2 : Nat) (μ : Me) : Option (Nat × Me) :=
  (gR μ 0 a0 5).bind fun v1 =>
  (ck μ 0 a0).bind fun _ =>
  (s_X1_bares a0 a1 v1 μ).bind fun q2 =>
  (gR q2.2 0 a0 8).bind fun v4 =>
  (ck q2.2 0 a0).bind fun _ =>
  (s_X1_bares a0 a2 v4 q2.2).bind fun q5 =>
  (s_J6_min q2.1 q5.1 q5.2).bind fun q7 =>
  (gR q7.2 0 a0 5).bind fun v8 =>
  (gR q7.2 0 a0 8).bind fun v9 =>
  s_X1_commons_l34 a0 q7.1 v8 v9 q7.2
theorem w_X1_commons {Z : Zt} {fin : Nat × Me} {w : Nat × Me} (C : CX Z yX1_commons cX1_commons (some (.object "LetterForms$Form")) 5 9) {a0 : Nat} {a1 : Nat} {a2 : Nat} {μ : Me} (h : s_X1_commons a0 a1 a2 μ = some w) (hK : w = fin) : WL Z (QN Z (some (vO fin.1)) fin.2) μ 0 [(0, vO a0), (1, vO a1), (2, vO a2)] [] := by
  unfold s_X1_commons at h
  refine r_aload_n C 0 dX1_commons_0 rfl rfl ?_
  refine r_aload_n C 1 dX1_commons_1 rfl rfl ?_
  refine r_aload_n C 0 dX1_commons_2 rfl rfl ?_
  obtain ⟨v1, ev1, h⟩ := bs h
  refine r_getR C (c := 0) (r := (RX1, TX1, 19)) rfl 5 (by decide) rfl ev1 q433 dX1_commons_3 ?_
  obtain ⟨u3, eu3, h⟩ := bs h
  obtain ⟨q2, eq2, h⟩ := bs h
  refine r_callV C (As := [vO a1, vO v1]) (b := a0) (rest := []) (st1 := [vI q2.1]) (v := some (vI q2.1)) (r := (RX1, TX1, 19)) (ci := 0) rfl eu3 (m_X1_bares C.tr eq2) (lw_V q1106 q1108 qs27 q120 q1109) rfl hdX1_bares rfl rfl (Nat.le_of_ble_eq_true rfl) ⟨by decide, by decide⟩ dX1_commons_6 rfl ?_
  refine r_aload_n C 0 dX1_commons_9 rfl rfl ?_
  refine r_aload_n C 2 dX1_commons_10 rfl rfl ?_
  refine r_aload_n C 0 dX1_commons_11 rfl rfl ?_
  obtain ⟨v4, ev4, h⟩ := bs h
  refine r_getR C (c := 0) (r := (RX1, TX1, 19)) rfl 8 (by decide) rfl ev4 q436 dX1_commons_12 ?_
  obtain ⟨u6, eu6, h⟩ := bs h
  obtain ⟨q5, eq5, h⟩ := bs h
  refine r_callV C (As := [vO a2, vO v4]) (b := a0) (rest := [vI q2.1]) (st1 := [vI q5.1, vI q2.1]) (v := some (vI q5.1)) (r := (RX1, TX1, 19)) (ci := 0) rfl eu6 (m_X1_bares C.tr eq5) (lw_V q1106 q1108 qs27 q120 q1109) rfl hdX1_bares rfl rfl (Nat.le_of_ble_eq_true rfl) ⟨by decide, by decide⟩ dX1_commons_15 rfl ?_
  obtain ⟨q7, eq7, h⟩ := bs h
  refine r_callS C (As := [vI q2.1, vI q5.1]) (rest := []) (st1 := [vI q7.1]) (v := some (vI q7.1)) (m_J6_min C.tr eq7) (lw_S q1122 q927 q137 q928) hdJ6_min rfl rfl (Nat.le_of_ble_eq_true rfl) ⟨by decide, by decide⟩ dX1_commons_18 rfl ?_
  refine r_istore_n C [(3, vI q7.1), (0, vO a0), (1, vO a1), (2, vO a2)] dX1_commons_21 rfl (by decide) rfl ?_
  refine r_aload_n C 1 dX1_commons_22 rfl rfl ?_
  obtain ⟨v8, ev8, h⟩ := bs h
  refine r_getR C (c := 0) (r := (RX1, TX1, 19)) rfl 5 (by decide) rfl ev8 q433 dX1_commons_23 ?_
  refine r_astore C [(4, vO v8), (3, vI q7.1), (0, vO a0), (1, vO a1), (2, vO a2)] dX1_commons_26 (by decide) rfl ?_
  refine r_aload_n C 2 dX1_commons_28 rfl rfl ?_
  obtain ⟨v9, ev9, h⟩ := bs h
  refine r_getR C (c := 0) (r := (RX1, TX1, 19)) rfl 8 (by decide) rfl ev9 q436 dX1_commons_29 ?_
  refine r_astore C [(5, vO v9), (4, vO v8), (3, vI q7.1), (0, vO a0), (1, vO a1), (2, vO a2)] dX1_commons_32 (by decide) rfl ?_
  refine r_sub [3, 2, 1, 0] rfl ?_
  exact w_X1_commons_l34 (fin := fin) C h hK
theorem hdX1_commons : zhd yX1_commons 2 := by decide +kernel
theorem m_X1_commons {l : Launch} {D : va_G} {b0 : Nat} (hl : l.stackTraces = false) {a0 : Nat} {a1 : Nat} {a2 : Nat} {μ : Me} {w : Nat × Me} (h : s_X1_commons a0 a1 a2 μ = some w) : MN l D b0 yX1_commons (ws_ yX1_commons cX1_commons 9 (some (.object "LetterForms$Form"))) 5 [vO a0, vO a1, vO a2] μ (some (vO w.1)) w.2 :=
  MN.of hl (by decide +kernel) (Nat.le_of_ble_eq_true rfl) (fun Z C _ _ => w_X1_commons C h rfl)
noncomputable def s_X1_plain (a0 : Nat) (x1 : Int) (μ : Me) : Option (Ex ⊕ (Int × Me)) :=
  (ck μ 0 a0).bind fun _ =>
  xb (s_X1_formAt a0 x1 μ) (fun e2 => some (.inl e2)) fun q1 =>
  (gI q1.2 6 q1.1 1).bind fun v4 =>
  (if w32 v4 < w32 2 then
  some (.inr (0, q1.2))
  else
  (ck q1.2 6 q1.1).bind fun _ =>
  (s_X8_isNought q1.1 q1.2).bind fun q6 =>
  (if w32 q6.1 = 0 then
  (gR q6.2 0 a0 4).bind fun v9 =>
  (aR q6.2 104 v9 1).bind fun v10 =>
  (gR q6.2 0 a0 4).bind fun v11 =>
  (aR q6.2 104 v11 2).bind fun v12 =>
  (gR q6.2 0 a0 1).bind fun v13 =>
  (ck q6.2 4 v13).bind fun _ =>
  (s_X6_differs v13 q1.1 1 0 v10 q6.2).bind fun q14 =>
  (gR q14 0 a0 1).bind fun v16 =>
  (ck q14 4 v16).bind fun _ =>
  (s_X6_differs v16 q1.1 0 1 v12 q14).bind fun q17 =>
  (ck q17 6 v10).bind fun _ =>
  (s_X8_isNought v10 q17).bind fun q19 =>
  (if w32 q19.1 = 0 then
  (ck q19.2 6 v12).bind fun _ =>
  (s_X8_isNought v12 q19.2).bind fun q22 =>
  (if w32 q22.1 = 0 then
  (ck q22.2 0 a0).bind fun _ =>
  (s_X1_commons a0 v10 v12 q22.2).bind fun q25 =>
  (gI q25.2 6 q25.1 1).bind fun v27 =>
  (if w32 v27 = 0 then
  some (.inr (1, q25.2))
  else
  some (.inr (0, q25.2)))
  else
  some (.inr (0, q22.2)))
  else
  some (.inr (0, q19.2)))
  else
  some (.inr (0, q6.2))))
theorem w_X1_plain {Z : Zt} {fin : Ex ⊕ (Int × Me)} {w : Ex ⊕ (Int × Me)} (C : CX Z yX1_plain cX1_plain (some .boolean) 8 5) (X : XE Z) {a0 : Nat} {x1 : Int} {μ : Me} (h : s_X1_plain a0 x1 μ = some w) (hK : w = fin) : WL Z (XQ Z (zoI fin) (zmI fin)) μ 0 [(0, vO a0), (1, vI x1)] [] := by
  unfold s_X1_plain at h
  refine r_aload_n C 0 dX1_plain_0 rfl rfl ?_
  refine r_iload_n C 1 dX1_plain_1 rfl rfl ?_
  obtain ⟨u3, eu3, h⟩ := bs h
  rcases xbs h with ⟨e2, eq1, h⟩ | ⟨q1, eq1, h⟩
  · refine r_xVx C (As := [vI x1]) (b := a0) (rest := []) (μ1 := e2.2.2) (r := (RX1, TX1, 19)) (ci := 0) rfl eu3 (m_X1_formAt C.tr eq1) (lw_V q799 q801 qs15 q120 q802) rfl hdX1_formAt rfl rfl (Nat.le_of_ble_eq_true rfl) ⟨by decide, by decide⟩ dX1_plain_2 ?_
    cases h
    exact r_xoutI C X hK
  · refine r_xV C (As := [vI x1]) (b := a0) (rest := []) (st1 := [vO q1.1]) (v := some (vO q1.1)) (μ1 := q1.2) (r := (RX1, TX1, 19)) (ci := 0) rfl eu3 (m_X1_formAt C.tr eq1) (lw_V q799 q801 qs15 q120 q802) rfl hdX1_formAt rfl rfl (Nat.le_of_ble_eq_true rfl) ⟨by decide, by decide⟩ dX1_plain_2 rfl ?_
    refine r_astore_n C [(2, vO q1.1), (0, vO a0), (1, vI x1)] dX1_plain_5 rfl (by decide) rfl ?_
    refine r_aload_n C 0 dX1_plain_6 rfl rfl ?_
    obtain ⟨v4, ev4, h⟩ := bs h
    refine r_getIN C (c := 6) (r := (RX8, TX8, 2)) rfl 1 (by decide) rfl ev4 (lw_n q309 rfl) dX1_plain_7 ?_
    refine r_iconst C dX1_plain_10 ?_
    refine r_icmp_lt C dX1_plain_11 (tgt := 21) (by decide) (fun c5 => ?_) (fun c5 => ?_)
    · have h := it_ h c5
      refine r_iconst C dX1_plain_21 ?_
      cases h
      exact r_xzret C (Or.inl rfl) hK dX1_plain_22
    · have h := ie_ h c5
      refine r_aload_n C 0 dX1_plain_14 rfl rfl ?_
      obtain ⟨u7, eu7, h⟩ := bs h
      obtain ⟨q6, eq6, h⟩ := bs h
      refine r_callV C (As := []) (b := q1.1) (rest := []) (st1 := [vI q6.1]) (v := some (vI q6.1)) (r := (RX8, TX8, 2)) (ci := 6) rfl eu7 (m_X8_isNought C.tr eq6) (lw_V q544 q545 q546 q130 q547) rfl hdX8_isNought rfl rfl (Nat.le_of_ble_eq_true rfl) ⟨by decide, by decide⟩ dX1_plain_15 rfl ?_
      refine r_if_eq C dX1_plain_18 (tgt := 23) (by decide) (fun c8 => ?_) (fun c8 => ?_)
      · have h := it_ h c8
        refine r_aload_n C 1 dX1_plain_23 rfl rfl ?_
        obtain ⟨v9, ev9, h⟩ := bs h
        refine r_getR C (c := 0) (r := (RX1, TX1, 19)) rfl 4 (by decide) rfl ev9 q428 dX1_plain_24 ?_
        refine r_iconst C dX1_plain_27 ?_
        obtain ⟨v10, ev10, h⟩ := bs h
        refine r_aald C (kt := 3) ev10 rfl rfl ⟨by decide, by decide⟩ dX1_plain_28 ?_
        refine r_astore_n C [(3, vO v10), (2, vO q1.1), (0, vO a0), (1, vI x1)] dX1_plain_29 rfl (by decide) rfl ?_
        refine r_aload_n C 2 dX1_plain_30 rfl rfl ?_
        obtain ⟨v11, ev11, h⟩ := bs h
        refine r_getR C (c := 0) (r := (RX1, TX1, 19)) rfl 4 (by decide) rfl ev11 q428 dX1_plain_31 ?_
        refine r_iconst C dX1_plain_34 ?_
        obtain ⟨v12, ev12, h⟩ := bs h
        refine r_aald C (kt := 3) ev12 rfl rfl ⟨by decide, by decide⟩ dX1_plain_35 ?_
        refine r_astore C [(4, vO v12), (3, vO v10), (2, vO q1.1), (0, vO a0), (1, vI x1)] dX1_plain_36 (by decide) rfl ?_
        refine r_aload_n C 3 dX1_plain_38 rfl rfl ?_
        obtain ⟨v13, ev13, h⟩ := bs h
        refine r_getR C (c := 0) (r := (RX1, TX1, 19)) rfl 1 (by decide) rfl ev13 q422 dX1_plain_39 ?_
        refine r_aload_n C 2 dX1_plain_42 rfl rfl ?_
        refine r_iconst C dX1_plain_43 ?_
        refine r_iconst C dX1_plain_44 ?_
        refine r_aload_n C 1 dX1_plain_45 rfl rfl ?_
        obtain ⟨u15, eu15, h⟩ := bs h
        obtain ⟨q14, eq14, h⟩ := bs h
        refine r_callVN C (As := [vO q1.1, vI 1, vI 0, vO v10]) (b := v13) (rest := []) (st1 := []) (v := none) (r := (RX6, TX6, 6)) (ci := 4) rfl eu15 (m_X6_differs C.tr eq14) (lw_n q1117 rfl) q936 q128 q935 qs20 hdX6_differs rfl rfl (Nat.le_of_ble_eq_true rfl) ⟨by decide, by decide⟩ dX1_plain_46 rfl ?_
        refine r_aload_n C 3 dX1_plain_49 rfl rfl ?_
        obtain ⟨v16, ev16, h⟩ := bs h
        refine r_getR C (c := 0) (r := (RX1, TX1, 19)) rfl 1 (by decide) rfl ev16 q422 dX1_plain_50 ?_
        refine r_aload_n C 2 dX1_plain_53 rfl rfl ?_
        refine r_iconst C dX1_plain_54 ?_
        refine r_iconst C dX1_plain_55 ?_
        refine r_aload C 0 dX1_plain_56 rfl ?_
        obtain ⟨u18, eu18, h⟩ := bs h
        obtain ⟨q17, eq17, h⟩ := bs h
        refine r_callVN C (As := [vO q1.1, vI 0, vI 1, vO v12]) (b := v16) (rest := []) (st1 := []) (v := none) (r := (RX6, TX6, 6)) (ci := 4) rfl eu18 (m_X6_differs C.tr eq17) (lw_n q1117 rfl) q936 q128 q935 qs20 hdX6_differs rfl rfl (Nat.le_of_ble_eq_true rfl) ⟨by decide, by decide⟩ dX1_plain_58 rfl ?_
        refine r_aload_n C 1 dX1_plain_61 rfl rfl ?_
        obtain ⟨u20, eu20, h⟩ := bs h
        obtain ⟨q19, eq19, h⟩ := bs h
        refine r_callV C (As := []) (b := v10) (rest := []) (st1 := [vI q19.1]) (v := some (vI q19.1)) (r := (RX8, TX8, 2)) (ci := 6) rfl eu20 (m_X8_isNought C.tr eq19) (lw_V q544 q545 q546 q130 q547) rfl hdX8_isNought rfl rfl (Nat.le_of_ble_eq_true rfl) ⟨by decide, by decide⟩ dX1_plain_62 rfl ?_
        refine r_if_ne C dX1_plain_65 (tgt := 76) (by decide) (fun c21 => ?_) (fun c21 => ?_)
        · have h := ie_ h c21
          refine r_iconst C dX1_plain_76 ?_
          cases h
          exact r_xzret C (Or.inl rfl) hK dX1_plain_77
        · have h := it_ h c21
          refine r_aload C 0 dX1_plain_68 rfl ?_
          obtain ⟨u23, eu23, h⟩ := bs h
          obtain ⟨q22, eq22, h⟩ := bs h
          refine r_callV C (As := []) (b := v12) (rest := []) (st1 := [vI q22.1]) (v := some (vI q22.1)) (r := (RX8, TX8, 2)) (ci := 6) rfl eu23 (m_X8_isNought C.tr eq22) (lw_V q544 q545 q546 q130 q547) rfl hdX8_isNought rfl rfl (Nat.le_of_ble_eq_true rfl) ⟨by decide, by decide⟩ dX1_plain_70 rfl ?_
          refine r_if_eq C dX1_plain_73 (tgt := 78) (by decide) (fun c24 => ?_) (fun c24 => ?_)
          · have h := it_ h c24
            refine r_aload_n C 3 dX1_plain_78 rfl rfl ?_
            refine r_aload_n C 1 dX1_plain_79 rfl rfl ?_
            refine r_aload C 0 dX1_plain_80 rfl ?_
            obtain ⟨u26, eu26, h⟩ := bs h
            obtain ⟨q25, eq25, h⟩ := bs h
            refine r_callV C (As := [vO v10, vO v12]) (b := a0) (rest := []) (st1 := [vO q25.1]) (v := some (vO q25.1)) (r := (RX1, TX1, 19)) (ci := 0) rfl eu26 (m_X1_commons C.tr eq25) (lw_V q1118 q1120 qs28 q120 q1121) rfl hdX1_commons rfl rfl (Nat.le_of_ble_eq_true rfl) ⟨by decide, by decide⟩ dX1_plain_82 rfl ?_
            obtain ⟨v27, ev27, h⟩ := bs h
            refine r_getIN C (c := 6) (r := (RX8, TX8, 2)) rfl 1 (by decide) rfl ev27 (lw_n q309 rfl) dX1_plain_85 ?_
            refine r_if_ne C dX1_plain_88 (tgt := 95) (by decide) (fun c28 => ?_) (fun c28 => ?_)
            · have h := ie_ h c28
              refine r_iconst C dX1_plain_95 ?_
              cases h
              exact r_xzret C (Or.inl rfl) hK dX1_plain_96
            · have h := it_ h c28
              refine r_iconst C dX1_plain_91 ?_
              refine r_goto C dX1_plain_92 (tgt := 96) (by decide) ?_
              cases h
              exact r_xzret C (Or.inr rfl) hK dX1_plain_96
          · have h := ie_ h c24
            refine r_iconst C dX1_plain_76 ?_
            cases h
            exact r_xzret C (Or.inl rfl) hK dX1_plain_77
      · have h := ie_ h c8
        refine r_iconst C dX1_plain_21 ?_
        cases h
        exact r_xzret C (Or.inl rfl) hK dX1_plain_22
theorem hdX1_plain : zhd yX1_plain 1 := by decide +kernel
theorem m_X1_plain {l : Launch} {D : va_G} {b0 : Nat} (hl : l.stackTraces = false) {a0 : Nat} {x1 : Int} {μ : Me} {w : Ex ⊕ (Int × Me)} (h : s_X1_plain a0 x1 μ = some w) : XN l D b0 yX1_plain (ws_ yX1_plain cX1_plain 5 (some .boolean)) 8 [vO a0, vI x1] μ (zoI w) (zmI w) :=
  XN.of hl (by decide +kernel) (Nat.le_of_ble_eq_true rfl) (fun Z C X _ _ => w_X1_plain C X h rfl)
noncomputable def s_X6_divides_b163 (a0 : Nat)  (μ : Me) : Option (Int × Me) :=
  (gR μ 4 a0 1).bind fun v9 =>
  (gI μ 6 v9 1).bind fun v10 =>
  (pI μ 6 v9 1 (v10 - 1)).bind fun m11 =>
  some (1, m11)
theorem w_X6_divides_b163 {Z : Zt} {fin : Int × Me} {w : (Int × Me)} (C : CX Z yX6_divides cX6_divides (some .boolean) 2 5) {a0 : Nat}  {μ : Me} (h : s_X6_divides_b163 a0 μ = some w) (hK : (fun r : Int × Me => r = fin) w) : WL Z (QN Z (some (vI fin.1)) fin.2) μ 163 [(0, vO a0)] [] := by
  unfold s_X6_divides_b163 at h
  refine r_aload_n C 0 dX6_divides_163 rfl rfl ?_
  obtain ⟨v9, ev9, h⟩ := bs h
  refine r_getR C (c := 4) (r := (RX6, TX6, 6)) rfl 1 (by decide) rfl ev9 q321 dX6_divides_164 ?_
  refine r_dup C dX6_divides_167 rfl ?_
  obtain ⟨v10, ev10, h⟩ := bs h
  refine r_getIN C (c := 6) (r := (RX8, TX8, 2)) rfl 1 (by decide) rfl ev10 (lw_n q305 rfl) dX6_divides_168 ?_
  refine r_iconst C dX6_divides_171 ?_
  refine r_isub C dX6_divides_172 ?_
  obtain ⟨m11, em11, h⟩ := bs h
  refine r_putIN C (c := 6) (r := (RX8, TX8, 2)) rfl 1 (by decide) rfl ⟨rfl, rfl⟩ rfl em11 (lw_n q305 rfl) dX6_divides_173 ?_
  refine r_iconst C dX6_divides_176 ?_
  cases h
  exact r_zret C (Or.inr rfl) hK dX6_divides_177
noncomputable def s_X6_divides_l131_st (a0 : Nat) (x2 : Int) (x4 : Int) (μ : Me) : Option ((Int × Me) ⊕ (Int × Me)) :=
  (if w32 x2 ≤ w32 x4 then
  (s_X6_divides_b163 a0 μ).map Sum.inr
  else
  (gR μ 4 a0 1).bind fun v12 =>
  (gR μ 6 v12 0).bind fun v13 =>
  (gR μ 4 a0 2).bind fun v14 =>
  (gR μ 6 v14 0).bind fun v15 =>
  (aI μ 101 v15 x4).bind fun v16 =>
  (uI μ v13 x4 v16).bind fun m17 =>
  some (.inl ((x4 + 1), m17)))
theorem w_X6_divides_l131_st {Z : Zt} {fin : Int × Me} {w : ((Int × Me) ⊕ (Int × Me))} (C : CX Z yX6_divides cX6_divides (some .boolean) 2 5) {a0 : Nat} {x2 : Int} {x4 : Int} {μ : Me} (h : s_X6_divides_l131_st a0 x2 x4 μ = some w) (hK : (Sum.elim (fun s : Int × Me => WL Z (QN Z (some (vI fin.1)) fin.2) s.2 131 [(0, vO a0), (2, vI x2), (4, vI s.1)] []) (fun r : Int × Me => r = fin)) w) : WL Z (QN Z (some (vI fin.1)) fin.2) μ 131 [(0, vO a0), (2, vI x2), (4, vI x4)] [] := by
  unfold s_X6_divides_l131_st at h
  refine r_iload C 2 dX6_divides_131 rfl ?_
  refine r_iload_n C 1 dX6_divides_133 rfl rfl ?_
  refine r_icmp_ge C dX6_divides_134 (tgt := 163) (by decide) (fun c8 => ?_) (fun c8 => ?_)
  · have h := it_ h c8
    obtain ⟨z, hz, ez⟩ := ms_ h; clear h; subst ez; have h := hz; clear hz
    refine r_sub [0] rfl ?_
    exact w_X6_divides_b163 (fin := fin) C h hK
  · have h := ie_ h c8
    refine r_aload_n C 0 dX6_divides_137 rfl rfl ?_
    obtain ⟨v12, ev12, h⟩ := bs h
    refine r_getR C (c := 4) (r := (RX6, TX6, 6)) rfl 1 (by decide) rfl ev12 q321 dX6_divides_138 ?_
    obtain ⟨v13, ev13, h⟩ := bs h
    refine r_getRN C (c := 6) (r := (RX8, TX8, 2)) rfl 0 (by decide) rfl ev13 (lw_n q300 rfl) dX6_divides_141 ?_
    refine r_iload C 2 dX6_divides_144 rfl ?_
    refine r_aload_n C 0 dX6_divides_146 rfl rfl ?_
    obtain ⟨v14, ev14, h⟩ := bs h
    refine r_getR C (c := 4) (r := (RX6, TX6, 6)) rfl 2 (by decide) rfl ev14 q322 dX6_divides_147 ?_
    obtain ⟨v15, ev15, h⟩ := bs h
    refine r_getRN C (c := 6) (r := (RX8, TX8, 2)) rfl 0 (by decide) rfl ev15 (lw_n q300 rfl) dX6_divides_150 ?_
    refine r_iload C 2 dX6_divides_153 rfl ?_
    obtain ⟨v16, ev16, h⟩ := bs h
    refine r_iald C ev16 dX6_divides_155 ?_
    obtain ⟨m17, em17, h⟩ := bs h
    refine r_iast C em17 dX6_divides_156 ?_
    refine r_iinc C 2 [(4, vI (x4 + 1)), (0, vO a0), (2, vI x2)] dX6_divides_157 rfl (by decide) rfl ?_
    refine r_goto C dX6_divides_160 (tgt := 131) (by decide) ?_
    cases h
    refine r_sub [1, 2, 0] rfl ?_
    exact hK
noncomputable def s_X6_divides_l131 (a0 : Nat) (x2 : Int) (x4 : Int) (μ : Me) : Option (Int × Me) :=
  whileO (fun s : Int × Me => s_X6_divides_l131_st a0 x2 s.1 s.2) (x4, μ)
theorem e_X6_divides_l131 (a0 : Nat) (x2 : Int) (x4 : Int) (μ : Me) : s_X6_divides_l131 a0 x2 x4 μ = (s_X6_divides_l131_st a0 x2 x4 μ).bind fun x => x.elim (fun s : Int × Me => s_X6_divides_l131 a0 x2 s.1 s.2) some := whileO_eq _ _
theorem w_X6_divides_l131 {Z : Zt} {fin : Int × Me} {w : (Int × Me)} (C : CX Z yX6_divides cX6_divides (some .boolean) 2 5) {a0 : Nat} {x2 : Int} {x4 : Int} {μ : Me} (h : s_X6_divides_l131 a0 x2 x4 μ = some w) (hK : (fun r : Int × Me => r = fin) w) : WL Z (QN Z (some (vI fin.1)) fin.2) μ 131 [(0, vO a0), (2, vI x2), (4, vI x4)] [] := by
  refine whileO_walk (w := w) (fun s : Int × Me => WL Z (QN Z (some (vI fin.1)) fin.2) s.2 131 [(0, vO a0), (2, vI x2), (4, vI s.1)] []) (fun s v h2 hi hr => ?_) (x4, μ) h
  refine w_X6_divides_l131_st (fin := fin) C h2 ?_
  cases v with
  | inl s2 => exact hi s2 rfl
  | inr r => have e := hr r rfl; subst e; exact hK
noncomputable def s_X6_divides_b122 (a0 : Nat) (x2 : Int) (x3 : Int)  (μ : Me) : Option (Int × Me) :=
  (if w32 x3 = 0 then
  s_X6_divides_l131 a0 x2 0 μ
  else
  some (0, μ))
theorem w_X6_divides_b122 {Z : Zt} {fin : Int × Me} {w : (Int × Me)} (C : CX Z yX6_divides cX6_divides (some .boolean) 2 5) {a0 : Nat} {x2 : Int} {x3 : Int}  {μ : Me} (h : s_X6_divides_b122 a0 x2 x3 μ = some w) (hK : (fun r : Int × Me => r = fin) w) : WL Z (QN Z (some (vI fin.1)) fin.2) μ 122 [(0, vO a0), (2, vI x2), (3, vI x3)] [] := by
  unfold s_X6_divides_b122 at h
  refine r_iload_n C 2 dX6_divides_122 rfl rfl ?_
  refine r_if_eq C dX6_divides_123 (tgt := 128) (by decide) (fun c7 => ?_) (fun c7 => ?_)
  · have h := it_ h c7
    refine r_iconst C dX6_divides_128 ?_
    refine r_istore C [(4, vI 0), (0, vO a0), (2, vI x2), (3, vI x3)] dX6_divides_129 (by decide) rfl ?_
    refine r_sub [1, 2, 0] rfl ?_
    exact w_X6_divides_l131 (fin := fin) C h hK
  · have h := ie_ h c7
    refine r_iconst C dX6_divides_126 ?_
    cases h
    exact r_zret C (Or.inl rfl) hK dX6_divides_127
noncomputable def s_X6_divides_l74_st (a0 : Nat) (x1 : Int) (x2 : Int) (x3 : Int) (x4 : Int) (μ : Me) : Option ((Int × Int × Me) ⊕ (Int × Me)) :=
  (if w32 x2 < w32 x4 then
  (s_X6_divides_b122 a0 x2 x3 μ).map Sum.inr
  else
  (gR μ 4 a0 0).bind fun v18 =>
  (gR μ 4 a0 1).bind fun v19 =>
  (gR μ 6 v19 0).bind fun v20 =>
  (aI μ 101 v20 x4).bind fun v21 =>
  (ck μ 5 v18).bind fun _ =>
  (s_X7_of v18 (((w32 x3) * (w32 x1)) + (w32 v21)) μ).bind fun q22 =>
  (gR q22.2 4 a0 2).bind fun v24 =>
  (gR q22.2 6 v24 0).bind fun v25 =>
  (uI q22.2 v25 x4 q22.1).bind fun m26 =>
  some (.inl (q22.1, (x4 + 1), m26)))
theorem w_X6_divides_l74_st {Z : Zt} {fin : Int × Me} {w : ((Int × Int × Me) ⊕ (Int × Me))} (C : CX Z yX6_divides cX6_divides (some .boolean) 2 5) {a0 : Nat} {x1 : Int} {x2 : Int} {x3 : Int} {x4 : Int} {μ : Me} (h : s_X6_divides_l74_st a0 x1 x2 x3 x4 μ = some w) (hK : (Sum.elim (fun s : Int × Int × Me => WL Z (QN Z (some (vI fin.1)) fin.2) s.2.2 74 [(0, vO a0), (1, vI x1), (2, vI x2), (3, vI s.1), (4, vI s.2.1)] []) (fun r : Int × Me => r = fin)) w) : WL Z (QN Z (some (vI fin.1)) fin.2) μ 74 [(0, vO a0), (1, vI x1), (2, vI x2), (3, vI x3), (4, vI x4)] [] := by
  unfold s_X6_divides_l74_st at h
  refine r_iload C 4 dX6_divides_74 rfl ?_
  refine r_iload_n C 2 dX6_divides_76 rfl rfl ?_
  refine r_icmp_gt C dX6_divides_77 (tgt := 122) (by decide) (fun c6 => ?_) (fun c6 => ?_)
  · have h := it_ h c6
    obtain ⟨z, hz, ez⟩ := ms_ h; clear h; subst ez; have h := hz; clear hz
    refine r_sub [0, 2, 3] rfl ?_
    exact w_X6_divides_b122 (fin := fin) C h hK
  · have h := ie_ h c6
    refine r_aload_n C 0 dX6_divides_80 rfl rfl ?_
    obtain ⟨v18, ev18, h⟩ := bs h
    refine r_getR C (c := 4) (r := (RX6, TX6, 6)) rfl 0 (by decide) rfl ev18 q316 dX6_divides_81 ?_
    refine r_iload_n C 3 dX6_divides_84 rfl rfl ?_
    refine r_i2l C dX6_divides_85 ?_
    refine r_iload_n C 1 dX6_divides_86 rfl rfl ?_
    refine r_i2l C dX6_divides_87 ?_
    refine r_lmul C dX6_divides_88 ?_
    refine r_aload_n C 0 dX6_divides_89 rfl rfl ?_
    obtain ⟨v19, ev19, h⟩ := bs h
    refine r_getR C (c := 4) (r := (RX6, TX6, 6)) rfl 1 (by decide) rfl ev19 q321 dX6_divides_90 ?_
    obtain ⟨v20, ev20, h⟩ := bs h
    refine r_getRN C (c := 6) (r := (RX8, TX8, 2)) rfl 0 (by decide) rfl ev20 (lw_n q300 rfl) dX6_divides_93 ?_
    refine r_iload C 4 dX6_divides_96 rfl ?_
    obtain ⟨v21, ev21, h⟩ := bs h
    refine r_iald C ev21 dX6_divides_98 ?_
    refine r_i2l C dX6_divides_99 ?_
    refine r_ladd C dX6_divides_100 ?_
    obtain ⟨u23, eu23, h⟩ := bs h
    obtain ⟨q22, eq22, h⟩ := bs h
    refine r_callV C (As := [vJ (((w32 x3) * (w32 x1)) + (w32 v21))]) (b := v18) (rest := []) (st1 := [vI q22.1]) (v := some (vI q22.1)) (r := (RX7, TX7, 1)) (ci := 5) rfl eu23 (m_X7_of C.tr eq22) (lw_V q840 q632 q633 q129 q634) rfl hdX7_of rfl rfl (Nat.le_of_ble_eq_true rfl) ⟨by decide, by decide⟩ dX6_divides_101 rfl ?_
    refine r_istore_n C [(3, vI q22.1), (0, vO a0), (1, vI x1), (2, vI x2), (4, vI x4)] dX6_divides_104 rfl (by decide) rfl ?_
    refine r_aload_n C 1 dX6_divides_105 rfl rfl ?_
    obtain ⟨v24, ev24, h⟩ := bs h
    refine r_getR C (c := 4) (r := (RX6, TX6, 6)) rfl 2 (by decide) rfl ev24 q322 dX6_divides_106 ?_
    obtain ⟨v25, ev25, h⟩ := bs h
    refine r_getRN C (c := 6) (r := (RX8, TX8, 2)) rfl 0 (by decide) rfl ev25 (lw_n q300 rfl) dX6_divides_109 ?_
    refine r_iload C 4 dX6_divides_112 rfl ?_
    refine r_iload_n C 0 dX6_divides_114 rfl rfl ?_
    obtain ⟨m26, em26, h⟩ := bs h
    refine r_iast C em26 dX6_divides_115 ?_
    refine r_iinc C 4 [(4, vI (x4 + 1)), (3, vI q22.1), (0, vO a0), (1, vI x1), (2, vI x2)] dX6_divides_116 rfl (by decide) rfl ?_
    refine r_goto C dX6_divides_119 (tgt := 74) (by decide) ?_
    cases h
    refine r_sub [2, 3, 4, 1, 0] rfl ?_
    exact hK
noncomputable def s_X6_divides_l74 (a0 : Nat) (x1 : Int) (x2 : Int) (x3 : Int) (x4 : Int) (μ : Me) : Option (Int × Me) :=
  whileO (fun s : Int × Int × Me => s_X6_divides_l74_st a0 x1 x2 s.1 s.2.1 s.2.2) (x3, x4, μ)
theorem e_X6_divides_l74 (a0 : Nat) (x1 : Int) (x2 : Int) (x3 : Int) (x4 : Int) (μ : Me) : s_X6_divides_l74 a0 x1 x2 x3 x4 μ = (s_X6_divides_l74_st a0 x1 x2 x3 x4 μ).bind fun x => x.elim (fun s : Int × Int × Me => s_X6_divides_l74 a0 x1 x2 s.1 s.2.1 s.2.2) some := whileO_eq _ _
theorem w_X6_divides_l74 {Z : Zt} {fin : Int × Me} {w : (Int × Me)} (C : CX Z yX6_divides cX6_divides (some .boolean) 2 5) {a0 : Nat} {x1 : Int} {x2 : Int} {x3 : Int} {x4 : Int} {μ : Me} (h : s_X6_divides_l74 a0 x1 x2 x3 x4 μ = some w) (hK : (fun r : Int × Me => r = fin) w) : WL Z (QN Z (some (vI fin.1)) fin.2) μ 74 [(0, vO a0), (1, vI x1), (2, vI x2), (3, vI x3), (4, vI x4)] [] := by
  refine whileO_walk (w := w) (fun s : Int × Int × Me => WL Z (QN Z (some (vI fin.1)) fin.2) s.2.2 74 [(0, vO a0), (1, vI x1), (2, vI x2), (3, vI s.1), (4, vI s.2.1)] []) (fun s v h2 hi hr => ?_) (x3, x4, μ) h
  refine w_X6_divides_l74_st (fin := fin) C h2 ?_
  cases v with
  | inl s2 => exact hi s2 rfl
  | inr r => have e := hr r rfl; subst e; exact hK
noncomputable def s_X6_divides_b66 (a0 : Nat)  (μ : Me) : Option (Int × Me) :=
  s_X6_divides_b163 a0 μ
theorem w_X6_divides_b66 {Z : Zt} {fin : Int × Me} {w : (Int × Me)} (C : CX Z yX6_divides cX6_divides (some .boolean) 2 5) {a0 : Nat}  {μ : Me} (h : s_X6_divides_b66 a0 μ = some w) (hK : (fun r : Int × Me => r = fin) w) : WL Z (QN Z (some (vI fin.1)) fin.2) μ 66 [(0, vO a0)] [] := by
  unfold s_X6_divides_b66 at h
  refine r_goto C dX6_divides_66 (tgt := 163) (by decide) ?_
  exact w_X6_divides_b163 (fin := fin) C h hK
noncomputable def s_X6_divides_l35_st (a0 : Nat) (x2 : Int) (x3 : Int) (μ : Me) : Option ((Int × Me) ⊕ (Int × Me)) :=
  (if w32 x2 ≤ w32 x3 then
  (s_X6_divides_b66 a0 μ).map Sum.inr
  else
  (gR μ 4 a0 1).bind fun v32 =>
  (gR μ 6 v32 0).bind fun v33 =>
  (gR μ 4 a0 1).bind fun v34 =>
  (gR μ 6 v34 0).bind fun v35 =>
  (aI μ 101 v35 (x3 + 1)).bind fun v36 =>
  (uI μ v33 x3 v36).bind fun m37 =>
  some (.inl ((x3 + 1), m37)))
theorem w_X6_divides_l35_st {Z : Zt} {fin : Int × Me} {w : ((Int × Me) ⊕ (Int × Me))} (C : CX Z yX6_divides cX6_divides (some .boolean) 2 5) {a0 : Nat} {x2 : Int} {x3 : Int} {μ : Me} (h : s_X6_divides_l35_st a0 x2 x3 μ = some w) (hK : (Sum.elim (fun s : Int × Me => WL Z (QN Z (some (vI fin.1)) fin.2) s.2 35 [(0, vO a0), (2, vI x2), (3, vI s.1)] []) (fun r : Int × Me => r = fin)) w) : WL Z (QN Z (some (vI fin.1)) fin.2) μ 35 [(0, vO a0), (2, vI x2), (3, vI x3)] [] := by
  unfold s_X6_divides_l35_st at h
  refine r_iload_n C 2 dX6_divides_35 rfl rfl ?_
  refine r_iload_n C 1 dX6_divides_36 rfl rfl ?_
  refine r_icmp_ge C dX6_divides_37 (tgt := 66) (by decide) (fun c31 => ?_) (fun c31 => ?_)
  · have h := it_ h c31
    obtain ⟨z, hz, ez⟩ := ms_ h; clear h; subst ez; have h := hz; clear hz
    refine r_sub [0] rfl ?_
    exact w_X6_divides_b66 (fin := fin) C h hK
  · have h := ie_ h c31
    refine r_aload_n C 0 dX6_divides_40 rfl rfl ?_
    obtain ⟨v32, ev32, h⟩ := bs h
    refine r_getR C (c := 4) (r := (RX6, TX6, 6)) rfl 1 (by decide) rfl ev32 q321 dX6_divides_41 ?_
    obtain ⟨v33, ev33, h⟩ := bs h
    refine r_getRN C (c := 6) (r := (RX8, TX8, 2)) rfl 0 (by decide) rfl ev33 (lw_n q300 rfl) dX6_divides_44 ?_
    refine r_iload_n C 2 dX6_divides_47 rfl rfl ?_
    refine r_aload_n C 0 dX6_divides_48 rfl rfl ?_
    obtain ⟨v34, ev34, h⟩ := bs h
    refine r_getR C (c := 4) (r := (RX6, TX6, 6)) rfl 1 (by decide) rfl ev34 q321 dX6_divides_49 ?_
    obtain ⟨v35, ev35, h⟩ := bs h
    refine r_getRN C (c := 6) (r := (RX8, TX8, 2)) rfl 0 (by decide) rfl ev35 (lw_n q300 rfl) dX6_divides_52 ?_
    refine r_iload_n C 2 dX6_divides_55 rfl rfl ?_
    refine r_iconst C dX6_divides_56 ?_
    refine r_iadd C dX6_divides_57 ?_
    obtain ⟨v36, ev36, h⟩ := bs h
    refine r_iald C ev36 dX6_divides_58 ?_
    obtain ⟨m37, em37, h⟩ := bs h
    refine r_iast C em37 dX6_divides_59 ?_
    refine r_iinc C 2 [(3, vI (x3 + 1)), (0, vO a0), (2, vI x2)] dX6_divides_60 rfl (by decide) rfl ?_
    refine r_goto C dX6_divides_63 (tgt := 35) (by decide) ?_
    cases h
    refine r_sub [1, 2, 0] rfl ?_
    exact hK
noncomputable def s_X6_divides_l35 (a0 : Nat) (x2 : Int) (x3 : Int) (μ : Me) : Option (Int × Me) :=
  whileO (fun s : Int × Me => s_X6_divides_l35_st a0 x2 s.1 s.2) (x3, μ)
theorem e_X6_divides_l35 (a0 : Nat) (x2 : Int) (x3 : Int) (μ : Me) : s_X6_divides_l35 a0 x2 x3 μ = (s_X6_divides_l35_st a0 x2 x3 μ).bind fun x => x.elim (fun s : Int × Me => s_X6_divides_l35 a0 x2 s.1 s.2) some := whileO_eq _ _
theorem w_X6_divides_l35 {Z : Zt} {fin : Int × Me} {w : (Int × Me)} (C : CX Z yX6_divides cX6_divides (some .boolean) 2 5) {a0 : Nat} {x2 : Int} {x3 : Int} {μ : Me} (h : s_X6_divides_l35 a0 x2 x3 μ = some w) (hK : (fun r : Int × Me => r = fin) w) : WL Z (QN Z (some (vI fin.1)) fin.2) μ 35 [(0, vO a0), (2, vI x2), (3, vI x3)] [] := by
  refine whileO_walk (w := w) (fun s : Int × Me => WL Z (QN Z (some (vI fin.1)) fin.2) s.2 35 [(0, vO a0), (2, vI x2), (3, vI s.1)] []) (fun s v h2 hi hr => ?_) (x3, μ) h
  refine w_X6_divides_l35_st (fin := fin) C h2 ?_
  cases v with
  | inl s2 => exact hi s2 rfl
  | inr r => have e := hr r rfl; subst e; exact hK
noncomputable def s_X6_divides (a0 : Nat) (x1 : Int) (μ : Me) : Option (Int × Me) :=
  (gR μ 4 a0 1).bind fun v1 =>
  (gI μ 6 v1 1).bind fun v2 =>
  (gR μ 4 a0 0).bind fun v3 =>
  (gI μ 5 v3 0).bind fun v4 =>
  (if w32 x1 = w32 v4 then
  (gR μ 4 a0 1).bind fun v27 =>
  (gR μ 6 v27 0).bind fun v28 =>
  (aI μ 101 v28 0).bind fun v29 =>
  (if w32 v29 = 0 then
  s_X6_divides_l35 a0 v2 0 μ
  else
  some (0, μ))
  else
  s_X6_divides_l74 a0 x1 v2 0 0 μ)
theorem w_X6_divides {Z : Zt} {fin : Int × Me} {w : Int × Me} (C : CX Z yX6_divides cX6_divides (some .boolean) 2 5) {a0 : Nat} {x1 : Int} {μ : Me} (h : s_X6_divides a0 x1 μ = some w) (hK : w = fin) : WL Z (QN Z (some (vI fin.1)) fin.2) μ 0 [(0, vO a0), (1, vI x1)] [] := by
  unfold s_X6_divides at h
  refine r_aload_n C 0 dX6_divides_0 rfl rfl ?_
  obtain ⟨v1, ev1, h⟩ := bs h
  refine r_getR C (c := 4) (r := (RX6, TX6, 6)) rfl 1 (by decide) rfl ev1 q321 dX6_divides_1 ?_
  obtain ⟨v2, ev2, h⟩ := bs h
  refine r_getIN C (c := 6) (r := (RX8, TX8, 2)) rfl 1 (by decide) rfl ev2 (lw_n q305 rfl) dX6_divides_4 ?_
  refine r_istore_n C [(2, vI v2), (0, vO a0), (1, vI x1)] dX6_divides_7 rfl (by decide) rfl ?_
  refine r_iload_n C 2 dX6_divides_8 rfl rfl ?_
  refine r_aload_n C 1 dX6_divides_9 rfl rfl ?_
  obtain ⟨v3, ev3, h⟩ := bs h
  refine r_getR C (c := 4) (r := (RX6, TX6, 6)) rfl 0 (by decide) rfl ev3 q316 dX6_divides_10 ?_
  obtain ⟨v4, ev4, h⟩ := bs h
  refine r_getIN C (c := 5) (r := (RX7, TX7, 1)) rfl 0 (by decide) rfl ev4 (lw_n q288 rfl) dX6_divides_13 ?_
  refine r_icmp_ne C dX6_divides_16 (tgt := 69) (by decide) (fun c5 => ?_) (fun c5 => ?_)
  · have h := ie_ h c5
    refine r_iconst C dX6_divides_69 ?_
    refine r_istore_n C [(3, vI 0), (2, vI v2), (0, vO a0), (1, vI x1)] dX6_divides_70 rfl (by decide) rfl ?_
    refine r_iconst C dX6_divides_71 ?_
    refine r_istore C [(4, vI 0), (3, vI 0), (2, vI v2), (0, vO a0), (1, vI x1)] dX6_divides_72 (by decide) rfl ?_
    refine r_sub [3, 4, 2, 1, 0] rfl ?_
    exact w_X6_divides_l74 (fin := fin) C h hK
  · have h := it_ h c5
    refine r_aload_n C 1 dX6_divides_19 rfl rfl ?_
    obtain ⟨v27, ev27, h⟩ := bs h
    refine r_getR C (c := 4) (r := (RX6, TX6, 6)) rfl 1 (by decide) rfl ev27 q321 dX6_divides_20 ?_
    obtain ⟨v28, ev28, h⟩ := bs h
    refine r_getRN C (c := 6) (r := (RX8, TX8, 2)) rfl 0 (by decide) rfl ev28 (lw_n q300 rfl) dX6_divides_23 ?_
    refine r_iconst C dX6_divides_26 ?_
    obtain ⟨v29, ev29, h⟩ := bs h
    refine r_iald C ev29 dX6_divides_27 ?_
    refine r_if_eq C dX6_divides_28 (tgt := 33) (by decide) (fun c30 => ?_) (fun c30 => ?_)
    · have h := it_ h c30
      refine r_iconst C dX6_divides_33 ?_
      refine r_istore_n C [(3, vI 0), (2, vI v2), (0, vO a0), (1, vI x1)] dX6_divides_34 rfl (by decide) rfl ?_
      refine r_sub [2, 1, 0] rfl ?_
      exact w_X6_divides_l35 (fin := fin) C h hK
    · have h := ie_ h c30
      refine r_iconst C dX6_divides_31 ?_
      cases h
      exact r_zret C (Or.inl rfl) hK dX6_divides_32
theorem hdX6_divides : zhd yX6_divides 1 := by decide +kernel
theorem m_X6_divides {l : Launch} {D : va_G} {b0 : Nat} (hl : l.stackTraces = false) {a0 : Nat} {x1 : Int} {μ : Me} {w : Int × Me} (h : s_X6_divides a0 x1 μ = some w) : MN l D b0 yX6_divides (ws_ yX6_divides cX6_divides 5 (some .boolean)) 2 [vO a0, vI x1] μ (some (vI w.1)) w.2 :=
  MN.of hl (by decide +kernel) (Nat.le_of_ble_eq_true rfl) (fun Z C _ _ => w_X6_divides C h rfl)
noncomputable def s_X6_root_l20_st (a0 : Nat) (x2 : Int) (x3 : Int) (μ : Me) : Option ((Int × Me) ⊕ (Int × Me)) :=
  (gR μ 4 a0 1).bind fun v7 =>
  (gI μ 6 v7 1).bind fun v8 =>
  (if w32 v8 ≤ 0 then
  some (.inr (x3, μ))
  else
  (ck μ 4 a0).bind fun _ =>
  (s_X6_divides a0 x2 μ).bind fun q10 =>
  (if w32 q10.1 = 0 then
  some (.inr (x3, q10.2))
  else
  some (.inl ((x3 + 1), q10.2))))
theorem w_X6_root_l20_st {Z : Zt} {fin : Int × Me} {w : ((Int × Me) ⊕ (Int × Me))} (C : CX Z yX6_root cX6_root (some .int) 3 4) {a0 : Nat} {x2 : Int} {x3 : Int} {μ : Me} (h : s_X6_root_l20_st a0 x2 x3 μ = some w) (hK : (Sum.elim (fun s : Int × Me => WL Z (QN Z (some (vI fin.1)) fin.2) s.2 20 [(0, vO a0), (2, vI x2), (3, vI s.1)] []) (fun r : Int × Me => r = fin)) w) : WL Z (QN Z (some (vI fin.1)) fin.2) μ 20 [(0, vO a0), (2, vI x2), (3, vI x3)] [] := by
  unfold s_X6_root_l20_st at h
  refine r_aload_n C 0 dX6_root_20 rfl rfl ?_
  obtain ⟨v7, ev7, h⟩ := bs h
  refine r_getR C (c := 4) (r := (RX6, TX6, 6)) rfl 1 (by decide) rfl ev7 q321 dX6_root_21 ?_
  obtain ⟨v8, ev8, h⟩ := bs h
  refine r_getIN C (c := 6) (r := (RX8, TX8, 2)) rfl 1 (by decide) rfl ev8 (lw_n q305 rfl) dX6_root_24 ?_
  refine r_if_le C dX6_root_27 (tgt := 44) (by decide) (fun c9 => ?_) (fun c9 => ?_)
  · have h := it_ h c9
    refine r_iload_n C 2 dX6_root_44 rfl rfl ?_
    cases h
    exact r_iret C hK dX6_root_45
  · have h := ie_ h c9
    refine r_aload_n C 0 dX6_root_30 rfl rfl ?_
    refine r_iload_n C 1 dX6_root_31 rfl rfl ?_
    obtain ⟨u11, eu11, h⟩ := bs h
    obtain ⟨q10, eq10, h⟩ := bs h
    refine r_callV C (As := [vI x2]) (b := a0) (rest := []) (st1 := [vI q10.1]) (v := some (vI q10.1)) (r := (RX6, TX6, 6)) (ci := 4) rfl eu11 (m_X6_divides C.tr eq10) (lw_V q1139 q1141 qs30 q128 q1142) rfl hdX6_divides rfl rfl (Nat.le_of_ble_eq_true rfl) ⟨by decide, by decide⟩ dX6_root_32 rfl ?_
    refine r_if_eq C dX6_root_35 (tgt := 44) (by decide) (fun c12 => ?_) (fun c12 => ?_)
    · have h := it_ h c12
      refine r_iload_n C 2 dX6_root_44 rfl rfl ?_
      cases h
      exact r_iret C hK dX6_root_45
    · have h := ie_ h c12
      refine r_iinc C 2 [(3, vI (x3 + 1)), (0, vO a0), (2, vI x2)] dX6_root_38 rfl (by decide) rfl ?_
      refine r_goto C dX6_root_41 (tgt := 20) (by decide) ?_
      cases h
      refine r_sub [1, 2, 0] rfl ?_
      exact hK
noncomputable def s_X6_root_l20 (a0 : Nat) (x2 : Int) (x3 : Int) (μ : Me) : Option (Int × Me) :=
  whileO (fun s : Int × Me => s_X6_root_l20_st a0 x2 s.1 s.2) (x3, μ)
theorem e_X6_root_l20 (a0 : Nat) (x2 : Int) (x3 : Int) (μ : Me) : s_X6_root_l20 a0 x2 x3 μ = (s_X6_root_l20_st a0 x2 x3 μ).bind fun x => x.elim (fun s : Int × Me => s_X6_root_l20 a0 x2 s.1 s.2) some := whileO_eq _ _
theorem w_X6_root_l20 {Z : Zt} {fin : Int × Me} {w : (Int × Me)} (C : CX Z yX6_root cX6_root (some .int) 3 4) {a0 : Nat} {x2 : Int} {x3 : Int} {μ : Me} (h : s_X6_root_l20 a0 x2 x3 μ = some w) (hK : (fun r : Int × Me => r = fin) w) : WL Z (QN Z (some (vI fin.1)) fin.2) μ 20 [(0, vO a0), (2, vI x2), (3, vI x3)] [] := by
  refine whileO_walk (w := w) (fun s : Int × Me => WL Z (QN Z (some (vI fin.1)) fin.2) s.2 20 [(0, vO a0), (2, vI x2), (3, vI s.1)] []) (fun s v h2 hi hr => ?_) (x3, μ) h
  refine w_X6_root_l20_st (fin := fin) C h2 ?_
  cases v with
  | inl s2 => exact hi s2 rfl
  | inr r => have e := hr r rfl; subst e; exact hK
noncomputable def s_X6_root (a0 : Nat) (a1 : Nat) (x2 : Int) (μ : Me) : Option (Int × Me) :=
  (ck μ 6 a1).bind fun _ =>
  (s_X8_isNought a1 μ).bind fun q1 =>
  (if w32 q1.1 = 0 then
  (gR q1.2 4 a0 1).bind fun v4 =>
  (ck q1.2 6 v4).bind fun _ =>
  (s_X8_be v4 a1 q1.2).bind fun q5 =>
  s_X6_root_l20 a0 x2 0 q5
  else
  some (99, q1.2))
theorem w_X6_root {Z : Zt} {fin : Int × Me} {w : Int × Me} (C : CX Z yX6_root cX6_root (some .int) 3 4) {a0 : Nat} {a1 : Nat} {x2 : Int} {μ : Me} (h : s_X6_root a0 a1 x2 μ = some w) (hK : w = fin) : WL Z (QN Z (some (vI fin.1)) fin.2) μ 0 [(0, vO a0), (1, vO a1), (2, vI x2)] [] := by
  unfold s_X6_root at h
  refine r_aload_n C 1 dX6_root_0 rfl rfl ?_
  obtain ⟨u2, eu2, h⟩ := bs h
  obtain ⟨q1, eq1, h⟩ := bs h
  refine r_callV C (As := []) (b := a1) (rest := []) (st1 := [vI q1.1]) (v := some (vI q1.1)) (r := (RX8, TX8, 2)) (ci := 6) rfl eu2 (m_X8_isNought C.tr eq1) (lw_V q1138 q545 q546 q130 q547) rfl hdX8_isNought rfl rfl (Nat.le_of_ble_eq_true rfl) ⟨by decide, by decide⟩ dX6_root_1 rfl ?_
  refine r_if_eq C dX6_root_4 (tgt := 10) (by decide) (fun c3 => ?_) (fun c3 => ?_)
  · have h := it_ h c3
    refine r_iconst C dX6_root_10 ?_
    refine r_istore_n C [(3, vI 0), (0, vO a0), (1, vO a1), (2, vI x2)] dX6_root_11 rfl (by decide) rfl ?_
    refine r_aload_n C 1 dX6_root_12 rfl rfl ?_
    obtain ⟨v4, ev4, h⟩ := bs h
    refine r_getR C (c := 4) (r := (RX6, TX6, 6)) rfl 1 (by decide) rfl ev4 q321 dX6_root_13 ?_
    refine r_aload_n C 2 dX6_root_16 rfl rfl ?_
    obtain ⟨u6, eu6, h⟩ := bs h
    obtain ⟨q5, eq5, h⟩ := bs h
    refine r_callV C (As := [vO a1]) (b := v4) (rest := []) (st1 := []) (v := none) (r := (RX8, TX8, 2)) (ci := 6) rfl eu6 (m_X8_be C.tr eq5) (lw_V q868 q511 q512 q130 q513) rfl hdX8_be rfl rfl (Nat.le_of_ble_eq_true rfl) ⟨by decide, by decide⟩ dX6_root_17 rfl ?_
    refine r_sub [1, 3, 0] rfl ?_
    exact w_X6_root_l20 (fin := fin) C h hK
  · have h := ie_ h c3
    refine r_bipush C dX6_root_7 (by decide) ?_
    cases h
    exact r_iret C hK dX6_root_9
theorem hdX6_root : zhd yX6_root 2 := by decide +kernel
theorem m_X6_root {l : Launch} {D : va_G} {b0 : Nat} (hl : l.stackTraces = false) {a0 : Nat} {a1 : Nat} {x2 : Int} {μ : Me} {w : Int × Me} (h : s_X6_root a0 a1 x2 μ = some w) : MN l D b0 yX6_root (ws_ yX6_root cX6_root 4 (some .int)) 3 [vO a0, vO a1, vI x2] μ (some (vI w.1)) w.2 :=
  MN.of hl (by decide +kernel) (Nat.le_of_ble_eq_true rfl) (fun Z C _ _ => w_X6_root C h rfl)
noncomputable def s_X1_root (a0 : Nat) (x1 : Int) (x2 : Int) (μ : Me) : Option (Ex ⊕ (Int × Me)) :=
  (ck μ 0 a0).bind fun _ =>
  xb (s_X1_formAt a0 x1 μ) (fun e2 => some (.inl e2)) fun q1 =>
  (gR q1.2 0 a0 1).bind fun v4 =>
  (gR q1.2 4 v4 0).bind fun v5 =>
  (gI q1.2 5 v5 0).bind fun v6 =>
  (s_X1_isIn (w32 x2) 0 (w32 v6) q1.2).bind fun q7 =>
  xb (s_X1_must q7.1 q7.2) (fun e9 => some (.inl e9)) fun q8 =>
  (gR q8 0 a0 1).bind fun v10 =>
  (ck q8 4 v10).bind fun _ =>
  (s_X6_root v10 q1.1 x2 q8).bind fun q11 =>
  some (.inr (q11.1, q11.2))
theorem w_X1_root {Z : Zt} {fin : Ex ⊕ (Int × Me)} {w : Ex ⊕ (Int × Me)} (C : CX Z yX1_root cX1_root (some .int) 8 4) (X : XE Z) {a0 : Nat} {x1 : Int} {x2 : Int} {μ : Me} (h : s_X1_root a0 x1 x2 μ = some w) (hK : w = fin) : WL Z (XQ Z (zoI fin) (zmI fin)) μ 0 [(0, vO a0), (1, vI x1), (2, vI x2)] [] := by
  unfold s_X1_root at h
  refine r_aload_n C 0 dX1_root_0 rfl rfl ?_
  refine r_iload_n C 1 dX1_root_1 rfl rfl ?_
  obtain ⟨u3, eu3, h⟩ := bs h
  rcases xbs h with ⟨e2, eq1, h⟩ | ⟨q1, eq1, h⟩
  · refine r_xVx C (As := [vI x1]) (b := a0) (rest := []) (μ1 := e2.2.2) (r := (RX1, TX1, 19)) (ci := 0) rfl eu3 (m_X1_formAt C.tr eq1) (lw_V q799 q801 qs15 q120 q802) rfl hdX1_formAt rfl rfl (Nat.le_of_ble_eq_true rfl) ⟨by decide, by decide⟩ dX1_root_2 ?_
    cases h
    exact r_xoutI C X hK
  · refine r_xV C (As := [vI x1]) (b := a0) (rest := []) (st1 := [vO q1.1]) (v := some (vO q1.1)) (μ1 := q1.2) (r := (RX1, TX1, 19)) (ci := 0) rfl eu3 (m_X1_formAt C.tr eq1) (lw_V q799 q801 qs15 q120 q802) rfl hdX1_formAt rfl rfl (Nat.le_of_ble_eq_true rfl) ⟨by decide, by decide⟩ dX1_root_2 rfl ?_
    refine r_astore_n C [(3, vO q1.1), (0, vO a0), (1, vI x1), (2, vI x2)] dX1_root_5 rfl (by decide) rfl ?_
    refine r_iload_n C 3 dX1_root_6 rfl rfl ?_
    refine r_i2l C dX1_root_7 ?_
    refine r_lconst (v := 0) C dX1_root_8 (by decide) ?_
    refine r_aload_n C 1 dX1_root_9 rfl rfl ?_
    obtain ⟨v4, ev4, h⟩ := bs h
    refine r_getR C (c := 0) (r := (RX1, TX1, 19)) rfl 1 (by decide) rfl ev4 q422 dX1_root_10 ?_
    obtain ⟨v5, ev5, h⟩ := bs h
    refine r_getRN C (c := 4) (r := (RX6, TX6, 6)) rfl 0 (by decide) rfl ev5 (lw_n q320 rfl) dX1_root_13 ?_
    obtain ⟨v6, ev6, h⟩ := bs h
    refine r_getIN C (c := 5) (r := (RX7, TX7, 1)) rfl 0 (by decide) rfl ev6 (lw_n q289 rfl) dX1_root_16 ?_
    refine r_i2l C dX1_root_19 ?_
    obtain ⟨q7, eq7, h⟩ := bs h
    refine r_callS C (As := [vJ (w32 x2), vJ 0, vJ (w32 v6)]) (rest := []) (st1 := [vI q7.1]) (v := some (vI q7.1)) (m_X1_isIn C.tr eq7) (lw_S q499 q500 q120 q501) hdX1_isIn rfl rfl (Nat.le_of_ble_eq_true rfl) ⟨by decide, by decide⟩ dX1_root_20 rfl ?_
    rcases xbs h with ⟨e9, eq8, h⟩ | ⟨q8, eq8, h⟩
    · refine r_xSx C (As := [vI q7.1]) (rest := []) (μ1 := e9.2.2) (m_X1_must C.tr eq8) (lw_S q557 q558 q120 q559) hdX1_must rfl rfl (Nat.le_of_ble_eq_true rfl) ⟨by decide, by decide⟩ dX1_root_23 ?_
      cases h
      exact r_xoutI C X hK
    · refine r_xS C (As := [vI q7.1]) (rest := []) (st1 := []) (v := none) (μ1 := q8) (m_X1_must C.tr eq8) (lw_S q557 q558 q120 q559) hdX1_must rfl rfl (Nat.le_of_ble_eq_true rfl) ⟨by decide, by decide⟩ dX1_root_23 rfl ?_
      refine r_aload_n C 1 dX1_root_26 rfl rfl ?_
      obtain ⟨v10, ev10, h⟩ := bs h
      refine r_getR C (c := 0) (r := (RX1, TX1, 19)) rfl 1 (by decide) rfl ev10 q422 dX1_root_27 ?_
      refine r_aload_n C 0 dX1_root_30 rfl rfl ?_
      refine r_iload_n C 3 dX1_root_31 rfl rfl ?_
      obtain ⟨u12, eu12, h⟩ := bs h
      obtain ⟨q11, eq11, h⟩ := bs h
      refine r_callV C (As := [vO q1.1, vI x2]) (b := v10) (rest := []) (st1 := [vI q11.1]) (v := some (vI q11.1)) (r := (RX6, TX6, 6)) (ci := 4) rfl eu12 (m_X6_root C.tr eq11) (lw_V q1134 q1135 q1136 q128 q1137) rfl hdX6_root rfl rfl (Nat.le_of_ble_eq_true rfl) ⟨by decide, by decide⟩ dX1_root_32 rfl ?_
      cases h
      exact r_xiret C hK dX1_root_35
theorem hdX1_root : zhd yX1_root 2 := by decide +kernel
theorem m_X1_root {l : Launch} {D : va_G} {b0 : Nat} (hl : l.stackTraces = false) {a0 : Nat} {x1 : Int} {x2 : Int} {μ : Me} {w : Ex ⊕ (Int × Me)} (h : s_X1_root a0 x1 x2 μ = some w) : XN l D b0 yX1_root (ws_ yX1_root cX1_root 4 (some .int)) 8 [vO a0, vI x1, vI x2] μ (zoI w) (zmI w) :=
  XN.of hl (by decide +kernel) (Nat.le_of_ble_eq_true rfl) (fun Z C X _ _ => w_X1_root C X h rfl)
noncomputable def s_X1_roots_l11_st (a0 : Nat) (a2 : Nat) (x3 : Int) (x4 : Int) (μ : Me) : Option ((Int × Int × Me) ⊕ (Ex ⊕ (Int × Me))) :=
  (gR μ 0 a0 1).bind fun v4 =>
  (gR μ 4 v4 0).bind fun v5 =>
  (gI μ 5 v5 0).bind fun v6 =>
  (if w32 v6 < w32 x4 then
  some (.inr (.inr (x3, μ)))
  else
  (gR μ 0 a0 1).bind fun v8 =>
  (ck μ 4 v8).bind fun _ =>
  (s_X6_root v8 a2 x4 μ).bind fun q9 =>
  (if w32 q9.1 ≤ 0 then
  some (.inl ((orI x3 0), (x4 + 1), q9.2))
  else
  some (.inl ((orI x3 (slI 1 x4)), (x4 + 1), q9.2))))
theorem w_X1_roots_l11_st {Z : Zt} {fin : Ex ⊕ (Int × Me)} {w : ((Int × Int × Me) ⊕ (Ex ⊕ (Int × Me)))} (C : CX Z yX1_roots cX1_roots (some .int) 8 5) (X : XE Z) {a0 : Nat} {a2 : Nat} {x3 : Int} {x4 : Int} {μ : Me} (h : s_X1_roots_l11_st a0 a2 x3 x4 μ = some w) (hK : (Sum.elim (fun s : Int × Int × Me => WL Z (XQ Z (zoI fin) (zmI fin)) s.2.2 11 [(0, vO a0), (2, vO a2), (3, vI s.1), (4, vI s.2.1)] []) (fun r : Ex ⊕ (Int × Me) => r = fin)) w) : WL Z (XQ Z (zoI fin) (zmI fin)) μ 11 [(0, vO a0), (2, vO a2), (3, vI x3), (4, vI x4)] [] := by
  unfold s_X1_roots_l11_st at h
  refine r_iload C 3 dX1_roots_11 rfl ?_
  refine r_aload_n C 0 dX1_roots_13 rfl rfl ?_
  obtain ⟨v4, ev4, h⟩ := bs h
  refine r_getR C (c := 0) (r := (RX1, TX1, 19)) rfl 1 (by decide) rfl ev4 q422 dX1_roots_14 ?_
  obtain ⟨v5, ev5, h⟩ := bs h
  refine r_getRN C (c := 4) (r := (RX6, TX6, 6)) rfl 0 (by decide) rfl ev5 (lw_n q320 rfl) dX1_roots_17 ?_
  obtain ⟨v6, ev6, h⟩ := bs h
  refine r_getIN C (c := 5) (r := (RX7, TX7, 1)) rfl 0 (by decide) rfl ev6 (lw_n q289 rfl) dX1_roots_20 ?_
  refine r_icmp_gt C dX1_roots_23 (tgt := 56) (by decide) (fun c7 => ?_) (fun c7 => ?_)
  · have h := it_ h c7
    refine r_iload_n C 2 dX1_roots_56 rfl rfl ?_
    cases h
    exact r_xiret C hK dX1_roots_57
  · have h := ie_ h c7
    refine r_iload_n C 2 dX1_roots_26 rfl rfl ?_
    refine r_aload_n C 0 dX1_roots_27 rfl rfl ?_
    obtain ⟨v8, ev8, h⟩ := bs h
    refine r_getR C (c := 0) (r := (RX1, TX1, 19)) rfl 1 (by decide) rfl ev8 q422 dX1_roots_28 ?_
    refine r_aload_n C 1 dX1_roots_31 rfl rfl ?_
    refine r_iload C 3 dX1_roots_32 rfl ?_
    obtain ⟨u10, eu10, h⟩ := bs h
    obtain ⟨q9, eq9, h⟩ := bs h
    refine r_callV C (As := [vO a2, vI x4]) (b := v8) (rest := [vI x3]) (st1 := [vI q9.1, vI x3]) (v := some (vI q9.1)) (r := (RX6, TX6, 6)) (ci := 4) rfl eu10 (m_X6_root C.tr eq9) (lw_V q1134 q1135 q1136 q128 q1137) rfl hdX6_root rfl rfl (Nat.le_of_ble_eq_true rfl) ⟨by decide, by decide⟩ dX1_roots_34 rfl ?_
    refine r_if_le C dX1_roots_37 (tgt := 47) (by decide) (fun c11 => ?_) (fun c11 => ?_)
    · have h := it_ h c11
      refine r_iconst C dX1_roots_47 ?_
      refine r_ior C dX1_roots_48 ?_
      refine r_istore_n C [(3, vI (orI x3 0)), (0, vO a0), (2, vO a2), (4, vI x4)] dX1_roots_49 rfl (by decide) rfl ?_
      refine r_iinc C 3 [(4, vI (x4 + 1)), (3, vI (orI x3 0)), (0, vO a0), (2, vO a2)] dX1_roots_50 rfl (by decide) rfl ?_
      refine r_goto C dX1_roots_53 (tgt := 11) (by decide) ?_
      cases h
      refine r_sub [2, 3, 1, 0] rfl ?_
      exact hK
    · have h := ie_ h c11
      refine r_iconst C dX1_roots_40 ?_
      refine r_iload C 3 dX1_roots_41 rfl ?_
      refine r_ishl C dX1_roots_43 ?_
      refine r_goto C dX1_roots_44 (tgt := 48) (by decide) ?_
      refine r_ior C dX1_roots_48 ?_
      refine r_istore_n C [(3, vI (orI x3 (slI 1 x4))), (0, vO a0), (2, vO a2), (4, vI x4)] dX1_roots_49 rfl (by decide) rfl ?_
      refine r_iinc C 3 [(4, vI (x4 + 1)), (3, vI (orI x3 (slI 1 x4))), (0, vO a0), (2, vO a2)] dX1_roots_50 rfl (by decide) rfl ?_
      refine r_goto C dX1_roots_53 (tgt := 11) (by decide) ?_
      cases h
      refine r_sub [2, 3, 1, 0] rfl ?_
      exact hK
noncomputable def s_X1_roots_l11 (a0 : Nat) (a2 : Nat) (x3 : Int) (x4 : Int) (μ : Me) : Option (Ex ⊕ (Int × Me)) :=
  whileO (fun s : Int × Int × Me => s_X1_roots_l11_st a0 a2 s.1 s.2.1 s.2.2) (x3, x4, μ)
theorem e_X1_roots_l11 (a0 : Nat) (a2 : Nat) (x3 : Int) (x4 : Int) (μ : Me) : s_X1_roots_l11 a0 a2 x3 x4 μ = (s_X1_roots_l11_st a0 a2 x3 x4 μ).bind fun x => x.elim (fun s : Int × Int × Me => s_X1_roots_l11 a0 a2 s.1 s.2.1 s.2.2) some := whileO_eq _ _
theorem w_X1_roots_l11 {Z : Zt} {fin : Ex ⊕ (Int × Me)} {w : (Ex ⊕ (Int × Me))} (C : CX Z yX1_roots cX1_roots (some .int) 8 5) (X : XE Z) {a0 : Nat} {a2 : Nat} {x3 : Int} {x4 : Int} {μ : Me} (h : s_X1_roots_l11 a0 a2 x3 x4 μ = some w) (hK : (fun r : Ex ⊕ (Int × Me) => r = fin) w) : WL Z (XQ Z (zoI fin) (zmI fin)) μ 11 [(0, vO a0), (2, vO a2), (3, vI x3), (4, vI x4)] [] := by
  refine whileO_walk (w := w) (fun s : Int × Int × Me => WL Z (XQ Z (zoI fin) (zmI fin)) s.2.2 11 [(0, vO a0), (2, vO a2), (3, vI s.1), (4, vI s.2.1)] []) (fun s v h2 hi hr => ?_) (x3, x4, μ) h
  refine w_X1_roots_l11_st (fin := fin) C X h2 ?_
  cases v with
  | inl s2 => exact hi s2 rfl
  | inr r => have e := hr r rfl; subst e; exact hK
noncomputable def s_X1_roots (a0 : Nat) (x1 : Int) (μ : Me) : Option (Ex ⊕ (Int × Me)) :=
  (ck μ 0 a0).bind fun _ =>
  xb (s_X1_formAt a0 x1 μ) (fun e2 => some (.inl e2)) fun q1 =>
  s_X1_roots_l11 a0 q1.1 0 0 q1.2
theorem w_X1_roots {Z : Zt} {fin : Ex ⊕ (Int × Me)} {w : Ex ⊕ (Int × Me)} (C : CX Z yX1_roots cX1_roots (some .int) 8 5) (X : XE Z) {a0 : Nat} {x1 : Int} {μ : Me} (h : s_X1_roots a0 x1 μ = some w) (hK : w = fin) : WL Z (XQ Z (zoI fin) (zmI fin)) μ 0 [(0, vO a0), (1, vI x1)] [] := by
  unfold s_X1_roots at h
  refine r_aload_n C 0 dX1_roots_0 rfl rfl ?_
  refine r_iload_n C 1 dX1_roots_1 rfl rfl ?_
  obtain ⟨u3, eu3, h⟩ := bs h
  rcases xbs h with ⟨e2, eq1, h⟩ | ⟨q1, eq1, h⟩
  · refine r_xVx C (As := [vI x1]) (b := a0) (rest := []) (μ1 := e2.2.2) (r := (RX1, TX1, 19)) (ci := 0) rfl eu3 (m_X1_formAt C.tr eq1) (lw_V q799 q801 qs15 q120 q802) rfl hdX1_formAt rfl rfl (Nat.le_of_ble_eq_true rfl) ⟨by decide, by decide⟩ dX1_roots_2 ?_
    cases h
    exact r_xoutI C X hK
  · refine r_xV C (As := [vI x1]) (b := a0) (rest := []) (st1 := [vO q1.1]) (v := some (vO q1.1)) (μ1 := q1.2) (r := (RX1, TX1, 19)) (ci := 0) rfl eu3 (m_X1_formAt C.tr eq1) (lw_V q799 q801 qs15 q120 q802) rfl hdX1_formAt rfl rfl (Nat.le_of_ble_eq_true rfl) ⟨by decide, by decide⟩ dX1_roots_2 rfl ?_
    refine r_astore_n C [(2, vO q1.1), (0, vO a0), (1, vI x1)] dX1_roots_5 rfl (by decide) rfl ?_
    refine r_iconst C dX1_roots_6 ?_
    refine r_istore_n C [(3, vI 0), (2, vO q1.1), (0, vO a0), (1, vI x1)] dX1_roots_7 rfl (by decide) rfl ?_
    refine r_iconst C dX1_roots_8 ?_
    refine r_istore C [(4, vI 0), (3, vI 0), (2, vO q1.1), (0, vO a0), (1, vI x1)] dX1_roots_9 (by decide) rfl ?_
    refine r_sub [3, 2, 1, 0] rfl ?_
    exact w_X1_roots_l11 (fin := fin) C X h hK
theorem hdX1_roots : zhd yX1_roots 1 := by decide +kernel
theorem m_X1_roots {l : Launch} {D : va_G} {b0 : Nat} (hl : l.stackTraces = false) {a0 : Nat} {x1 : Int} {μ : Me} {w : Ex ⊕ (Int × Me)} (h : s_X1_roots a0 x1 μ = some w) : XN l D b0 yX1_roots (ws_ yX1_roots cX1_roots 5 (some .int)) 8 [vO a0, vI x1] μ (zoI w) (zmI w) :=
  XN.of hl (by decide +kernel) (Nat.le_of_ble_eq_true rfl) (fun Z C X _ _ => w_X1_roots C X h rfl)
noncomputable def s_X1_empty_l11_st (a0 : Nat) (a2 : Nat) (x3 : Int) (x4 : Int) (μ : Me) : Option ((Int × Int × Me) ⊕ (Ex ⊕ (Int × Me))) :=
  (gR μ 0 a0 1).bind fun v4 =>
  (gR μ 4 v4 0).bind fun v5 =>
  (gI μ 5 v5 0).bind fun v6 =>
  (if w32 v6 < w32 x4 then
  (bz2 x3).bind fun _ =>
  some (.inr (.inr (x3, μ)))
  else
  (if w32 x3 = 0 then
  (gR μ 0 a0 1).bind fun v10 =>
  (ck μ 4 v10).bind fun _ =>
  (s_X6_root v10 a2 x4 μ).bind fun q11 =>
  (gI q11.2 6 a2 1).bind fun v13 =>
  (if w32 (2 * q11.1) ≤ w32 v13 then
  some (.inl (0, (x4 + 1), q11.2))
  else
  some (.inl (1, (x4 + 1), q11.2)))
  else
  some (.inl (1, (x4 + 1), μ))))
theorem w_X1_empty_l11_st {Z : Zt} {fin : Ex ⊕ (Int × Me)} {w : ((Int × Int × Me) ⊕ (Ex ⊕ (Int × Me)))} (C : CX Z yX1_empty cX1_empty (some .boolean) 8 5) (X : XE Z) {a0 : Nat} {a2 : Nat} {x3 : Int} {x4 : Int} {μ : Me} (h : s_X1_empty_l11_st a0 a2 x3 x4 μ = some w) (hK : (Sum.elim (fun s : Int × Int × Me => WL Z (XQ Z (zoI fin) (zmI fin)) s.2.2 11 [(0, vO a0), (2, vO a2), (3, vI s.1), (4, vI s.2.1)] []) (fun r : Ex ⊕ (Int × Me) => r = fin)) w) : WL Z (XQ Z (zoI fin) (zmI fin)) μ 11 [(0, vO a0), (2, vO a2), (3, vI x3), (4, vI x4)] [] := by
  unfold s_X1_empty_l11_st at h
  refine r_iload C 3 dX1_empty_11 rfl ?_
  refine r_aload_n C 0 dX1_empty_13 rfl rfl ?_
  obtain ⟨v4, ev4, h⟩ := bs h
  refine r_getR C (c := 0) (r := (RX1, TX1, 19)) rfl 1 (by decide) rfl ev4 q422 dX1_empty_14 ?_
  obtain ⟨v5, ev5, h⟩ := bs h
  refine r_getRN C (c := 4) (r := (RX6, TX6, 6)) rfl 0 (by decide) rfl ev5 (lw_n q320 rfl) dX1_empty_17 ?_
  obtain ⟨v6, ev6, h⟩ := bs h
  refine r_getIN C (c := 5) (r := (RX7, TX7, 1)) rfl 0 (by decide) rfl ev6 (lw_n q289 rfl) dX1_empty_20 ?_
  refine r_icmp_gt C dX1_empty_23 (tgt := 61) (by decide) (fun c7 => ?_) (fun c7 => ?_)
  · have h := it_ h c7
    refine r_iload_n C 2 dX1_empty_61 rfl rfl ?_
    obtain ⟨u8, eu8, h⟩ := bs h
    cases h
    exact r_xzret C (bz2_ok eu8) hK dX1_empty_62
  · have h := ie_ h c7
    refine r_iload_n C 2 dX1_empty_26 rfl rfl ?_
    refine r_if_ne C dX1_empty_27 (tgt := 49) (by decide) (fun c9 => ?_) (fun c9 => ?_)
    · have h := ie_ h c9
      refine r_iconst C dX1_empty_49 ?_
      refine r_goto C dX1_empty_50 (tgt := 54) (by decide) ?_
      refine r_istore_n C [(3, vI 1), (0, vO a0), (2, vO a2), (4, vI x4)] dX1_empty_54 rfl (by decide) rfl ?_
      refine r_iinc C 3 [(4, vI (x4 + 1)), (3, vI 1), (0, vO a0), (2, vO a2)] dX1_empty_55 rfl (by decide) rfl ?_
      refine r_goto C dX1_empty_58 (tgt := 11) (by decide) ?_
      cases h
      refine r_sub [2, 3, 1, 0] rfl ?_
      exact hK
    · have h := it_ h c9
      refine r_iconst C dX1_empty_30 ?_
      refine r_aload_n C 0 dX1_empty_31 rfl rfl ?_
      obtain ⟨v10, ev10, h⟩ := bs h
      refine r_getR C (c := 0) (r := (RX1, TX1, 19)) rfl 1 (by decide) rfl ev10 q422 dX1_empty_32 ?_
      refine r_aload_n C 1 dX1_empty_35 rfl rfl ?_
      refine r_iload C 3 dX1_empty_36 rfl ?_
      obtain ⟨u12, eu12, h⟩ := bs h
      obtain ⟨q11, eq11, h⟩ := bs h
      refine r_callV C (As := [vO a2, vI x4]) (b := v10) (rest := [vI 2]) (st1 := [vI q11.1, vI 2]) (v := some (vI q11.1)) (r := (RX6, TX6, 6)) (ci := 4) rfl eu12 (m_X6_root C.tr eq11) (lw_V q1134 q1135 q1136 q128 q1137) rfl hdX6_root rfl rfl (Nat.le_of_ble_eq_true rfl) ⟨by decide, by decide⟩ dX1_empty_38 rfl ?_
      refine r_imul C dX1_empty_41 ?_
      refine r_aload_n C 1 dX1_empty_42 rfl rfl ?_
      obtain ⟨v13, ev13, h⟩ := bs h
      refine r_getIN C (c := 6) (r := (RX8, TX8, 2)) rfl 1 (by decide) rfl ev13 (lw_n q309 rfl) dX1_empty_43 ?_
      refine r_icmp_le C dX1_empty_46 (tgt := 53) (by decide) (fun c14 => ?_) (fun c14 => ?_)
      · have h := it_ h c14
        refine r_iconst C dX1_empty_53 ?_
        refine r_istore_n C [(3, vI 0), (0, vO a0), (2, vO a2), (4, vI x4)] dX1_empty_54 rfl (by decide) rfl ?_
        refine r_iinc C 3 [(4, vI (x4 + 1)), (3, vI 0), (0, vO a0), (2, vO a2)] dX1_empty_55 rfl (by decide) rfl ?_
        refine r_goto C dX1_empty_58 (tgt := 11) (by decide) ?_
        cases h
        refine r_sub [2, 3, 1, 0] rfl ?_
        exact hK
      · have h := ie_ h c14
        refine r_iconst C dX1_empty_49 ?_
        refine r_goto C dX1_empty_50 (tgt := 54) (by decide) ?_
        refine r_istore_n C [(3, vI 1), (0, vO a0), (2, vO a2), (4, vI x4)] dX1_empty_54 rfl (by decide) rfl ?_
        refine r_iinc C 3 [(4, vI (x4 + 1)), (3, vI 1), (0, vO a0), (2, vO a2)] dX1_empty_55 rfl (by decide) rfl ?_
        refine r_goto C dX1_empty_58 (tgt := 11) (by decide) ?_
        cases h
        refine r_sub [2, 3, 1, 0] rfl ?_
        exact hK
noncomputable def s_X1_empty_l11 (a0 : Nat) (a2 : Nat) (x3 : Int) (x4 : Int) (μ : Me) : Option (Ex ⊕ (Int × Me)) :=
  whileO (fun s : Int × Int × Me => s_X1_empty_l11_st a0 a2 s.1 s.2.1 s.2.2) (x3, x4, μ)
theorem e_X1_empty_l11 (a0 : Nat) (a2 : Nat) (x3 : Int) (x4 : Int) (μ : Me) : s_X1_empty_l11 a0 a2 x3 x4 μ = (s_X1_empty_l11_st a0 a2 x3 x4 μ).bind fun x => x.elim (fun s : Int × Int × Me => s_X1_empty_l11 a0 a2 s.1 s.2.1 s.2.2) some := whileO_eq _ _
theorem w_X1_empty_l11 {Z : Zt} {fin : Ex ⊕ (Int × Me)} {w : (Ex ⊕ (Int × Me))} (C : CX Z yX1_empty cX1_empty (some .boolean) 8 5) (X : XE Z) {a0 : Nat} {a2 : Nat} {x3 : Int} {x4 : Int} {μ : Me} (h : s_X1_empty_l11 a0 a2 x3 x4 μ = some w) (hK : (fun r : Ex ⊕ (Int × Me) => r = fin) w) : WL Z (XQ Z (zoI fin) (zmI fin)) μ 11 [(0, vO a0), (2, vO a2), (3, vI x3), (4, vI x4)] [] := by
  refine whileO_walk (w := w) (fun s : Int × Int × Me => WL Z (XQ Z (zoI fin) (zmI fin)) s.2.2 11 [(0, vO a0), (2, vO a2), (3, vI s.1), (4, vI s.2.1)] []) (fun s v h2 hi hr => ?_) (x3, x4, μ) h
  refine w_X1_empty_l11_st (fin := fin) C X h2 ?_
  cases v with
  | inl s2 => exact hi s2 rfl
  | inr r => have e := hr r rfl; subst e; exact hK
noncomputable def s_X1_empty (a0 : Nat) (x1 : Int) (μ : Me) : Option (Ex ⊕ (Int × Me)) :=
  (ck μ 0 a0).bind fun _ =>
  xb (s_X1_formAt a0 x1 μ) (fun e2 => some (.inl e2)) fun q1 =>
  s_X1_empty_l11 a0 q1.1 0 0 q1.2
theorem w_X1_empty {Z : Zt} {fin : Ex ⊕ (Int × Me)} {w : Ex ⊕ (Int × Me)} (C : CX Z yX1_empty cX1_empty (some .boolean) 8 5) (X : XE Z) {a0 : Nat} {x1 : Int} {μ : Me} (h : s_X1_empty a0 x1 μ = some w) (hK : w = fin) : WL Z (XQ Z (zoI fin) (zmI fin)) μ 0 [(0, vO a0), (1, vI x1)] [] := by
  unfold s_X1_empty at h
  refine r_aload_n C 0 dX1_empty_0 rfl rfl ?_
  refine r_iload_n C 1 dX1_empty_1 rfl rfl ?_
  obtain ⟨u3, eu3, h⟩ := bs h
  rcases xbs h with ⟨e2, eq1, h⟩ | ⟨q1, eq1, h⟩
  · refine r_xVx C (As := [vI x1]) (b := a0) (rest := []) (μ1 := e2.2.2) (r := (RX1, TX1, 19)) (ci := 0) rfl eu3 (m_X1_formAt C.tr eq1) (lw_V q799 q801 qs15 q120 q802) rfl hdX1_formAt rfl rfl (Nat.le_of_ble_eq_true rfl) ⟨by decide, by decide⟩ dX1_empty_2 ?_
    cases h
    exact r_xoutI C X hK
  · refine r_xV C (As := [vI x1]) (b := a0) (rest := []) (st1 := [vO q1.1]) (v := some (vO q1.1)) (μ1 := q1.2) (r := (RX1, TX1, 19)) (ci := 0) rfl eu3 (m_X1_formAt C.tr eq1) (lw_V q799 q801 qs15 q120 q802) rfl hdX1_formAt rfl rfl (Nat.le_of_ble_eq_true rfl) ⟨by decide, by decide⟩ dX1_empty_2 rfl ?_
    refine r_astore_n C [(2, vO q1.1), (0, vO a0), (1, vI x1)] dX1_empty_5 rfl (by decide) rfl ?_
    refine r_iconst C dX1_empty_6 ?_
    refine r_istore_n C [(3, vI 0), (2, vO q1.1), (0, vO a0), (1, vI x1)] dX1_empty_7 rfl (by decide) rfl ?_
    refine r_iconst C dX1_empty_8 ?_
    refine r_istore C [(4, vI 0), (3, vI 0), (2, vO q1.1), (0, vO a0), (1, vI x1)] dX1_empty_9 (by decide) rfl ?_
    refine r_sub [3, 2, 1, 0] rfl ?_
    exact w_X1_empty_l11 (fin := fin) C X h hK
theorem hdX1_empty : zhd yX1_empty 1 := by decide +kernel
theorem m_X1_empty {l : Launch} {D : va_G} {b0 : Nat} (hl : l.stackTraces = false) {a0 : Nat} {x1 : Int} {μ : Me} {w : Ex ⊕ (Int × Me)} (h : s_X1_empty a0 x1 μ = some w) : XN l D b0 yX1_empty (ws_ yX1_empty cX1_empty 5 (some .boolean)) 8 [vO a0, vI x1] μ (zoI w) (zmI w) :=
  XN.of hl (by decide +kernel) (Nat.le_of_ble_eq_true rfl) (fun Z C X _ _ => w_X1_empty C X h rfl)
noncomputable def s_X1_same (a0 : Nat) (x1 : Int) (x2 : Int) (μ : Me) : Option (Ex ⊕ (Int × Me)) :=
  (ck μ 0 a0).bind fun _ =>
  xb (s_X1_formAt a0 x1 μ) (fun e2 => some (.inl e2)) fun q1 =>
  (ck q1.2 0 a0).bind fun _ =>
  xb (s_X1_formAt a0 x2 q1.2) (fun e5 => some (.inl e5)) fun q4 =>
  (gI q4.2 6 q1.1 1).bind fun v7 =>
  (gI q4.2 6 q4.1 1).bind fun v8 =>
  (if w32 v7 = w32 v8 then
  (ck q4.2 0 a0).bind fun _ =>
  (s_X1_tables a0 q1.1 q4.1 1 q4.2).bind fun q10 =>
  some (.inr (q10.1, q10.2))
  else
  some (.inr ((-1), q4.2)))
theorem w_X1_same {Z : Zt} {fin : Ex ⊕ (Int × Me)} {w : Ex ⊕ (Int × Me)} (C : CX Z yX1_same cX1_same (some .int) 8 5) (X : XE Z) {a0 : Nat} {x1 : Int} {x2 : Int} {μ : Me} (h : s_X1_same a0 x1 x2 μ = some w) (hK : w = fin) : WL Z (XQ Z (zoI fin) (zmI fin)) μ 0 [(0, vO a0), (1, vI x1), (2, vI x2)] [] := by
  unfold s_X1_same at h
  refine r_aload_n C 0 dX1_same_0 rfl rfl ?_
  refine r_iload_n C 1 dX1_same_1 rfl rfl ?_
  obtain ⟨u3, eu3, h⟩ := bs h
  rcases xbs h with ⟨e2, eq1, h⟩ | ⟨q1, eq1, h⟩
  · refine r_xVx C (As := [vI x1]) (b := a0) (rest := []) (μ1 := e2.2.2) (r := (RX1, TX1, 19)) (ci := 0) rfl eu3 (m_X1_formAt C.tr eq1) (lw_V q799 q801 qs15 q120 q802) rfl hdX1_formAt rfl rfl (Nat.le_of_ble_eq_true rfl) ⟨by decide, by decide⟩ dX1_same_2 ?_
    cases h
    exact r_xoutI C X hK
  · refine r_xV C (As := [vI x1]) (b := a0) (rest := []) (st1 := [vO q1.1]) (v := some (vO q1.1)) (μ1 := q1.2) (r := (RX1, TX1, 19)) (ci := 0) rfl eu3 (m_X1_formAt C.tr eq1) (lw_V q799 q801 qs15 q120 q802) rfl hdX1_formAt rfl rfl (Nat.le_of_ble_eq_true rfl) ⟨by decide, by decide⟩ dX1_same_2 rfl ?_
    refine r_astore_n C [(3, vO q1.1), (0, vO a0), (1, vI x1), (2, vI x2)] dX1_same_5 rfl (by decide) rfl ?_
    refine r_aload_n C 1 dX1_same_6 rfl rfl ?_
    refine r_iload_n C 3 dX1_same_7 rfl rfl ?_
    obtain ⟨u6, eu6, h⟩ := bs h
    rcases xbs h with ⟨e5, eq4, h⟩ | ⟨q4, eq4, h⟩
    · refine r_xVx C (As := [vI x2]) (b := a0) (rest := []) (μ1 := e5.2.2) (r := (RX1, TX1, 19)) (ci := 0) rfl eu6 (m_X1_formAt C.tr eq4) (lw_V q799 q801 qs15 q120 q802) rfl hdX1_formAt rfl rfl (Nat.le_of_ble_eq_true rfl) ⟨by decide, by decide⟩ dX1_same_8 ?_
      cases h
      exact r_xoutI C X hK
    · refine r_xV C (As := [vI x2]) (b := a0) (rest := []) (st1 := [vO q4.1]) (v := some (vO q4.1)) (μ1 := q4.2) (r := (RX1, TX1, 19)) (ci := 0) rfl eu6 (m_X1_formAt C.tr eq4) (lw_V q799 q801 qs15 q120 q802) rfl hdX1_formAt rfl rfl (Nat.le_of_ble_eq_true rfl) ⟨by decide, by decide⟩ dX1_same_8 rfl ?_
      refine r_astore C [(4, vO q4.1), (3, vO q1.1), (0, vO a0), (1, vI x1), (2, vI x2)] dX1_same_11 (by decide) rfl ?_
      refine r_aload_n C 1 dX1_same_13 rfl rfl ?_
      obtain ⟨v7, ev7, h⟩ := bs h
      refine r_getIN C (c := 6) (r := (RX8, TX8, 2)) rfl 1 (by decide) rfl ev7 (lw_n q309 rfl) dX1_same_14 ?_
      refine r_aload C 0 dX1_same_17 rfl ?_
      obtain ⟨v8, ev8, h⟩ := bs h
      refine r_getIN C (c := 6) (r := (RX8, TX8, 2)) rfl 1 (by decide) rfl ev8 (lw_n q309 rfl) dX1_same_19 ?_
      refine r_icmp_ne C dX1_same_22 (tgt := 36) (by decide) (fun c9 => ?_) (fun c9 => ?_)
      · have h := ie_ h c9
        refine r_iconst C dX1_same_36 ?_
        cases h
        exact r_xiret C hK dX1_same_37
      · have h := it_ h c9
        refine r_aload_n C 2 dX1_same_25 rfl rfl ?_
        refine r_aload_n C 1 dX1_same_26 rfl rfl ?_
        refine r_aload C 0 dX1_same_27 rfl ?_
        refine r_iconst C dX1_same_29 ?_
        obtain ⟨u11, eu11, h⟩ := bs h
        obtain ⟨q10, eq10, h⟩ := bs h
        refine r_callV C (As := [vO q1.1, vO q4.1, vI 1]) (b := a0) (rest := []) (st1 := [vI q10.1]) (v := some (vI q10.1)) (r := (RX1, TX1, 19)) (ci := 0) rfl eu11 (m_X1_tables C.tr eq10) (lw_V q1058 q1060 qs24 q120 q1061) rfl hdX1_tables rfl rfl (Nat.le_of_ble_eq_true rfl) ⟨by decide, by decide⟩ dX1_same_30 rfl ?_
        refine r_goto C dX1_same_33 (tgt := 37) (by decide) ?_
        cases h
        exact r_xiret C hK dX1_same_37
theorem hdX1_same : zhd yX1_same 2 := by decide +kernel
theorem m_X1_same {l : Launch} {D : va_G} {b0 : Nat} (hl : l.stackTraces = false) {a0 : Nat} {x1 : Int} {x2 : Int} {μ : Me} {w : Ex ⊕ (Int × Me)} (h : s_X1_same a0 x1 x2 μ = some w) : XN l D b0 yX1_same (ws_ yX1_same cX1_same 5 (some .int)) 8 [vO a0, vI x1, vI x2] μ (zoI w) (zmI w) :=
  XN.of hl (by decide +kernel) (Nat.le_of_ble_eq_true rfl) (fun Z C X _ _ => w_X1_same C X h rfl)
noncomputable def s_X1_keep (a0 : Nat) (x1 : Int) (μ : Me) : Option (Ex ⊕ (Int × Me)) :=
  (ck μ 0 a0).bind fun _ =>
  xb (s_X1_formAt a0 x1 μ) (fun e2 => some (.inl e2)) fun q1 =>
  (ck q1.2 0 a0).bind fun _ =>
  (s_X1_tables a0 q1.1 q1.1 0 q1.2).bind fun q4 =>
  some (.inr (q4.1, q4.2))
theorem w_X1_keep {Z : Zt} {fin : Ex ⊕ (Int × Me)} {w : Ex ⊕ (Int × Me)} (C : CX Z yX1_keep cX1_keep (some .int) 8 3) (X : XE Z) {a0 : Nat} {x1 : Int} {μ : Me} (h : s_X1_keep a0 x1 μ = some w) (hK : w = fin) : WL Z (XQ Z (zoI fin) (zmI fin)) μ 0 [(0, vO a0), (1, vI x1)] [] := by
  unfold s_X1_keep at h
  refine r_aload_n C 0 dX1_keep_0 rfl rfl ?_
  refine r_iload_n C 1 dX1_keep_1 rfl rfl ?_
  obtain ⟨u3, eu3, h⟩ := bs h
  rcases xbs h with ⟨e2, eq1, h⟩ | ⟨q1, eq1, h⟩
  · refine r_xVx C (As := [vI x1]) (b := a0) (rest := []) (μ1 := e2.2.2) (r := (RX1, TX1, 19)) (ci := 0) rfl eu3 (m_X1_formAt C.tr eq1) (lw_V q799 q801 qs15 q120 q802) rfl hdX1_formAt rfl rfl (Nat.le_of_ble_eq_true rfl) ⟨by decide, by decide⟩ dX1_keep_2 ?_
    cases h
    exact r_xoutI C X hK
  · refine r_xV C (As := [vI x1]) (b := a0) (rest := []) (st1 := [vO q1.1]) (v := some (vO q1.1)) (μ1 := q1.2) (r := (RX1, TX1, 19)) (ci := 0) rfl eu3 (m_X1_formAt C.tr eq1) (lw_V q799 q801 qs15 q120 q802) rfl hdX1_formAt rfl rfl (Nat.le_of_ble_eq_true rfl) ⟨by decide, by decide⟩ dX1_keep_2 rfl ?_
    refine r_astore_n C [(2, vO q1.1), (0, vO a0), (1, vI x1)] dX1_keep_5 rfl (by decide) rfl ?_
    refine r_aload_n C 1 dX1_keep_6 rfl rfl ?_
    refine r_aload_n C 0 dX1_keep_7 rfl rfl ?_
    refine r_aload_n C 0 dX1_keep_8 rfl rfl ?_
    refine r_iconst C dX1_keep_9 ?_
    obtain ⟨u5, eu5, h⟩ := bs h
    obtain ⟨q4, eq4, h⟩ := bs h
    refine r_callV C (As := [vO q1.1, vO q1.1, vI 0]) (b := a0) (rest := []) (st1 := [vI q4.1]) (v := some (vI q4.1)) (r := (RX1, TX1, 19)) (ci := 0) rfl eu5 (m_X1_tables C.tr eq4) (lw_V q1058 q1060 qs24 q120 q1061) rfl hdX1_tables rfl rfl (Nat.le_of_ble_eq_true rfl) ⟨by decide, by decide⟩ dX1_keep_10 rfl ?_
    cases h
    exact r_xiret C hK dX1_keep_13
theorem hdX1_keep : zhd yX1_keep 1 := by decide +kernel
theorem m_X1_keep {l : Launch} {D : va_G} {b0 : Nat} (hl : l.stackTraces = false) {a0 : Nat} {x1 : Int} {μ : Me} {w : Ex ⊕ (Int × Me)} (h : s_X1_keep a0 x1 μ = some w) : XN l D b0 yX1_keep (ws_ yX1_keep cX1_keep 3 (some .int)) 8 [vO a0, vI x1] μ (zoI w) (zmI w) :=
  XN.of hl (by decide +kernel) (Nat.le_of_ble_eq_true rfl) (fun Z C X _ _ => w_X1_keep C X h rfl)
noncomputable def s_X1_line_b90 (a0 : Nat) (x1 : Int) (x2 : Int) (a3 : Nat)  (μ : Me) : Option (Me) :=
  (gR μ 6 a3 0).bind fun v7 =>
  (gR μ 0 a0 10).bind fun v8 =>
  (aR μ 105 v8 x1).bind fun v9 =>
  (cpI μ v7 0 v9 0 (x2 + 1)).bind fun m10 =>
  some m10
theorem w_X1_line_b90 {Z : Zt} {fin : Me} {w : (Me)} (C : CX Z yX1_line cX1_line none 3 5) {a0 : Nat} {x1 : Int} {x2 : Int} {a3 : Nat}  {μ : Me} (h : s_X1_line_b90 a0 x1 x2 a3 μ = some w) (hK : (fun r : Me => r = fin) w) : WL Z (QN Z none fin) μ 90 [(0, vO a0), (1, vI x1), (2, vI x2), (3, vO a3)] [] := by
  unfold s_X1_line_b90 at h
  refine r_aload_n C 3 dX1_line_90 rfl rfl ?_
  obtain ⟨v7, ev7, h⟩ := bs h
  refine r_getRN C (c := 6) (r := (RX8, TX8, 2)) rfl 0 (by decide) rfl ev7 (lw_n q304 rfl) dX1_line_91 ?_
  refine r_iconst C dX1_line_94 ?_
  refine r_aload_n C 0 dX1_line_95 rfl rfl ?_
  obtain ⟨v8, ev8, h⟩ := bs h
  refine r_getR C (c := 0) (r := (RX1, TX1, 19)) rfl 10 (by decide) rfl ev8 q438 dX1_line_96 ?_
  refine r_iload_n C 1 dX1_line_99 rfl rfl ?_
  obtain ⟨v9, ev9, h⟩ := bs h
  refine r_aald C (kt := 4) ev9 rfl rfl ⟨by decide, by decide⟩ dX1_line_100 ?_
  refine r_iconst C dX1_line_101 ?_
  refine r_iload_n C 2 dX1_line_102 rfl rfl ?_
  refine r_iconst C dX1_line_103 ?_
  refine r_iadd C dX1_line_104 ?_
  obtain ⟨m10, em10, h⟩ := bs h
  refine r_copyI C em10 q646 q516 q515 q138 (by decide) (Nat.le_of_ble_eq_true rfl) dX1_line_105 ?_
  cases h
  exact r_vret C hK dX1_line_108
noncomputable def s_X1_line_b50 (a0 : Nat) (x1 : Int) (x2 : Int) (a3 : Nat) (x4 : Int) (t0 : Int) (t1 : Nat) (t2 : Nat) (μ : Me) : Option ((Int × Me) ⊕ (Me)) :=
  (gR μ 0 a0 1).bind fun v16 =>
  (gR μ 4 v16 0).bind fun v17 =>
  (gI μ 5 v17 0).bind fun v18 =>
  (if w32 x1 = w32 v18 then
  (ck μ 4 t2).bind fun _ =>
  (s_X6_times t2 t1 t0 1 μ).bind fun q26 =>
  some (.inl ((x4 + 1), q26))
  else
  (gR μ 0 a0 1).bind fun v20 =>
  (gR μ 4 v20 0).bind fun v21 =>
  (ck μ 5 v21).bind fun _ =>
  (s_X7_of v21 (w32 (-x1)) μ).bind fun q22 =>
  (ck q22.2 4 t2).bind fun _ =>
  (s_X6_times t2 t1 t0 q22.1 q22.2).bind fun q24 =>
  some (.inl ((x4 + 1), q24)))
theorem w_X1_line_b50 {Z : Zt} {fin : Me} {w : ((Int × Me) ⊕ (Me))} (C : CX Z yX1_line cX1_line none 3 5) {a0 : Nat} {x1 : Int} {x2 : Int} {a3 : Nat} {x4 : Int} {t0 : Int} {t1 : Nat} {t2 : Nat} {μ : Me} (h : s_X1_line_b50 a0 x1 x2 a3 x4 t0 t1 t2 μ = some w) (hK : (Sum.elim (fun s : Int × Me => WL Z (QN Z none fin) s.2 20 [(0, vO a0), (1, vI x1), (2, vI x2), (3, vO a3), (4, vI s.1)] []) (fun r : Me => r = fin)) w) : WL Z (QN Z none fin) μ 50 [(0, vO a0), (1, vI x1), (2, vI x2), (3, vO a3), (4, vI x4)] [vI t0, vO t1, vO t2] := by
  unfold s_X1_line_b50 at h
  refine r_iload_n C 1 dX1_line_50 rfl rfl ?_
  refine r_aload_n C 0 dX1_line_51 rfl rfl ?_
  obtain ⟨v16, ev16, h⟩ := bs h
  refine r_getR C (c := 0) (r := (RX1, TX1, 19)) rfl 1 (by decide) rfl ev16 q422 dX1_line_52 ?_
  obtain ⟨v17, ev17, h⟩ := bs h
  refine r_getRN C (c := 4) (r := (RX6, TX6, 6)) rfl 0 (by decide) rfl ev17 (lw_n q320 rfl) dX1_line_55 ?_
  obtain ⟨v18, ev18, h⟩ := bs h
  refine r_getIN C (c := 5) (r := (RX7, TX7, 1)) rfl 0 (by decide) rfl ev18 (lw_n q289 rfl) dX1_line_58 ?_
  refine r_icmp_ne C dX1_line_61 (tgt := 68) (by decide) (fun c19 => ?_) (fun c19 => ?_)
  · have h := ie_ h c19
    refine r_aload_n C 0 dX1_line_68 rfl rfl ?_
    obtain ⟨v20, ev20, h⟩ := bs h
    refine r_getR C (c := 0) (r := (RX1, TX1, 19)) rfl 1 (by decide) rfl ev20 q422 dX1_line_69 ?_
    obtain ⟨v21, ev21, h⟩ := bs h
    refine r_getRN C (c := 4) (r := (RX6, TX6, 6)) rfl 0 (by decide) rfl ev21 (lw_n q320 rfl) dX1_line_72 ?_
    refine r_iload_n C 1 dX1_line_75 rfl rfl ?_
    refine r_ineg C dX1_line_76 ?_
    refine r_i2l C dX1_line_77 ?_
    obtain ⟨u23, eu23, h⟩ := bs h
    obtain ⟨q22, eq22, h⟩ := bs h
    refine r_callV C (As := [vJ (w32 (-x1))]) (b := v21) (rest := [vI t0, vO t1, vO t2]) (st1 := [vI q22.1, vI t0, vO t1, vO t2]) (v := some (vI q22.1)) (r := (RX7, TX7, 1)) (ci := 5) rfl eu23 (m_X7_of C.tr eq22) (lw_V q631 q632 q633 q129 q634) rfl hdX7_of rfl rfl (Nat.le_of_ble_eq_true rfl) ⟨by decide, by decide⟩ dX1_line_78 rfl ?_
    obtain ⟨u25, eu25, h⟩ := bs h
    obtain ⟨q24, eq24, h⟩ := bs h
    refine r_callV C (As := [vO t1, vI t0, vI q22.1]) (b := t2) (rest := []) (st1 := []) (v := none) (r := (RX6, TX6, 6)) (ci := 4) rfl eu25 (m_X6_times C.tr eq24) (lw_V q1182 q865 q866 q128 q867) rfl hdX6_times rfl rfl (Nat.le_of_ble_eq_true rfl) ⟨by decide, by decide⟩ dX1_line_81 rfl ?_
    refine r_iinc C 4 [(4, vI (x4 + 1)), (0, vO a0), (1, vI x1), (2, vI x2), (3, vO a3)] dX1_line_84 rfl (by decide) rfl ?_
    refine r_goto C dX1_line_87 (tgt := 20) (by decide) ?_
    cases h
    refine r_sub [1, 2, 3, 4, 0] rfl ?_
    exact hK
  · have h := it_ h c19
    refine r_iconst C dX1_line_64 ?_
    refine r_goto C dX1_line_65 (tgt := 81) (by decide) ?_
    obtain ⟨u27, eu27, h⟩ := bs h
    obtain ⟨q26, eq26, h⟩ := bs h
    refine r_callV C (As := [vO t1, vI t0, vI 1]) (b := t2) (rest := []) (st1 := []) (v := none) (r := (RX6, TX6, 6)) (ci := 4) rfl eu27 (m_X6_times C.tr eq26) (lw_V q1182 q865 q866 q128 q867) rfl hdX6_times rfl rfl (Nat.le_of_ble_eq_true rfl) ⟨by decide, by decide⟩ dX1_line_81 rfl ?_
    refine r_iinc C 4 [(4, vI (x4 + 1)), (0, vO a0), (1, vI x1), (2, vI x2), (3, vO a3)] dX1_line_84 rfl (by decide) rfl ?_
    refine r_goto C dX1_line_87 (tgt := 20) (by decide) ?_
    cases h
    refine r_sub [1, 2, 3, 4, 0] rfl ?_
    exact hK
noncomputable def s_X1_line_l20_st (a0 : Nat) (x1 : Int) (x2 : Int) (a3 : Nat) (x4 : Int) (μ : Me) : Option ((Int × Me) ⊕ (Me)) :=
  (if w32 x2 ≤ w32 x4 then
  (s_X1_line_b90 a0 x1 x2 a3 μ).map Sum.inr
  else
  (gR μ 0 a0 1).bind fun v11 =>
  (gR μ 0 a0 1).bind fun v12 =>
  (gR μ 4 v12 0).bind fun v13 =>
  (gI μ 5 v13 0).bind fun v14 =>
  (if w32 x1 = w32 v14 then
  s_X1_line_b50 a0 x1 x2 a3 x4 0 a3 v11 μ
  else
  s_X1_line_b50 a0 x1 x2 a3 x4 1 a3 v11 μ))
theorem w_X1_line_l20_st {Z : Zt} {fin : Me} {w : ((Int × Me) ⊕ (Me))} (C : CX Z yX1_line cX1_line none 3 5) {a0 : Nat} {x1 : Int} {x2 : Int} {a3 : Nat} {x4 : Int} {μ : Me} (h : s_X1_line_l20_st a0 x1 x2 a3 x4 μ = some w) (hK : (Sum.elim (fun s : Int × Me => WL Z (QN Z none fin) s.2 20 [(0, vO a0), (1, vI x1), (2, vI x2), (3, vO a3), (4, vI s.1)] []) (fun r : Me => r = fin)) w) : WL Z (QN Z none fin) μ 20 [(0, vO a0), (1, vI x1), (2, vI x2), (3, vO a3), (4, vI x4)] [] := by
  unfold s_X1_line_l20_st at h
  refine r_iload C 4 dX1_line_20 rfl ?_
  refine r_iload_n C 2 dX1_line_22 rfl rfl ?_
  refine r_icmp_ge C dX1_line_23 (tgt := 90) (by decide) (fun c6 => ?_) (fun c6 => ?_)
  · have h := it_ h c6
    obtain ⟨z, hz, ez⟩ := ms_ h; clear h; subst ez; have h := hz; clear hz
    refine r_sub [0, 1, 2, 3] rfl ?_
    exact w_X1_line_b90 (fin := fin) C h hK
  · have h := ie_ h c6
    refine r_aload_n C 0 dX1_line_26 rfl rfl ?_
    obtain ⟨v11, ev11, h⟩ := bs h
    refine r_getR C (c := 0) (r := (RX1, TX1, 19)) rfl 1 (by decide) rfl ev11 q422 dX1_line_27 ?_
    refine r_aload_n C 3 dX1_line_30 rfl rfl ?_
    refine r_iload_n C 1 dX1_line_31 rfl rfl ?_
    refine r_aload_n C 0 dX1_line_32 rfl rfl ?_
    obtain ⟨v12, ev12, h⟩ := bs h
    refine r_getR C (c := 0) (r := (RX1, TX1, 19)) rfl 1 (by decide) rfl ev12 q422 dX1_line_33 ?_
    obtain ⟨v13, ev13, h⟩ := bs h
    refine r_getRN C (c := 4) (r := (RX6, TX6, 6)) rfl 0 (by decide) rfl ev13 (lw_n q320 rfl) dX1_line_36 ?_
    obtain ⟨v14, ev14, h⟩ := bs h
    refine r_getIN C (c := 5) (r := (RX7, TX7, 1)) rfl 0 (by decide) rfl ev14 (lw_n q289 rfl) dX1_line_39 ?_
    refine r_icmp_ne C dX1_line_42 (tgt := 49) (by decide) (fun c15 => ?_) (fun c15 => ?_)
    · have h := ie_ h c15
      refine r_iconst C dX1_line_49 ?_
      exact w_X1_line_b50 (fin := fin) C h hK
    · have h := it_ h c15
      refine r_iconst C dX1_line_45 ?_
      refine r_goto C dX1_line_46 (tgt := 50) (by decide) ?_
      exact w_X1_line_b50 (fin := fin) C h hK
noncomputable def s_X1_line_l20 (a0 : Nat) (x1 : Int) (x2 : Int) (a3 : Nat) (x4 : Int) (μ : Me) : Option (Me) :=
  whileO (fun s : Int × Me => s_X1_line_l20_st a0 x1 x2 a3 s.1 s.2) (x4, μ)
theorem e_X1_line_l20 (a0 : Nat) (x1 : Int) (x2 : Int) (a3 : Nat) (x4 : Int) (μ : Me) : s_X1_line_l20 a0 x1 x2 a3 x4 μ = (s_X1_line_l20_st a0 x1 x2 a3 x4 μ).bind fun x => x.elim (fun s : Int × Me => s_X1_line_l20 a0 x1 x2 a3 s.1 s.2) some := whileO_eq _ _
theorem w_X1_line_l20 {Z : Zt} {fin : Me} {w : (Me)} (C : CX Z yX1_line cX1_line none 3 5) {a0 : Nat} {x1 : Int} {x2 : Int} {a3 : Nat} {x4 : Int} {μ : Me} (h : s_X1_line_l20 a0 x1 x2 a3 x4 μ = some w) (hK : (fun r : Me => r = fin) w) : WL Z (QN Z none fin) μ 20 [(0, vO a0), (1, vI x1), (2, vI x2), (3, vO a3), (4, vI x4)] [] := by
  refine whileO_walk (w := w) (fun s : Int × Me => WL Z (QN Z none fin) s.2 20 [(0, vO a0), (1, vI x1), (2, vI x2), (3, vO a3), (4, vI s.1)] []) (fun s v h2 hi hr => ?_) (x4, μ) h
  refine w_X1_line_l20_st (fin := fin) C h2 ?_
  cases v with
  | inl s2 => exact hi s2 rfl
  | inr r => have e := hr r rfl; subst e; exact hK
noncomputable def s_X1_line (a0 : Nat) (x1 : Int) (x2 : Int) (μ : Me) : Option (Me) :=
  (gR μ 0 a0 6).bind fun v1 =>
  (ck μ 6 v1).bind fun _ =>
  (s_X8_nought v1 0 μ).bind fun q2 =>
  (gR q2 6 v1 0).bind fun v4 =>
  (uI q2 v4 0 1).bind fun m5 =>
  s_X1_line_l20 a0 x1 x2 v1 0 m5
theorem w_X1_line {Z : Zt} {fin : Me} {w : Me} (C : CX Z yX1_line cX1_line none 3 5) {a0 : Nat} {x1 : Int} {x2 : Int} {μ : Me} (h : s_X1_line a0 x1 x2 μ = some w) (hK : w = fin) : WL Z (QN Z none fin) μ 0 [(0, vO a0), (1, vI x1), (2, vI x2)] [] := by
  unfold s_X1_line at h
  refine r_aload_n C 0 dX1_line_0 rfl rfl ?_
  obtain ⟨v1, ev1, h⟩ := bs h
  refine r_getR C (c := 0) (r := (RX1, TX1, 19)) rfl 6 (by decide) rfl ev1 q434 dX1_line_1 ?_
  refine r_astore_n C [(3, vO v1), (0, vO a0), (1, vI x1), (2, vI x2)] dX1_line_4 rfl (by decide) rfl ?_
  refine r_aload_n C 0 dX1_line_5 rfl rfl ?_
  refine r_iconst C dX1_line_6 ?_
  obtain ⟨u3, eu3, h⟩ := bs h
  obtain ⟨q2, eq2, h⟩ := bs h
  refine r_callV C (As := [vI 0]) (b := v1) (rest := []) (st1 := []) (v := none) (r := (RX8, TX8, 2)) (ci := 6) rfl eu3 (m_X8_nought C.tr eq2) (lw_V q627 q628 q629 q130 q630) rfl hdX8_nought rfl rfl (Nat.le_of_ble_eq_true rfl) ⟨by decide, by decide⟩ dX1_line_7 rfl ?_
  refine r_aload_n C 0 dX1_line_10 rfl rfl ?_
  obtain ⟨v4, ev4, h⟩ := bs h
  refine r_getRN C (c := 6) (r := (RX8, TX8, 2)) rfl 0 (by decide) rfl ev4 (lw_n q304 rfl) dX1_line_11 ?_
  refine r_iconst C dX1_line_14 ?_
  refine r_iconst C dX1_line_15 ?_
  obtain ⟨m5, em5, h⟩ := bs h
  refine r_iast C em5 dX1_line_16 ?_
  refine r_iconst C dX1_line_17 ?_
  refine r_istore C [(4, vI 0), (3, vO v1), (0, vO a0), (1, vI x1), (2, vI x2)] dX1_line_18 (by decide) rfl ?_
  refine r_sub [2, 3, 4, 1, 0] rfl ?_
  exact w_X1_line_l20 (fin := fin) C h hK
theorem hdX1_line : zhd yX1_line 2 := by decide +kernel
theorem m_X1_line {l : Launch} {D : va_G} {b0 : Nat} (hl : l.stackTraces = false) {a0 : Nat} {x1 : Int} {x2 : Int} {μ : Me} {w : Me} (h : s_X1_line a0 x1 x2 μ = some w) : MN l D b0 yX1_line (ws_ yX1_line cX1_line 5 none) 3 [vO a0, vI x1, vI x2] μ none w :=
  MN.of hl (by decide +kernel) (Nat.le_of_ble_eq_true rfl) (fun Z C _ _ => w_X1_line C h rfl)
noncomputable def s_X1_common (a0 : Nat) (x1 : Int) (x2 : Int) (x3 : Int) (μ : Me) : Option (Ex ⊕ (Int × Me)) :=
  (ck μ 0 a0).bind fun _ =>
  xb (s_X1_formAt a0 x1 μ) (fun e2 => some (.inl e2)) fun q1 =>
  (ck q1.2 0 a0).bind fun _ =>
  xb (s_X1_formAt a0 x2 q1.2) (fun e5 => some (.inl e5)) fun q4 =>
  (ck q4.2 6 q1.1).bind fun _ =>
  (s_X8_isNought q1.1 q4.2).bind fun q7 =>
  (if w32 q7.1 = 0 then
  (ck q7.2 6 q4.1).bind fun _ =>
  (s_X8_isNought q4.1 q7.2).bind fun q10 =>
  (if w32 q10.1 = 0 then
  (ck q10.2 0 a0).bind fun _ =>
  (s_X1_commons a0 q1.1 q4.1 q10.2).bind fun q13 =>
  (s_X1_tells q13.1 x3 q13.2).bind fun q15 =>
  some (.inr (q15.1, q15.2))
  else
  some (.inr ((-2), q10.2)))
  else
  some (.inr ((-2), q7.2)))
theorem w_X1_common {Z : Zt} {fin : Ex ⊕ (Int × Me)} {w : Ex ⊕ (Int × Me)} (C : CX Z yX1_common cX1_common (some .int) 8 6) (X : XE Z) {a0 : Nat} {x1 : Int} {x2 : Int} {x3 : Int} {μ : Me} (h : s_X1_common a0 x1 x2 x3 μ = some w) (hK : w = fin) : WL Z (XQ Z (zoI fin) (zmI fin)) μ 0 [(0, vO a0), (1, vI x1), (2, vI x2), (3, vI x3)] [] := by
  unfold s_X1_common at h
  refine r_aload_n C 0 dX1_common_0 rfl rfl ?_
  refine r_iload_n C 1 dX1_common_1 rfl rfl ?_
  obtain ⟨u3, eu3, h⟩ := bs h
  rcases xbs h with ⟨e2, eq1, h⟩ | ⟨q1, eq1, h⟩
  · refine r_xVx C (As := [vI x1]) (b := a0) (rest := []) (μ1 := e2.2.2) (r := (RX1, TX1, 19)) (ci := 0) rfl eu3 (m_X1_formAt C.tr eq1) (lw_V q799 q801 qs15 q120 q802) rfl hdX1_formAt rfl rfl (Nat.le_of_ble_eq_true rfl) ⟨by decide, by decide⟩ dX1_common_2 ?_
    cases h
    exact r_xoutI C X hK
  · refine r_xV C (As := [vI x1]) (b := a0) (rest := []) (st1 := [vO q1.1]) (v := some (vO q1.1)) (μ1 := q1.2) (r := (RX1, TX1, 19)) (ci := 0) rfl eu3 (m_X1_formAt C.tr eq1) (lw_V q799 q801 qs15 q120 q802) rfl hdX1_formAt rfl rfl (Nat.le_of_ble_eq_true rfl) ⟨by decide, by decide⟩ dX1_common_2 rfl ?_
    refine r_astore C [(4, vO q1.1), (0, vO a0), (1, vI x1), (2, vI x2), (3, vI x3)] dX1_common_5 (by decide) rfl ?_
    refine r_aload_n C 1 dX1_common_7 rfl rfl ?_
    refine r_iload_n C 3 dX1_common_8 rfl rfl ?_
    obtain ⟨u6, eu6, h⟩ := bs h
    rcases xbs h with ⟨e5, eq4, h⟩ | ⟨q4, eq4, h⟩
    · refine r_xVx C (As := [vI x2]) (b := a0) (rest := []) (μ1 := e5.2.2) (r := (RX1, TX1, 19)) (ci := 0) rfl eu6 (m_X1_formAt C.tr eq4) (lw_V q799 q801 qs15 q120 q802) rfl hdX1_formAt rfl rfl (Nat.le_of_ble_eq_true rfl) ⟨by decide, by decide⟩ dX1_common_9 ?_
      cases h
      exact r_xoutI C X hK
    · refine r_xV C (As := [vI x2]) (b := a0) (rest := []) (st1 := [vO q4.1]) (v := some (vO q4.1)) (μ1 := q4.2) (r := (RX1, TX1, 19)) (ci := 0) rfl eu6 (m_X1_formAt C.tr eq4) (lw_V q799 q801 qs15 q120 q802) rfl hdX1_formAt rfl rfl (Nat.le_of_ble_eq_true rfl) ⟨by decide, by decide⟩ dX1_common_9 rfl ?_
      refine r_astore C [(5, vO q4.1), (4, vO q1.1), (0, vO a0), (1, vI x1), (2, vI x2), (3, vI x3)] dX1_common_12 (by decide) rfl ?_
      refine r_aload C 1 dX1_common_14 rfl ?_
      obtain ⟨u8, eu8, h⟩ := bs h
      obtain ⟨q7, eq7, h⟩ := bs h
      refine r_callV C (As := []) (b := q1.1) (rest := []) (st1 := [vI q7.1]) (v := some (vI q7.1)) (r := (RX8, TX8, 2)) (ci := 6) rfl eu8 (m_X8_isNought C.tr eq7) (lw_V q544 q545 q546 q130 q547) rfl hdX8_isNought rfl rfl (Nat.le_of_ble_eq_true rfl) ⟨by decide, by decide⟩ dX1_common_16 rfl ?_
      refine r_if_ne C dX1_common_19 (tgt := 30) (by decide) (fun c9 => ?_) (fun c9 => ?_)
      · have h := ie_ h c9
        refine r_bipush C dX1_common_30 (by decide) ?_
        cases h
        exact r_xiret C hK dX1_common_32
      · have h := it_ h c9
        refine r_aload C 0 dX1_common_22 rfl ?_
        obtain ⟨u11, eu11, h⟩ := bs h
        obtain ⟨q10, eq10, h⟩ := bs h
        refine r_callV C (As := []) (b := q4.1) (rest := []) (st1 := [vI q10.1]) (v := some (vI q10.1)) (r := (RX8, TX8, 2)) (ci := 6) rfl eu11 (m_X8_isNought C.tr eq10) (lw_V q544 q545 q546 q130 q547) rfl hdX8_isNought rfl rfl (Nat.le_of_ble_eq_true rfl) ⟨by decide, by decide⟩ dX1_common_24 rfl ?_
        refine r_if_eq C dX1_common_27 (tgt := 33) (by decide) (fun c12 => ?_) (fun c12 => ?_)
        · have h := it_ h c12
          refine r_aload_n C 2 dX1_common_33 rfl rfl ?_
          refine r_aload C 1 dX1_common_34 rfl ?_
          refine r_aload C 0 dX1_common_36 rfl ?_
          obtain ⟨u14, eu14, h⟩ := bs h
          obtain ⟨q13, eq13, h⟩ := bs h
          refine r_callV C (As := [vO q1.1, vO q4.1]) (b := a0) (rest := []) (st1 := [vO q13.1]) (v := some (vO q13.1)) (r := (RX1, TX1, 19)) (ci := 0) rfl eu14 (m_X1_commons C.tr eq13) (lw_V q1118 q1120 qs28 q120 q1121) rfl hdX1_commons rfl rfl (Nat.le_of_ble_eq_true rfl) ⟨by decide, by decide⟩ dX1_common_38 rfl ?_
          refine r_iload_n C 5 dX1_common_41 rfl rfl ?_
          obtain ⟨q15, eq15, h⟩ := bs h
          refine r_callS C (As := [vO q13.1, vI x3]) (rest := []) (st1 := [vI q15.1]) (v := some (vI q15.1)) (m_X1_tells C.tr eq15) (lw_S q821 q822 q120 q823) hdX1_tells rfl rfl (Nat.le_of_ble_eq_true rfl) ⟨by decide, by decide⟩ dX1_common_42 rfl ?_
          cases h
          exact r_xiret C hK dX1_common_45
        · have h := ie_ h c12
          refine r_bipush C dX1_common_30 (by decide) ?_
          cases h
          exact r_xiret C hK dX1_common_32
theorem hdX1_common : zhd yX1_common 3 := by decide +kernel
theorem m_X1_common {l : Launch} {D : va_G} {b0 : Nat} (hl : l.stackTraces = false) {a0 : Nat} {x1 : Int} {x2 : Int} {x3 : Int} {μ : Me} {w : Ex ⊕ (Int × Me)} (h : s_X1_common a0 x1 x2 x3 μ = some w) : XN l D b0 yX1_common (ws_ yX1_common cX1_common 6 (some .int)) 8 [vO a0, vI x1, vI x2, vI x3] μ (zoI w) (zmI w) :=
  XN.of hl (by decide +kernel) (Nat.le_of_ble_eq_true rfl) (fun Z C X _ _ => w_X1_common C X h rfl)
noncomputable def s_X6_chooses_l36_st (a0 : Nat) (x1 : Int) (x2 : Int) (x3 : Int) (μ : Me) : Option ((Int × Me) ⊕ ((Int × Me) ⊕ (Me))) :=
  (if w32 x3 ≤ 0 then
  some (.inr (.inl ((x2 + 1), μ)))
  else
  (gR μ 4 a0 5).bind fun v6 =>
  (gR μ 4 a0 0).bind fun v7 =>
  (gR μ 4 a0 5).bind fun v8 =>
  (aI μ 101 v8 x3).bind fun v9 =>
  (gR μ 4 a0 5).bind fun v10 =>
  (aI μ 101 v10 (x3 - 1)).bind fun v11 =>
  (ck μ 5 v7).bind fun _ =>
  (s_X7_of v7 (w32 (v9 + v11)) μ).bind fun q12 =>
  (uI q12.2 v6 x3 q12.1).bind fun m14 =>
  some (.inl ((x3 + (-1)), m14)))
theorem w_X6_chooses_l36_st {Z : Zt} {fin : Me} {w : ((Int × Me) ⊕ ((Int × Me) ⊕ (Me)))} (C : CX Z yX6_chooses cX6_chooses none 2 4) {a0 : Nat} {x1 : Int} {x2 : Int} {x3 : Int} {μ : Me} (h : s_X6_chooses_l36_st a0 x1 x2 x3 μ = some w) (hK : (Sum.elim (fun s : Int × Me => WL Z (QN Z none fin) s.2 36 [(0, vO a0), (1, vI x1), (2, vI x2), (3, vI s.1)] []) (Sum.elim (fun s : Int × Me => WL Z (QN Z none fin) s.2 29 [(0, vO a0), (1, vI x1), (2, vI s.1)] []) (fun r : Me => r = fin))) w) : WL Z (QN Z none fin) μ 36 [(0, vO a0), (1, vI x1), (2, vI x2), (3, vI x3)] [] := by
  unfold s_X6_chooses_l36_st at h
  refine r_iload_n C 3 dX6_chooses_36 rfl rfl ?_
  refine r_if_le C dX6_chooses_37 (tgt := 75) (by decide) (fun c5 => ?_) (fun c5 => ?_)
  · have h := it_ h c5
    refine r_iinc C 2 [(2, vI (x2 + 1)), (0, vO a0), (1, vI x1), (3, vI x3)] dX6_chooses_75 rfl (by decide) rfl ?_
    refine r_goto C dX6_chooses_78 (tgt := 29) (by decide) ?_
    cases h
    refine r_sub [1, 2, 0] rfl ?_
    exact hK
  · have h := ie_ h c5
    refine r_aload_n C 0 dX6_chooses_40 rfl rfl ?_
    obtain ⟨v6, ev6, h⟩ := bs h
    refine r_getR C (c := 4) (r := (RX6, TX6, 6)) rfl 5 (by decide) rfl ev6 q325 dX6_chooses_41 ?_
    refine r_iload_n C 3 dX6_chooses_44 rfl rfl ?_
    refine r_aload_n C 0 dX6_chooses_45 rfl rfl ?_
    obtain ⟨v7, ev7, h⟩ := bs h
    refine r_getR C (c := 4) (r := (RX6, TX6, 6)) rfl 0 (by decide) rfl ev7 q316 dX6_chooses_46 ?_
    refine r_aload_n C 0 dX6_chooses_49 rfl rfl ?_
    obtain ⟨v8, ev8, h⟩ := bs h
    refine r_getR C (c := 4) (r := (RX6, TX6, 6)) rfl 5 (by decide) rfl ev8 q325 dX6_chooses_50 ?_
    refine r_iload_n C 3 dX6_chooses_53 rfl rfl ?_
    obtain ⟨v9, ev9, h⟩ := bs h
    refine r_iald C ev9 dX6_chooses_54 ?_
    refine r_aload_n C 0 dX6_chooses_55 rfl rfl ?_
    obtain ⟨v10, ev10, h⟩ := bs h
    refine r_getR C (c := 4) (r := (RX6, TX6, 6)) rfl 5 (by decide) rfl ev10 q325 dX6_chooses_56 ?_
    refine r_iload_n C 3 dX6_chooses_59 rfl rfl ?_
    refine r_iconst C dX6_chooses_60 ?_
    refine r_isub C dX6_chooses_61 ?_
    obtain ⟨v11, ev11, h⟩ := bs h
    refine r_iald C ev11 dX6_chooses_62 ?_
    refine r_iadd C dX6_chooses_63 ?_
    refine r_i2l C dX6_chooses_64 ?_
    obtain ⟨u13, eu13, h⟩ := bs h
    obtain ⟨q12, eq12, h⟩ := bs h
    refine r_callV C (As := [vJ (w32 (v9 + v11))]) (b := v7) (rest := [vI x3, vO v6]) (st1 := [vI q12.1, vI x3, vO v6]) (v := some (vI q12.1)) (r := (RX7, TX7, 1)) (ci := 5) rfl eu13 (m_X7_of C.tr eq12) (lw_V q840 q632 q633 q129 q634) rfl hdX7_of rfl rfl (Nat.le_of_ble_eq_true rfl) ⟨by decide, by decide⟩ dX6_chooses_65 rfl ?_
    obtain ⟨m14, em14, h⟩ := bs h
    refine r_iast C em14 dX6_chooses_68 ?_
    refine r_iinc C 3 [(3, vI (x3 + (-1))), (0, vO a0), (1, vI x1), (2, vI x2)] dX6_chooses_69 rfl (by decide) rfl ?_
    refine r_goto C dX6_chooses_72 (tgt := 36) (by decide) ?_
    cases h
    refine r_sub [1, 2, 3, 0] rfl ?_
    exact hK
noncomputable def s_X6_chooses_l36 (a0 : Nat) (x1 : Int) (x2 : Int) (x3 : Int) (μ : Me) : Option ((Int × Me) ⊕ (Me)) :=
  whileO (fun s : Int × Me => s_X6_chooses_l36_st a0 x1 x2 s.1 s.2) (x3, μ)
theorem e_X6_chooses_l36 (a0 : Nat) (x1 : Int) (x2 : Int) (x3 : Int) (μ : Me) : s_X6_chooses_l36 a0 x1 x2 x3 μ = (s_X6_chooses_l36_st a0 x1 x2 x3 μ).bind fun x => x.elim (fun s : Int × Me => s_X6_chooses_l36 a0 x1 x2 s.1 s.2) some := whileO_eq _ _
theorem w_X6_chooses_l36 {Z : Zt} {fin : Me} {w : ((Int × Me) ⊕ (Me))} (C : CX Z yX6_chooses cX6_chooses none 2 4) {a0 : Nat} {x1 : Int} {x2 : Int} {x3 : Int} {μ : Me} (h : s_X6_chooses_l36 a0 x1 x2 x3 μ = some w) (hK : (Sum.elim (fun s : Int × Me => WL Z (QN Z none fin) s.2 29 [(0, vO a0), (1, vI x1), (2, vI s.1)] []) (fun r : Me => r = fin)) w) : WL Z (QN Z none fin) μ 36 [(0, vO a0), (1, vI x1), (2, vI x2), (3, vI x3)] [] := by
  refine whileO_walk (w := w) (fun s : Int × Me => WL Z (QN Z none fin) s.2 36 [(0, vO a0), (1, vI x1), (2, vI x2), (3, vI s.1)] []) (fun s v h2 hi hr => ?_) (x3, μ) h
  refine w_X6_chooses_l36_st (fin := fin) C h2 ?_
  cases v with
  | inl s2 => exact hi s2 rfl
  | inr r => have e := hr r rfl; subst e; exact hK
noncomputable def s_X6_chooses_l29_st (a0 : Nat) (x1 : Int) (x2 : Int) (μ : Me) : Option ((Int × Me) ⊕ (Me)) :=
  (if w32 x1 ≤ w32 x2 then
  some (.inr μ)
  else
  s_X6_chooses_l36 a0 x1 x2 x1 μ)
theorem w_X6_chooses_l29_st {Z : Zt} {fin : Me} {w : ((Int × Me) ⊕ (Me))} (C : CX Z yX6_chooses cX6_chooses none 2 4) {a0 : Nat} {x1 : Int} {x2 : Int} {μ : Me} (h : s_X6_chooses_l29_st a0 x1 x2 μ = some w) (hK : (Sum.elim (fun s : Int × Me => WL Z (QN Z none fin) s.2 29 [(0, vO a0), (1, vI x1), (2, vI s.1)] []) (fun r : Me => r = fin)) w) : WL Z (QN Z none fin) μ 29 [(0, vO a0), (1, vI x1), (2, vI x2)] [] := by
  unfold s_X6_chooses_l29_st at h
  refine r_iload_n C 2 dX6_chooses_29 rfl rfl ?_
  refine r_iload_n C 1 dX6_chooses_30 rfl rfl ?_
  refine r_icmp_ge C dX6_chooses_31 (tgt := 81) (by decide) (fun c4 => ?_) (fun c4 => ?_)
  · have h := it_ h c4
    cases h
    exact r_vret C hK dX6_chooses_81
  · have h := ie_ h c4
    refine r_iload_n C 1 dX6_chooses_34 rfl rfl ?_
    refine r_istore_n C [(3, vI x1), (0, vO a0), (1, vI x1), (2, vI x2)] dX6_chooses_35 rfl (by decide) rfl ?_
    refine r_sub [1, 2, 3, 0] rfl ?_
    exact w_X6_chooses_l36 (fin := fin) C h hK
noncomputable def s_X6_chooses_l29 (a0 : Nat) (x1 : Int) (x2 : Int) (μ : Me) : Option (Me) :=
  whileO (fun s : Int × Me => s_X6_chooses_l29_st a0 x1 s.1 s.2) (x2, μ)
theorem e_X6_chooses_l29 (a0 : Nat) (x1 : Int) (x2 : Int) (μ : Me) : s_X6_chooses_l29 a0 x1 x2 μ = (s_X6_chooses_l29_st a0 x1 x2 μ).bind fun x => x.elim (fun s : Int × Me => s_X6_chooses_l29 a0 x1 s.1 s.2) some := whileO_eq _ _
theorem w_X6_chooses_l29 {Z : Zt} {fin : Me} {w : (Me)} (C : CX Z yX6_chooses cX6_chooses none 2 4) {a0 : Nat} {x1 : Int} {x2 : Int} {μ : Me} (h : s_X6_chooses_l29 a0 x1 x2 μ = some w) (hK : (fun r : Me => r = fin) w) : WL Z (QN Z none fin) μ 29 [(0, vO a0), (1, vI x1), (2, vI x2)] [] := by
  refine whileO_walk (w := w) (fun s : Int × Me => WL Z (QN Z none fin) s.2 29 [(0, vO a0), (1, vI x1), (2, vI s.1)] []) (fun s v h2 hi hr => ?_) (x2, μ) h
  refine w_X6_chooses_l29_st (fin := fin) C h2 ?_
  cases v with
  | inl s2 => exact hi s2 rfl
  | inr r => have e := hr r rfl; subst e; exact hK
noncomputable def s_X6_chooses_b20 (a0 : Nat) (x1 : Int)  (μ : Me) : Option (Me) :=
  (gR μ 4 a0 5).bind fun v2 =>
  (uI μ v2 0 1).bind fun m3 =>
  s_X6_chooses_l29 a0 x1 0 m3
theorem w_X6_chooses_b20 {Z : Zt} {fin : Me} {w : (Me)} (C : CX Z yX6_chooses cX6_chooses none 2 4) {a0 : Nat} {x1 : Int}  {μ : Me} (h : s_X6_chooses_b20 a0 x1 μ = some w) (hK : (fun r : Me => r = fin) w) : WL Z (QN Z none fin) μ 20 [(0, vO a0), (1, vI x1)] [] := by
  unfold s_X6_chooses_b20 at h
  refine r_aload_n C 0 dX6_chooses_20 rfl rfl ?_
  obtain ⟨v2, ev2, h⟩ := bs h
  refine r_getR C (c := 4) (r := (RX6, TX6, 6)) rfl 5 (by decide) rfl ev2 q325 dX6_chooses_21 ?_
  refine r_iconst C dX6_chooses_24 ?_
  refine r_iconst C dX6_chooses_25 ?_
  obtain ⟨m3, em3, h⟩ := bs h
  refine r_iast C em3 dX6_chooses_26 ?_
  refine r_iconst C dX6_chooses_27 ?_
  refine r_istore_n C [(2, vI 0), (0, vO a0), (1, vI x1)] dX6_chooses_28 rfl (by decide) rfl ?_
  refine r_sub [1, 2, 0] rfl ?_
  exact w_X6_chooses_l29 (fin := fin) C h hK
noncomputable def s_X6_chooses_l2_st (a0 : Nat) (x1 : Int) (x2 : Int) (μ : Me) : Option ((Int × Me) ⊕ (Me)) :=
  (if w32 x1 < w32 x2 then
  (s_X6_chooses_b20 a0 x1 μ).map Sum.inr
  else
  (gR μ 4 a0 5).bind fun v15 =>
  (uI μ v15 x2 0).bind fun m16 =>
  some (.inl ((x2 + 1), m16)))
theorem w_X6_chooses_l2_st {Z : Zt} {fin : Me} {w : ((Int × Me) ⊕ (Me))} (C : CX Z yX6_chooses cX6_chooses none 2 4) {a0 : Nat} {x1 : Int} {x2 : Int} {μ : Me} (h : s_X6_chooses_l2_st a0 x1 x2 μ = some w) (hK : (Sum.elim (fun s : Int × Me => WL Z (QN Z none fin) s.2 2 [(0, vO a0), (1, vI x1), (2, vI s.1)] []) (fun r : Me => r = fin)) w) : WL Z (QN Z none fin) μ 2 [(0, vO a0), (1, vI x1), (2, vI x2)] [] := by
  unfold s_X6_chooses_l2_st at h
  refine r_iload_n C 2 dX6_chooses_2 rfl rfl ?_
  refine r_iload_n C 1 dX6_chooses_3 rfl rfl ?_
  refine r_icmp_gt C dX6_chooses_4 (tgt := 20) (by decide) (fun c1 => ?_) (fun c1 => ?_)
  · have h := it_ h c1
    obtain ⟨z, hz, ez⟩ := ms_ h; clear h; subst ez; have h := hz; clear hz
    refine r_sub [0, 1] rfl ?_
    exact w_X6_chooses_b20 (fin := fin) C h hK
  · have h := ie_ h c1
    refine r_aload_n C 0 dX6_chooses_7 rfl rfl ?_
    obtain ⟨v15, ev15, h⟩ := bs h
    refine r_getR C (c := 4) (r := (RX6, TX6, 6)) rfl 5 (by decide) rfl ev15 q325 dX6_chooses_8 ?_
    refine r_iload_n C 2 dX6_chooses_11 rfl rfl ?_
    refine r_iconst C dX6_chooses_12 ?_
    obtain ⟨m16, em16, h⟩ := bs h
    refine r_iast C em16 dX6_chooses_13 ?_
    refine r_iinc C 2 [(2, vI (x2 + 1)), (0, vO a0), (1, vI x1)] dX6_chooses_14 rfl (by decide) rfl ?_
    refine r_goto C dX6_chooses_17 (tgt := 2) (by decide) ?_
    cases h
    refine r_sub [1, 2, 0] rfl ?_
    exact hK
noncomputable def s_X6_chooses_l2 (a0 : Nat) (x1 : Int) (x2 : Int) (μ : Me) : Option (Me) :=
  whileO (fun s : Int × Me => s_X6_chooses_l2_st a0 x1 s.1 s.2) (x2, μ)
theorem e_X6_chooses_l2 (a0 : Nat) (x1 : Int) (x2 : Int) (μ : Me) : s_X6_chooses_l2 a0 x1 x2 μ = (s_X6_chooses_l2_st a0 x1 x2 μ).bind fun x => x.elim (fun s : Int × Me => s_X6_chooses_l2 a0 x1 s.1 s.2) some := whileO_eq _ _
theorem w_X6_chooses_l2 {Z : Zt} {fin : Me} {w : (Me)} (C : CX Z yX6_chooses cX6_chooses none 2 4) {a0 : Nat} {x1 : Int} {x2 : Int} {μ : Me} (h : s_X6_chooses_l2 a0 x1 x2 μ = some w) (hK : (fun r : Me => r = fin) w) : WL Z (QN Z none fin) μ 2 [(0, vO a0), (1, vI x1), (2, vI x2)] [] := by
  refine whileO_walk (w := w) (fun s : Int × Me => WL Z (QN Z none fin) s.2 2 [(0, vO a0), (1, vI x1), (2, vI s.1)] []) (fun s v h2 hi hr => ?_) (x2, μ) h
  refine w_X6_chooses_l2_st (fin := fin) C h2 ?_
  cases v with
  | inl s2 => exact hi s2 rfl
  | inr r => have e := hr r rfl; subst e; exact hK
noncomputable def s_X6_chooses (a0 : Nat) (x1 : Int) (μ : Me) : Option (Me) :=
  s_X6_chooses_l2 a0 x1 0 μ
theorem w_X6_chooses {Z : Zt} {fin : Me} {w : Me} (C : CX Z yX6_chooses cX6_chooses none 2 4) {a0 : Nat} {x1 : Int} {μ : Me} (h : s_X6_chooses a0 x1 μ = some w) (hK : w = fin) : WL Z (QN Z none fin) μ 0 [(0, vO a0), (1, vI x1)] [] := by
  unfold s_X6_chooses at h
  refine r_iconst C dX6_chooses_0 ?_
  refine r_istore_n C [(2, vI 0), (0, vO a0), (1, vI x1)] dX6_chooses_1 rfl (by decide) rfl ?_
  refine r_sub [1, 2, 0] rfl ?_
  exact w_X6_chooses_l2 (fin := fin) C h hK
theorem hdX6_chooses : zhd yX6_chooses 1 := by decide +kernel
theorem m_X6_chooses {l : Launch} {D : va_G} {b0 : Nat} (hl : l.stackTraces = false) {a0 : Nat} {x1 : Int} {μ : Me} {w : Me} (h : s_X6_chooses a0 x1 μ = some w) : MN l D b0 yX6_chooses (ws_ yX6_chooses cX6_chooses 4 none) 2 [vO a0, vI x1] μ none w :=
  MN.of hl (by decide +kernel) (Nat.le_of_ble_eq_true rfl) (fun Z C _ _ => w_X6_chooses C h rfl)
noncomputable def s_X6_product_b121 (a0 : Nat) (a3 : Nat)  (μ : Me) : Option (Me) :=
  (gR μ 4 a0 1).bind fun v9 =>
  (ck μ 6 a3).bind fun _ =>
  (s_X8_be a3 v9 μ).bind fun q10 =>
  some q10
theorem w_X6_product_b121 {Z : Zt} {fin : Me} {w : (Me)} (C : CX Z yX6_product cX6_product none 2 7) {a0 : Nat} {a3 : Nat}  {μ : Me} (h : s_X6_product_b121 a0 a3 μ = some w) (hK : (fun r : Me => r = fin) w) : WL Z (QN Z none fin) μ 121 [(0, vO a0), (3, vO a3)] [] := by
  unfold s_X6_product_b121 at h
  refine r_aload_n C 1 dX6_product_121 rfl rfl ?_
  refine r_aload_n C 0 dX6_product_122 rfl rfl ?_
  obtain ⟨v9, ev9, h⟩ := bs h
  refine r_getR C (c := 4) (r := (RX6, TX6, 6)) rfl 1 (by decide) rfl ev9 q321 dX6_product_123 ?_
  obtain ⟨u11, eu11, h⟩ := bs h
  obtain ⟨q10, eq10, h⟩ := bs h
  refine r_callV C (As := [vO v9]) (b := a3) (rest := []) (st1 := []) (v := none) (r := (RX8, TX8, 2)) (ci := 6) rfl eu11 (m_X8_be C.tr eq10) (lw_V q868 q511 q512 q130 q513) rfl hdX8_be rfl rfl (Nat.le_of_ble_eq_true rfl) ⟨by decide, by decide⟩ dX6_product_126 rfl ?_
  cases h
  exact r_vret C hK dX6_product_129
noncomputable def s_X6_product_l48_st (a0 : Nat) (a1 : Nat) (a2 : Nat) (a3 : Nat) (x5 : Int) (x6 : Int) (μ : Me) : Option ((Int × Me) ⊕ ((Int × Me) ⊕ (Me))) :=
  (gI μ 6 a2 1).bind fun v12 =>
  (if w32 v12 < w32 x6 then
  some (.inr (.inl ((x5 + 1), μ)))
  else
  (gR μ 4 a0 1).bind fun v14 =>
  (gR μ 6 v14 0).bind fun v15 =>
  (gR μ 4 a0 0).bind fun v16 =>
  (gR μ 4 a0 1).bind fun v17 =>
  (gR μ 6 v17 0).bind fun v18 =>
  (aI μ 101 v18 (x5 + x6)).bind fun v19 =>
  (gR μ 6 a1 0).bind fun v20 =>
  (aI μ 101 v20 x5).bind fun v21 =>
  (gR μ 6 a2 0).bind fun v22 =>
  (aI μ 101 v22 x6).bind fun v23 =>
  (ck μ 5 v16).bind fun _ =>
  (s_X7_of v16 ((w32 v19) + ((w32 v21) * (w32 v23))) μ).bind fun q24 =>
  (uI q24.2 v15 (x5 + x6) q24.1).bind fun m26 =>
  some (.inl ((x6 + 1), m26)))
theorem w_X6_product_l48_st {Z : Zt} {fin : Me} {w : ((Int × Me) ⊕ ((Int × Me) ⊕ (Me)))} (C : CX Z yX6_product cX6_product none 2 7) {a0 : Nat} {a1 : Nat} {a2 : Nat} {a3 : Nat} {x5 : Int} {x6 : Int} {μ : Me} (h : s_X6_product_l48_st a0 a1 a2 a3 x5 x6 μ = some w) (hK : (Sum.elim (fun s : Int × Me => WL Z (QN Z none fin) s.2 48 [(0, vO a0), (1, vO a1), (2, vO a2), (3, vO a3), (5, vI x5), (6, vI s.1)] []) (Sum.elim (fun s : Int × Me => WL Z (QN Z none fin) s.2 36 [(0, vO a0), (1, vO a1), (2, vO a2), (3, vO a3), (5, vI s.1)] []) (fun r : Me => r = fin))) w) : WL Z (QN Z none fin) μ 48 [(0, vO a0), (1, vO a1), (2, vO a2), (3, vO a3), (5, vI x5), (6, vI x6)] [] := by
  unfold s_X6_product_l48_st at h
  refine r_iload C 5 dX6_product_48 rfl ?_
  refine r_aload_n C 2 dX6_product_50 rfl rfl ?_
  obtain ⟨v12, ev12, h⟩ := bs h
  refine r_getIN C (c := 6) (r := (RX8, TX8, 2)) rfl 1 (by decide) rfl ev12 (lw_n q305 rfl) dX6_product_51 ?_
  refine r_icmp_gt C dX6_product_54 (tgt := 115) (by decide) (fun c13 => ?_) (fun c13 => ?_)
  · have h := it_ h c13
    refine r_iinc C 4 [(5, vI (x5 + 1)), (0, vO a0), (1, vO a1), (2, vO a2), (3, vO a3), (6, vI x6)] dX6_product_115 rfl (by decide) rfl ?_
    refine r_goto C dX6_product_118 (tgt := 36) (by decide) ?_
    cases h
    refine r_sub [1, 2, 3, 4, 0] rfl ?_
    exact hK
  · have h := ie_ h c13
    refine r_aload_n C 0 dX6_product_57 rfl rfl ?_
    obtain ⟨v14, ev14, h⟩ := bs h
    refine r_getR C (c := 4) (r := (RX6, TX6, 6)) rfl 1 (by decide) rfl ev14 q321 dX6_product_58 ?_
    obtain ⟨v15, ev15, h⟩ := bs h
    refine r_getRN C (c := 6) (r := (RX8, TX8, 2)) rfl 0 (by decide) rfl ev15 (lw_n q300 rfl) dX6_product_61 ?_
    refine r_iload C 4 dX6_product_64 rfl ?_
    refine r_iload C 5 dX6_product_66 rfl ?_
    refine r_iadd C dX6_product_68 ?_
    refine r_aload_n C 0 dX6_product_69 rfl rfl ?_
    obtain ⟨v16, ev16, h⟩ := bs h
    refine r_getR C (c := 4) (r := (RX6, TX6, 6)) rfl 0 (by decide) rfl ev16 q316 dX6_product_70 ?_
    refine r_aload_n C 0 dX6_product_73 rfl rfl ?_
    obtain ⟨v17, ev17, h⟩ := bs h
    refine r_getR C (c := 4) (r := (RX6, TX6, 6)) rfl 1 (by decide) rfl ev17 q321 dX6_product_74 ?_
    obtain ⟨v18, ev18, h⟩ := bs h
    refine r_getRN C (c := 6) (r := (RX8, TX8, 2)) rfl 0 (by decide) rfl ev18 (lw_n q300 rfl) dX6_product_77 ?_
    refine r_iload C 4 dX6_product_80 rfl ?_
    refine r_iload C 5 dX6_product_82 rfl ?_
    refine r_iadd C dX6_product_84 ?_
    obtain ⟨v19, ev19, h⟩ := bs h
    refine r_iald C ev19 dX6_product_85 ?_
    refine r_i2l C dX6_product_86 ?_
    refine r_aload_n C 1 dX6_product_87 rfl rfl ?_
    obtain ⟨v20, ev20, h⟩ := bs h
    refine r_getRN C (c := 6) (r := (RX8, TX8, 2)) rfl 0 (by decide) rfl ev20 (lw_n q300 rfl) dX6_product_88 ?_
    refine r_iload C 4 dX6_product_91 rfl ?_
    obtain ⟨v21, ev21, h⟩ := bs h
    refine r_iald C ev21 dX6_product_93 ?_
    refine r_i2l C dX6_product_94 ?_
    refine r_aload_n C 2 dX6_product_95 rfl rfl ?_
    obtain ⟨v22, ev22, h⟩ := bs h
    refine r_getRN C (c := 6) (r := (RX8, TX8, 2)) rfl 0 (by decide) rfl ev22 (lw_n q300 rfl) dX6_product_96 ?_
    refine r_iload C 5 dX6_product_99 rfl ?_
    obtain ⟨v23, ev23, h⟩ := bs h
    refine r_iald C ev23 dX6_product_101 ?_
    refine r_i2l C dX6_product_102 ?_
    refine r_lmul C dX6_product_103 ?_
    refine r_ladd C dX6_product_104 ?_
    obtain ⟨u25, eu25, h⟩ := bs h
    obtain ⟨q24, eq24, h⟩ := bs h
    refine r_callV C (As := [vJ ((w32 v19) + ((w32 v21) * (w32 v23)))]) (b := v16) (rest := [vI (x5 + x6), vO v15]) (st1 := [vI q24.1, vI (x5 + x6), vO v15]) (v := some (vI q24.1)) (r := (RX7, TX7, 1)) (ci := 5) rfl eu25 (m_X7_of C.tr eq24) (lw_V q840 q632 q633 q129 q634) rfl hdX7_of rfl rfl (Nat.le_of_ble_eq_true rfl) ⟨by decide, by decide⟩ dX6_product_105 rfl ?_
    obtain ⟨m26, em26, h⟩ := bs h
    refine r_iast C em26 dX6_product_108 ?_
    refine r_iinc C 5 [(6, vI (x6 + 1)), (0, vO a0), (1, vO a1), (2, vO a2), (3, vO a3), (5, vI x5)] dX6_product_109 rfl (by decide) rfl ?_
    refine r_goto C dX6_product_112 (tgt := 48) (by decide) ?_
    cases h
    refine r_sub [1, 2, 3, 4, 5, 0] rfl ?_
    exact hK
noncomputable def s_X6_product_l48 (a0 : Nat) (a1 : Nat) (a2 : Nat) (a3 : Nat) (x5 : Int) (x6 : Int) (μ : Me) : Option ((Int × Me) ⊕ (Me)) :=
  whileO (fun s : Int × Me => s_X6_product_l48_st a0 a1 a2 a3 x5 s.1 s.2) (x6, μ)
theorem e_X6_product_l48 (a0 : Nat) (a1 : Nat) (a2 : Nat) (a3 : Nat) (x5 : Int) (x6 : Int) (μ : Me) : s_X6_product_l48 a0 a1 a2 a3 x5 x6 μ = (s_X6_product_l48_st a0 a1 a2 a3 x5 x6 μ).bind fun x => x.elim (fun s : Int × Me => s_X6_product_l48 a0 a1 a2 a3 x5 s.1 s.2) some := whileO_eq _ _
theorem w_X6_product_l48 {Z : Zt} {fin : Me} {w : ((Int × Me) ⊕ (Me))} (C : CX Z yX6_product cX6_product none 2 7) {a0 : Nat} {a1 : Nat} {a2 : Nat} {a3 : Nat} {x5 : Int} {x6 : Int} {μ : Me} (h : s_X6_product_l48 a0 a1 a2 a3 x5 x6 μ = some w) (hK : (Sum.elim (fun s : Int × Me => WL Z (QN Z none fin) s.2 36 [(0, vO a0), (1, vO a1), (2, vO a2), (3, vO a3), (5, vI s.1)] []) (fun r : Me => r = fin)) w) : WL Z (QN Z none fin) μ 48 [(0, vO a0), (1, vO a1), (2, vO a2), (3, vO a3), (5, vI x5), (6, vI x6)] [] := by
  refine whileO_walk (w := w) (fun s : Int × Me => WL Z (QN Z none fin) s.2 48 [(0, vO a0), (1, vO a1), (2, vO a2), (3, vO a3), (5, vI x5), (6, vI s.1)] []) (fun s v h2 hi hr => ?_) (x6, μ) h
  refine w_X6_product_l48_st (fin := fin) C h2 ?_
  cases v with
  | inl s2 => exact hi s2 rfl
  | inr r => have e := hr r rfl; subst e; exact hK
noncomputable def s_X6_product_l36_st (a0 : Nat) (a1 : Nat) (a2 : Nat) (a3 : Nat) (x5 : Int) (μ : Me) : Option ((Int × Me) ⊕ (Me)) :=
  (gI μ 6 a1 1).bind fun v7 =>
  (if w32 v7 < w32 x5 then
  (s_X6_product_b121 a0 a3 μ).map Sum.inr
  else
  s_X6_product_l48 a0 a1 a2 a3 x5 0 μ)
theorem w_X6_product_l36_st {Z : Zt} {fin : Me} {w : ((Int × Me) ⊕ (Me))} (C : CX Z yX6_product cX6_product none 2 7) {a0 : Nat} {a1 : Nat} {a2 : Nat} {a3 : Nat} {x5 : Int} {μ : Me} (h : s_X6_product_l36_st a0 a1 a2 a3 x5 μ = some w) (hK : (Sum.elim (fun s : Int × Me => WL Z (QN Z none fin) s.2 36 [(0, vO a0), (1, vO a1), (2, vO a2), (3, vO a3), (5, vI s.1)] []) (fun r : Me => r = fin)) w) : WL Z (QN Z none fin) μ 36 [(0, vO a0), (1, vO a1), (2, vO a2), (3, vO a3), (5, vI x5)] [] := by
  unfold s_X6_product_l36_st at h
  refine r_iload C 4 dX6_product_36 rfl ?_
  refine r_aload_n C 1 dX6_product_38 rfl rfl ?_
  obtain ⟨v7, ev7, h⟩ := bs h
  refine r_getIN C (c := 6) (r := (RX8, TX8, 2)) rfl 1 (by decide) rfl ev7 (lw_n q305 rfl) dX6_product_39 ?_
  refine r_icmp_gt C dX6_product_42 (tgt := 121) (by decide) (fun c8 => ?_) (fun c8 => ?_)
  · have h := it_ h c8
    obtain ⟨z, hz, ez⟩ := ms_ h; clear h; subst ez; have h := hz; clear hz
    refine r_sub [0, 3] rfl ?_
    exact w_X6_product_b121 (fin := fin) C h hK
  · have h := ie_ h c8
    refine r_iconst C dX6_product_45 ?_
    refine r_istore C [(6, vI 0), (0, vO a0), (1, vO a1), (2, vO a2), (3, vO a3), (5, vI x5)] dX6_product_46 (by decide) rfl ?_
    refine r_sub [1, 2, 3, 4, 5, 0] rfl ?_
    exact w_X6_product_l48 (fin := fin) C h hK
noncomputable def s_X6_product_l36 (a0 : Nat) (a1 : Nat) (a2 : Nat) (a3 : Nat) (x5 : Int) (μ : Me) : Option (Me) :=
  whileO (fun s : Int × Me => s_X6_product_l36_st a0 a1 a2 a3 s.1 s.2) (x5, μ)
theorem e_X6_product_l36 (a0 : Nat) (a1 : Nat) (a2 : Nat) (a3 : Nat) (x5 : Int) (μ : Me) : s_X6_product_l36 a0 a1 a2 a3 x5 μ = (s_X6_product_l36_st a0 a1 a2 a3 x5 μ).bind fun x => x.elim (fun s : Int × Me => s_X6_product_l36 a0 a1 a2 a3 s.1 s.2) some := whileO_eq _ _
theorem w_X6_product_l36 {Z : Zt} {fin : Me} {w : (Me)} (C : CX Z yX6_product cX6_product none 2 7) {a0 : Nat} {a1 : Nat} {a2 : Nat} {a3 : Nat} {x5 : Int} {μ : Me} (h : s_X6_product_l36 a0 a1 a2 a3 x5 μ = some w) (hK : (fun r : Me => r = fin) w) : WL Z (QN Z none fin) μ 36 [(0, vO a0), (1, vO a1), (2, vO a2), (3, vO a3), (5, vI x5)] [] := by
  refine whileO_walk (w := w) (fun s : Int × Me => WL Z (QN Z none fin) s.2 36 [(0, vO a0), (1, vO a1), (2, vO a2), (3, vO a3), (5, vI s.1)] []) (fun s v h2 hi hr => ?_) (x5, μ) h
  refine w_X6_product_l36_st (fin := fin) C h2 ?_
  cases v with
  | inl s2 => exact hi s2 rfl
  | inr r => have e := hr r rfl; subst e; exact hK
noncomputable def s_X6_product (a0 : Nat) (a1 : Nat) (a2 : Nat) (a3 : Nat) (μ : Me) : Option (Me) :=
  (gI μ 6 a1 1).bind fun v1 =>
  (gI μ 6 a2 1).bind fun v2 =>
  (if w32 (v1 + v2) ≤ w32 40 then
  (gR μ 4 a0 1).bind fun v4 =>
  (ck μ 6 v4).bind fun _ =>
  (s_X8_nought v4 (v1 + v2) μ).bind fun q5 =>
  s_X6_product_l36 a0 a1 a2 a3 0 q5
  else
  (ck μ 6 a3).bind fun _ =>
  (s_X8_nought a3 (-1) μ).bind fun q27 =>
  some q27)
theorem w_X6_product {Z : Zt} {fin : Me} {w : Me} (C : CX Z yX6_product cX6_product none 2 7) {a0 : Nat} {a1 : Nat} {a2 : Nat} {a3 : Nat} {μ : Me} (h : s_X6_product a0 a1 a2 a3 μ = some w) (hK : w = fin) : WL Z (QN Z none fin) μ 0 [(0, vO a0), (1, vO a1), (2, vO a2), (3, vO a3)] [] := by
  unfold s_X6_product at h
  refine r_aload_n C 1 dX6_product_0 rfl rfl ?_
  obtain ⟨v1, ev1, h⟩ := bs h
  refine r_getIN C (c := 6) (r := (RX8, TX8, 2)) rfl 1 (by decide) rfl ev1 (lw_n q305 rfl) dX6_product_1 ?_
  refine r_aload_n C 2 dX6_product_4 rfl rfl ?_
  obtain ⟨v2, ev2, h⟩ := bs h
  refine r_getIN C (c := 6) (r := (RX8, TX8, 2)) rfl 1 (by decide) rfl ev2 (lw_n q305 rfl) dX6_product_5 ?_
  refine r_iadd C dX6_product_8 ?_
  refine r_istore C [(4, vI (v1 + v2)), (0, vO a0), (1, vO a1), (2, vO a2), (3, vO a3)] dX6_product_9 (by decide) rfl ?_
  refine r_iload C 0 dX6_product_11 rfl ?_
  refine r_bipush C dX6_product_13 (by decide) ?_
  refine r_icmp_le C dX6_product_15 (tgt := 24) (by decide) (fun c3 => ?_) (fun c3 => ?_)
  · have h := it_ h c3
    refine r_aload_n C 1 dX6_product_24 rfl rfl ?_
    obtain ⟨v4, ev4, h⟩ := bs h
    refine r_getR C (c := 4) (r := (RX6, TX6, 6)) rfl 1 (by decide) rfl ev4 q321 dX6_product_25 ?_
    refine r_iload C 0 dX6_product_28 rfl ?_
    obtain ⟨u6, eu6, h⟩ := bs h
    obtain ⟨q5, eq5, h⟩ := bs h
    refine r_callV C (As := [vI (v1 + v2)]) (b := v4) (rest := []) (st1 := []) (v := none) (r := (RX8, TX8, 2)) (ci := 6) rfl eu6 (m_X8_nought C.tr eq5) (lw_V q863 q628 q629 q130 q630) rfl hdX8_nought rfl rfl (Nat.le_of_ble_eq_true rfl) ⟨by decide, by decide⟩ dX6_product_30 rfl ?_
    refine r_iconst C dX6_product_33 ?_
    refine r_istore C [(5, vI 0), (4, vI (v1 + v2)), (0, vO a0), (1, vO a1), (2, vO a2), (3, vO a3)] dX6_product_34 (by decide) rfl ?_
    refine r_sub [2, 3, 4, 5, 0] rfl ?_
    exact w_X6_product_l36 (fin := fin) C h hK
  · have h := ie_ h c3
    refine r_aload_n C 4 dX6_product_18 rfl rfl ?_
    refine r_iconst C dX6_product_19 ?_
    obtain ⟨u28, eu28, h⟩ := bs h
    obtain ⟨q27, eq27, h⟩ := bs h
    refine r_callV C (As := [vI (-1)]) (b := a3) (rest := []) (st1 := []) (v := none) (r := (RX8, TX8, 2)) (ci := 6) rfl eu28 (m_X8_nought C.tr eq27) (lw_V q863 q628 q629 q130 q630) rfl hdX8_nought rfl rfl (Nat.le_of_ble_eq_true rfl) ⟨by decide, by decide⟩ dX6_product_20 rfl ?_
    cases h
    exact r_vret C hK dX6_product_23
theorem hdX6_product : zhd yX6_product 3 := by decide +kernel
theorem m_X6_product {l : Launch} {D : va_G} {b0 : Nat} (hl : l.stackTraces = false) {a0 : Nat} {a1 : Nat} {a2 : Nat} {a3 : Nat} {μ : Me} {w : Me} (h : s_X6_product a0 a1 a2 a3 μ = some w) : MN l D b0 yX6_product (ws_ yX6_product cX6_product 7 none) 2 [vO a0, vO a1, vO a2, vO a3] μ none w :=
  MN.of hl (by decide +kernel) (Nat.le_of_ble_eq_true rfl) (fun Z C _ _ => w_X6_product C h rfl)
noncomputable def s_X6_overlap_b199 (a0 : Nat) (a4 : Nat)  (μ : Me) : Option (Me) :=
  (gR μ 4 a0 2).bind fun v16 =>
  (ck μ 6 a4).bind fun _ =>
  (s_X8_be a4 v16 μ).bind fun q17 =>
  some q17
theorem w_X6_overlap_b199 {Z : Zt} {fin : Me} {w : (Me)} (C : CX Z yX6_overlap cX6_overlap none 3 8) {a0 : Nat} {a4 : Nat}  {μ : Me} (h : s_X6_overlap_b199 a0 a4 μ = some w) (hK : (fun r : Me => r = fin) w) : WL Z (QN Z none fin) μ 199 [(0, vO a0), (4, vO a4)] [] := by
  unfold s_X6_overlap_b199 at h
  refine r_aload C 1 dX6_overlap_199 rfl ?_
  refine r_aload_n C 0 dX6_overlap_201 rfl rfl ?_
  obtain ⟨v16, ev16, h⟩ := bs h
  refine r_getR C (c := 4) (r := (RX6, TX6, 6)) rfl 2 (by decide) rfl ev16 q322 dX6_overlap_202 ?_
  obtain ⟨u18, eu18, h⟩ := bs h
  obtain ⟨q17, eq17, h⟩ := bs h
  refine r_callV C (As := [vO v16]) (b := a4) (rest := []) (st1 := []) (v := none) (r := (RX8, TX8, 2)) (ci := 6) rfl eu18 (m_X8_be C.tr eq17) (lw_V q868 q511 q512 q130 q513) rfl hdX8_be rfl rfl (Nat.le_of_ble_eq_true rfl) ⟨by decide, by decide⟩ dX6_overlap_205 rfl ?_
  cases h
  exact r_vret C hK dX6_overlap_208
noncomputable def s_X6_overlap_b161 (a0 : Nat) (a1 : Nat) (a2 : Nat) (x3 : Int) (a4 : Nat) (x5 : Int) (x6 : Int) (x7 : Int) (t0 : Int) (t1 : Int) (t2 : Nat) (t3 : Int) (t4 : Nat) (μ : Me) : Option ((Int × Me) ⊕ ((Int × Me) ⊕ (Me))) :=
  (gR μ 4 a0 5).bind fun v39 =>
  (aI μ 101 v39 x6).bind fun v40 =>
  (gR μ 4 a0 3).bind fun v41 =>
  (gR μ 6 v41 0).bind fun v42 =>
  (aI μ 101 v42 x7).bind fun v43 =>
  (ck μ 5 t2).bind fun _ =>
  (s_X7_of t2 (t1 + ((t0 * (w32 v40)) * (w32 v43))) μ).bind fun q44 =>
  (uI q44.2 t4 t3 q44.1).bind fun m46 =>
  some (.inl ((x7 + 1), m46))
theorem w_X6_overlap_b161 {Z : Zt} {fin : Me} {w : ((Int × Me) ⊕ ((Int × Me) ⊕ (Me)))} (C : CX Z yX6_overlap cX6_overlap none 3 8) {a0 : Nat} {a1 : Nat} {a2 : Nat} {x3 : Int} {a4 : Nat} {x5 : Int} {x6 : Int} {x7 : Int} {t0 : Int} {t1 : Int} {t2 : Nat} {t3 : Int} {t4 : Nat} {μ : Me} (h : s_X6_overlap_b161 a0 a1 a2 x3 a4 x5 x6 x7 t0 t1 t2 t3 t4 μ = some w) (hK : (Sum.elim (fun s : Int × Me => WL Z (QN Z none fin) s.2 116 [(0, vO a0), (1, vO a1), (2, vO a2), (3, vI x3), (4, vO a4), (5, vI x5), (6, vI x6), (7, vI s.1)] []) (Sum.elim (fun s : Int × Me => WL Z (QN Z none fin) s.2 61 [(0, vO a0), (1, vO a1), (2, vO a2), (3, vI x3), (4, vO a4), (5, vI x5), (6, vI s.1)] []) (fun r : Me => r = fin))) w) : WL Z (QN Z none fin) μ 161 [(0, vO a0), (1, vO a1), (2, vO a2), (3, vI x3), (4, vO a4), (5, vI x5), (6, vI x6), (7, vI x7)] [vJ t0, vJ t1, vO t2, vI t3, vO t4] := by
  unfold s_X6_overlap_b161 at h
  refine r_aload_n C 0 dX6_overlap_161 rfl rfl ?_
  obtain ⟨v39, ev39, h⟩ := bs h
  refine r_getR C (c := 4) (r := (RX6, TX6, 6)) rfl 5 (by decide) rfl ev39 q325 dX6_overlap_162 ?_
  refine r_iload C 6 dX6_overlap_165 rfl ?_
  obtain ⟨v40, ev40, h⟩ := bs h
  refine r_iald C ev40 dX6_overlap_167 ?_
  refine r_i2l C dX6_overlap_168 ?_
  refine r_lmul C dX6_overlap_169 ?_
  refine r_aload_n C 0 dX6_overlap_170 rfl rfl ?_
  obtain ⟨v41, ev41, h⟩ := bs h
  refine r_getR C (c := 4) (r := (RX6, TX6, 6)) rfl 3 (by decide) rfl ev41 q323 dX6_overlap_171 ?_
  obtain ⟨v42, ev42, h⟩ := bs h
  refine r_getRN C (c := 6) (r := (RX8, TX8, 2)) rfl 0 (by decide) rfl ev42 (lw_n q300 rfl) dX6_overlap_174 ?_
  refine r_iload C 7 dX6_overlap_177 rfl ?_
  obtain ⟨v43, ev43, h⟩ := bs h
  refine r_iald C ev43 dX6_overlap_179 ?_
  refine r_i2l C dX6_overlap_180 ?_
  refine r_lmul C dX6_overlap_181 ?_
  refine r_ladd C dX6_overlap_182 ?_
  obtain ⟨u45, eu45, h⟩ := bs h
  obtain ⟨q44, eq44, h⟩ := bs h
  refine r_callV C (As := [vJ (t1 + ((t0 * (w32 v40)) * (w32 v43)))]) (b := t2) (rest := [vI t3, vO t4]) (st1 := [vI q44.1, vI t3, vO t4]) (v := some (vI q44.1)) (r := (RX7, TX7, 1)) (ci := 5) rfl eu45 (m_X7_of C.tr eq44) (lw_V q840 q632 q633 q129 q634) rfl hdX7_of rfl rfl (Nat.le_of_ble_eq_true rfl) ⟨by decide, by decide⟩ dX6_overlap_183 rfl ?_
  obtain ⟨m46, em46, h⟩ := bs h
  refine r_iast C em46 dX6_overlap_186 ?_
  refine r_iinc C 7 [(7, vI (x7 + 1)), (0, vO a0), (1, vO a1), (2, vO a2), (3, vI x3), (4, vO a4), (5, vI x5), (6, vI x6)] dX6_overlap_187 rfl (by decide) rfl ?_
  refine r_goto C dX6_overlap_190 (tgt := 116) (by decide) ?_
  cases h
  refine r_sub [1, 2, 3, 4, 5, 6, 7, 0] rfl ?_
  exact hK
noncomputable def s_X6_overlap_l116_st (a0 : Nat) (a1 : Nat) (a2 : Nat) (x3 : Int) (a4 : Nat) (x5 : Int) (x6 : Int) (x7 : Int) (μ : Me) : Option ((Int × Me) ⊕ ((Int × Me) ⊕ (Me))) :=
  (if w32 x5 < w32 x7 then
  some (.inr (.inl ((x6 + 1), μ)))
  else
  (gR μ 4 a0 2).bind fun v31 =>
  (gR μ 6 v31 0).bind fun v32 =>
  (gR μ 4 a0 0).bind fun v33 =>
  (gR μ 4 a0 2).bind fun v34 =>
  (gR μ 6 v34 0).bind fun v35 =>
  (aI μ 101 v35 x7).bind fun v36 =>
  (rmI x6 2).bind fun v37 =>
  (if w32 v37 = 0 then
  s_X6_overlap_b161 a0 a1 a2 x3 a4 x5 x6 x7 1 (w32 v36) v33 x7 v32 μ
  else
  s_X6_overlap_b161 a0 a1 a2 x3 a4 x5 x6 x7 (-1) (w32 v36) v33 x7 v32 μ))
theorem w_X6_overlap_l116_st {Z : Zt} {fin : Me} {w : ((Int × Me) ⊕ ((Int × Me) ⊕ (Me)))} (C : CX Z yX6_overlap cX6_overlap none 3 8) {a0 : Nat} {a1 : Nat} {a2 : Nat} {x3 : Int} {a4 : Nat} {x5 : Int} {x6 : Int} {x7 : Int} {μ : Me} (h : s_X6_overlap_l116_st a0 a1 a2 x3 a4 x5 x6 x7 μ = some w) (hK : (Sum.elim (fun s : Int × Me => WL Z (QN Z none fin) s.2 116 [(0, vO a0), (1, vO a1), (2, vO a2), (3, vI x3), (4, vO a4), (5, vI x5), (6, vI x6), (7, vI s.1)] []) (Sum.elim (fun s : Int × Me => WL Z (QN Z none fin) s.2 61 [(0, vO a0), (1, vO a1), (2, vO a2), (3, vI x3), (4, vO a4), (5, vI x5), (6, vI s.1)] []) (fun r : Me => r = fin))) w) : WL Z (QN Z none fin) μ 116 [(0, vO a0), (1, vO a1), (2, vO a2), (3, vI x3), (4, vO a4), (5, vI x5), (6, vI x6), (7, vI x7)] [] := by
  unfold s_X6_overlap_l116_st at h
  refine r_iload C 7 dX6_overlap_116 rfl ?_
  refine r_iload C 5 dX6_overlap_118 rfl ?_
  refine r_icmp_gt C dX6_overlap_120 (tgt := 193) (by decide) (fun c30 => ?_) (fun c30 => ?_)
  · have h := it_ h c30
    refine r_iinc C 6 [(6, vI (x6 + 1)), (0, vO a0), (1, vO a1), (2, vO a2), (3, vI x3), (4, vO a4), (5, vI x5), (7, vI x7)] dX6_overlap_193 rfl (by decide) rfl ?_
    refine r_goto C dX6_overlap_196 (tgt := 61) (by decide) ?_
    cases h
    refine r_sub [1, 2, 3, 4, 5, 6, 0] rfl ?_
    exact hK
  · have h := ie_ h c30
    refine r_aload_n C 0 dX6_overlap_123 rfl rfl ?_
    obtain ⟨v31, ev31, h⟩ := bs h
    refine r_getR C (c := 4) (r := (RX6, TX6, 6)) rfl 2 (by decide) rfl ev31 q322 dX6_overlap_124 ?_
    obtain ⟨v32, ev32, h⟩ := bs h
    refine r_getRN C (c := 6) (r := (RX8, TX8, 2)) rfl 0 (by decide) rfl ev32 (lw_n q300 rfl) dX6_overlap_127 ?_
    refine r_iload C 7 dX6_overlap_130 rfl ?_
    refine r_aload_n C 0 dX6_overlap_132 rfl rfl ?_
    obtain ⟨v33, ev33, h⟩ := bs h
    refine r_getR C (c := 4) (r := (RX6, TX6, 6)) rfl 0 (by decide) rfl ev33 q316 dX6_overlap_133 ?_
    refine r_aload_n C 0 dX6_overlap_136 rfl rfl ?_
    obtain ⟨v34, ev34, h⟩ := bs h
    refine r_getR C (c := 4) (r := (RX6, TX6, 6)) rfl 2 (by decide) rfl ev34 q322 dX6_overlap_137 ?_
    obtain ⟨v35, ev35, h⟩ := bs h
    refine r_getRN C (c := 6) (r := (RX8, TX8, 2)) rfl 0 (by decide) rfl ev35 (lw_n q300 rfl) dX6_overlap_140 ?_
    refine r_iload C 7 dX6_overlap_143 rfl ?_
    obtain ⟨v36, ev36, h⟩ := bs h
    refine r_iald C ev36 dX6_overlap_145 ?_
    refine r_i2l C dX6_overlap_146 ?_
    refine r_iload C 6 dX6_overlap_147 rfl ?_
    refine r_iconst C dX6_overlap_149 ?_
    obtain ⟨v37, ev37, h⟩ := bs h
    refine r_irem C ev37 dX6_overlap_150 ?_
    refine r_if_ne C dX6_overlap_151 (tgt := 158) (by decide) (fun c38 => ?_) (fun c38 => ?_)
    · have h := ie_ h c38
      refine r_ldc2 (n := (-1)) C q941 dX6_overlap_158 (by decide) ?_
      exact w_X6_overlap_b161 (fin := fin) C h hK
    · have h := it_ h c38
      refine r_lconst (v := 1) C dX6_overlap_154 (by decide) ?_
      refine r_goto C dX6_overlap_155 (tgt := 161) (by decide) ?_
      exact w_X6_overlap_b161 (fin := fin) C h hK
noncomputable def s_X6_overlap_l116 (a0 : Nat) (a1 : Nat) (a2 : Nat) (x3 : Int) (a4 : Nat) (x5 : Int) (x6 : Int) (x7 : Int) (μ : Me) : Option ((Int × Me) ⊕ (Me)) :=
  whileO (fun s : Int × Me => s_X6_overlap_l116_st a0 a1 a2 x3 a4 x5 x6 s.1 s.2) (x7, μ)
theorem e_X6_overlap_l116 (a0 : Nat) (a1 : Nat) (a2 : Nat) (x3 : Int) (a4 : Nat) (x5 : Int) (x6 : Int) (x7 : Int) (μ : Me) : s_X6_overlap_l116 a0 a1 a2 x3 a4 x5 x6 x7 μ = (s_X6_overlap_l116_st a0 a1 a2 x3 a4 x5 x6 x7 μ).bind fun x => x.elim (fun s : Int × Me => s_X6_overlap_l116 a0 a1 a2 x3 a4 x5 x6 s.1 s.2) some := whileO_eq _ _
theorem w_X6_overlap_l116 {Z : Zt} {fin : Me} {w : ((Int × Me) ⊕ (Me))} (C : CX Z yX6_overlap cX6_overlap none 3 8) {a0 : Nat} {a1 : Nat} {a2 : Nat} {x3 : Int} {a4 : Nat} {x5 : Int} {x6 : Int} {x7 : Int} {μ : Me} (h : s_X6_overlap_l116 a0 a1 a2 x3 a4 x5 x6 x7 μ = some w) (hK : (Sum.elim (fun s : Int × Me => WL Z (QN Z none fin) s.2 61 [(0, vO a0), (1, vO a1), (2, vO a2), (3, vI x3), (4, vO a4), (5, vI x5), (6, vI s.1)] []) (fun r : Me => r = fin)) w) : WL Z (QN Z none fin) μ 116 [(0, vO a0), (1, vO a1), (2, vO a2), (3, vI x3), (4, vO a4), (5, vI x5), (6, vI x6), (7, vI x7)] [] := by
  refine whileO_walk (w := w) (fun s : Int × Me => WL Z (QN Z none fin) s.2 116 [(0, vO a0), (1, vO a1), (2, vO a2), (3, vI x3), (4, vO a4), (5, vI x5), (6, vI x6), (7, vI s.1)] []) (fun s v h2 hi hr => ?_) (x7, μ) h
  refine w_X6_overlap_l116_st (fin := fin) C h2 ?_
  cases v with
  | inl s2 => exact hi s2 rfl
  | inr r => have e := hr r rfl; subst e; exact hK
noncomputable def s_X6_overlap_l61_st (a0 : Nat) (a1 : Nat) (a2 : Nat) (x3 : Int) (a4 : Nat) (x5 : Int) (x6 : Int) (μ : Me) : Option ((Int × Me) ⊕ (Me)) :=
  (if w32 x3 < w32 x6 then
  (s_X6_overlap_b199 a0 a4 μ).map Sum.inr
  else
  (gR μ 4 a0 3).bind fun v19 =>
  (ck μ 4 a0).bind fun _ =>
  (s_X6_differs a0 a1 (x3 - x6) x6 v19 μ).bind fun q20 =>
  (gR q20 4 a0 4).bind fun v22 =>
  (ck q20 4 a0).bind fun _ =>
  (s_X6_differs a0 a2 x6 (x3 - x6) v22 q20).bind fun q23 =>
  (gR q23 4 a0 3).bind fun v25 =>
  (gR q23 4 a0 4).bind fun v26 =>
  (gR q23 4 a0 3).bind fun v27 =>
  (ck q23 4 a0).bind fun _ =>
  (s_X6_product a0 v25 v26 v27 q23).bind fun q28 =>
  s_X6_overlap_l116 a0 a1 a2 x3 a4 x5 x6 0 q28)
theorem w_X6_overlap_l61_st {Z : Zt} {fin : Me} {w : ((Int × Me) ⊕ (Me))} (C : CX Z yX6_overlap cX6_overlap none 3 8) {a0 : Nat} {a1 : Nat} {a2 : Nat} {x3 : Int} {a4 : Nat} {x5 : Int} {x6 : Int} {μ : Me} (h : s_X6_overlap_l61_st a0 a1 a2 x3 a4 x5 x6 μ = some w) (hK : (Sum.elim (fun s : Int × Me => WL Z (QN Z none fin) s.2 61 [(0, vO a0), (1, vO a1), (2, vO a2), (3, vI x3), (4, vO a4), (5, vI x5), (6, vI s.1)] []) (fun r : Me => r = fin)) w) : WL Z (QN Z none fin) μ 61 [(0, vO a0), (1, vO a1), (2, vO a2), (3, vI x3), (4, vO a4), (5, vI x5), (6, vI x6)] [] := by
  unfold s_X6_overlap_l61_st at h
  refine r_iload C 6 dX6_overlap_61 rfl ?_
  refine r_iload_n C 3 dX6_overlap_63 rfl rfl ?_
  refine r_icmp_gt C dX6_overlap_64 (tgt := 199) (by decide) (fun c15 => ?_) (fun c15 => ?_)
  · have h := it_ h c15
    obtain ⟨z, hz, ez⟩ := ms_ h; clear h; subst ez; have h := hz; clear hz
    refine r_sub [0, 4] rfl ?_
    exact w_X6_overlap_b199 (fin := fin) C h hK
  · have h := ie_ h c15
    refine r_aload_n C 0 dX6_overlap_67 rfl rfl ?_
    refine r_aload_n C 1 dX6_overlap_68 rfl rfl ?_
    refine r_iload_n C 3 dX6_overlap_69 rfl rfl ?_
    refine r_iload C 6 dX6_overlap_70 rfl ?_
    refine r_isub C dX6_overlap_72 ?_
    refine r_iload C 6 dX6_overlap_73 rfl ?_
    refine r_aload_n C 0 dX6_overlap_75 rfl rfl ?_
    obtain ⟨v19, ev19, h⟩ := bs h
    refine r_getR C (c := 4) (r := (RX6, TX6, 6)) rfl 3 (by decide) rfl ev19 q323 dX6_overlap_76 ?_
    obtain ⟨u21, eu21, h⟩ := bs h
    obtain ⟨q20, eq20, h⟩ := bs h
    refine r_callV C (As := [vO a1, vI (x3 - x6), vI x6, vO v19]) (b := a0) (rest := []) (st1 := []) (v := none) (r := (RX6, TX6, 6)) (ci := 4) rfl eu21 (m_X6_differs C.tr eq20) (lw_V q933 q935 qs20 q128 q936) rfl hdX6_differs rfl rfl (Nat.le_of_ble_eq_true rfl) ⟨by decide, by decide⟩ dX6_overlap_79 rfl ?_
    refine r_aload_n C 0 dX6_overlap_82 rfl rfl ?_
    refine r_aload_n C 2 dX6_overlap_83 rfl rfl ?_
    refine r_iload C 6 dX6_overlap_84 rfl ?_
    refine r_iload_n C 3 dX6_overlap_86 rfl rfl ?_
    refine r_iload C 6 dX6_overlap_87 rfl ?_
    refine r_isub C dX6_overlap_89 ?_
    refine r_aload_n C 0 dX6_overlap_90 rfl rfl ?_
    obtain ⟨v22, ev22, h⟩ := bs h
    refine r_getR C (c := 4) (r := (RX6, TX6, 6)) rfl 4 (by decide) rfl ev22 q324 dX6_overlap_91 ?_
    obtain ⟨u24, eu24, h⟩ := bs h
    obtain ⟨q23, eq23, h⟩ := bs h
    refine r_callV C (As := [vO a2, vI x6, vI (x3 - x6), vO v22]) (b := a0) (rest := []) (st1 := []) (v := none) (r := (RX6, TX6, 6)) (ci := 4) rfl eu24 (m_X6_differs C.tr eq23) (lw_V q933 q935 qs20 q128 q936) rfl hdX6_differs rfl rfl (Nat.le_of_ble_eq_true rfl) ⟨by decide, by decide⟩ dX6_overlap_94 rfl ?_
    refine r_aload_n C 0 dX6_overlap_97 rfl rfl ?_
    refine r_aload_n C 0 dX6_overlap_98 rfl rfl ?_
    obtain ⟨v25, ev25, h⟩ := bs h
    refine r_getR C (c := 4) (r := (RX6, TX6, 6)) rfl 3 (by decide) rfl ev25 q323 dX6_overlap_99 ?_
    refine r_aload_n C 0 dX6_overlap_102 rfl rfl ?_
    obtain ⟨v26, ev26, h⟩ := bs h
    refine r_getR C (c := 4) (r := (RX6, TX6, 6)) rfl 4 (by decide) rfl ev26 q324 dX6_overlap_103 ?_
    refine r_aload_n C 0 dX6_overlap_106 rfl rfl ?_
    obtain ⟨v27, ev27, h⟩ := bs h
    refine r_getR C (c := 4) (r := (RX6, TX6, 6)) rfl 3 (by decide) rfl ev27 q323 dX6_overlap_107 ?_
    obtain ⟨u29, eu29, h⟩ := bs h
    obtain ⟨q28, eq28, h⟩ := bs h
    refine r_callV C (As := [vO v25, vO v26, vO v27]) (b := a0) (rest := []) (st1 := []) (v := none) (r := (RX6, TX6, 6)) (ci := 4) rfl eu29 (m_X6_product C.tr eq28) (lw_V q937 q938 q939 q128 q940) rfl hdX6_product rfl rfl (Nat.le_of_ble_eq_true rfl) ⟨by decide, by decide⟩ dX6_overlap_110 rfl ?_
    refine r_iconst C dX6_overlap_113 ?_
    refine r_istore C [(7, vI 0), (0, vO a0), (1, vO a1), (2, vO a2), (3, vI x3), (4, vO a4), (5, vI x5), (6, vI x6)] dX6_overlap_114 (by decide) rfl ?_
    refine r_sub [1, 2, 3, 4, 5, 6, 7, 0] rfl ?_
    exact w_X6_overlap_l116 (fin := fin) C h hK
noncomputable def s_X6_overlap_l61 (a0 : Nat) (a1 : Nat) (a2 : Nat) (x3 : Int) (a4 : Nat) (x5 : Int) (x6 : Int) (μ : Me) : Option (Me) :=
  whileO (fun s : Int × Me => s_X6_overlap_l61_st a0 a1 a2 x3 a4 x5 s.1 s.2) (x6, μ)
theorem e_X6_overlap_l61 (a0 : Nat) (a1 : Nat) (a2 : Nat) (x3 : Int) (a4 : Nat) (x5 : Int) (x6 : Int) (μ : Me) : s_X6_overlap_l61 a0 a1 a2 x3 a4 x5 x6 μ = (s_X6_overlap_l61_st a0 a1 a2 x3 a4 x5 x6 μ).bind fun x => x.elim (fun s : Int × Me => s_X6_overlap_l61 a0 a1 a2 x3 a4 x5 s.1 s.2) some := whileO_eq _ _
theorem w_X6_overlap_l61 {Z : Zt} {fin : Me} {w : (Me)} (C : CX Z yX6_overlap cX6_overlap none 3 8) {a0 : Nat} {a1 : Nat} {a2 : Nat} {x3 : Int} {a4 : Nat} {x5 : Int} {x6 : Int} {μ : Me} (h : s_X6_overlap_l61 a0 a1 a2 x3 a4 x5 x6 μ = some w) (hK : (fun r : Me => r = fin) w) : WL Z (QN Z none fin) μ 61 [(0, vO a0), (1, vO a1), (2, vO a2), (3, vI x3), (4, vO a4), (5, vI x5), (6, vI x6)] [] := by
  refine whileO_walk (w := w) (fun s : Int × Me => WL Z (QN Z none fin) s.2 61 [(0, vO a0), (1, vO a1), (2, vO a2), (3, vI x3), (4, vO a4), (5, vI x5), (6, vI s.1)] []) (fun s v h2 hi hr => ?_) (x6, μ) h
  refine w_X6_overlap_l61_st (fin := fin) C h2 ?_
  cases v with
  | inl s2 => exact hi s2 rfl
  | inr r => have e := hr r rfl; subst e; exact hK
noncomputable def s_X6_overlap (a0 : Nat) (a1 : Nat) (a2 : Nat) (x3 : Int) (a4 : Nat) (μ : Me) : Option (Me) :=
  (gI μ 6 a1 1).bind fun v1 =>
  (gI μ 6 a2 1).bind fun v2 =>
  (gI μ 6 a1 1).bind fun v3 =>
  (gI μ 6 a2 1).bind fun v4 =>
  (s_J6_min v3 v4 μ).bind fun q5 =>
  (if w32 q5.1 < w32 x3 then
  (ck q5.2 6 a4).bind fun _ =>
  (s_X8_nought a4 (-1) q5.2).bind fun q7 =>
  some q7
  else
  (if w32 ((v1 + v2) - (2 * x3)) ≤ w32 40 then
  (gR q5.2 4 a0 2).bind fun v10 =>
  (ck q5.2 6 v10).bind fun _ =>
  (s_X8_nought v10 ((v1 + v2) - (2 * x3)) q5.2).bind fun q11 =>
  (ck q11 4 a0).bind fun _ =>
  (s_X6_chooses a0 x3 q11).bind fun q13 =>
  s_X6_overlap_l61 a0 a1 a2 x3 a4 ((v1 + v2) - (2 * x3)) 0 q13
  else
  (ck q5.2 6 a4).bind fun _ =>
  (s_X8_nought a4 (-1) q5.2).bind fun q47 =>
  some q47))
theorem w_X6_overlap {Z : Zt} {fin : Me} {w : Me} (C : CX Z yX6_overlap cX6_overlap none 3 8) {a0 : Nat} {a1 : Nat} {a2 : Nat} {x3 : Int} {a4 : Nat} {μ : Me} (h : s_X6_overlap a0 a1 a2 x3 a4 μ = some w) (hK : w = fin) : WL Z (QN Z none fin) μ 0 [(0, vO a0), (1, vO a1), (2, vO a2), (3, vI x3), (4, vO a4)] [] := by
  unfold s_X6_overlap at h
  refine r_aload_n C 1 dX6_overlap_0 rfl rfl ?_
  obtain ⟨v1, ev1, h⟩ := bs h
  refine r_getIN C (c := 6) (r := (RX8, TX8, 2)) rfl 1 (by decide) rfl ev1 (lw_n q305 rfl) dX6_overlap_1 ?_
  refine r_aload_n C 2 dX6_overlap_4 rfl rfl ?_
  obtain ⟨v2, ev2, h⟩ := bs h
  refine r_getIN C (c := 6) (r := (RX8, TX8, 2)) rfl 1 (by decide) rfl ev2 (lw_n q305 rfl) dX6_overlap_5 ?_
  refine r_iadd C dX6_overlap_8 ?_
  refine r_iconst C dX6_overlap_9 ?_
  refine r_iload_n C 3 dX6_overlap_10 rfl rfl ?_
  refine r_imul C dX6_overlap_11 ?_
  refine r_isub C dX6_overlap_12 ?_
  refine r_istore C [(5, vI ((v1 + v2) - (2 * x3))), (0, vO a0), (1, vO a1), (2, vO a2), (3, vI x3), (4, vO a4)] dX6_overlap_13 (by decide) rfl ?_
  refine r_iload_n C 4 dX6_overlap_15 rfl rfl ?_
  refine r_aload_n C 2 dX6_overlap_16 rfl rfl ?_
  obtain ⟨v3, ev3, h⟩ := bs h
  refine r_getIN C (c := 6) (r := (RX8, TX8, 2)) rfl 1 (by decide) rfl ev3 (lw_n q305 rfl) dX6_overlap_17 ?_
  refine r_aload_n C 3 dX6_overlap_20 rfl rfl ?_
  obtain ⟨v4, ev4, h⟩ := bs h
  refine r_getIN C (c := 6) (r := (RX8, TX8, 2)) rfl 1 (by decide) rfl ev4 (lw_n q305 rfl) dX6_overlap_21 ?_
  obtain ⟨q5, eq5, h⟩ := bs h
  refine r_callS C (As := [vI v3, vI v4]) (rest := [vI x3]) (st1 := [vI q5.1, vI x3]) (v := some (vI q5.1)) (m_J6_min C.tr eq5) (lw_S q926 q927 q137 q928) hdJ6_min rfl rfl (Nat.le_of_ble_eq_true rfl) ⟨by decide, by decide⟩ dX6_overlap_24 rfl ?_
  refine r_icmp_gt C dX6_overlap_27 (tgt := 37) (by decide) (fun c6 => ?_) (fun c6 => ?_)
  · have h := it_ h c6
    refine r_aload C 5 dX6_overlap_37 rfl ?_
    refine r_iconst C dX6_overlap_39 ?_
    obtain ⟨u8, eu8, h⟩ := bs h
    obtain ⟨q7, eq7, h⟩ := bs h
    refine r_callV C (As := [vI (-1)]) (b := a4) (rest := []) (st1 := []) (v := none) (r := (RX8, TX8, 2)) (ci := 6) rfl eu8 (m_X8_nought C.tr eq7) (lw_V q863 q628 q629 q130 q630) rfl hdX8_nought rfl rfl (Nat.le_of_ble_eq_true rfl) ⟨by decide, by decide⟩ dX6_overlap_40 rfl ?_
    cases h
    exact r_vret C hK dX6_overlap_43
  · have h := ie_ h c6
    refine r_iload C 0 dX6_overlap_30 rfl ?_
    refine r_bipush C dX6_overlap_32 (by decide) ?_
    refine r_icmp_le C dX6_overlap_34 (tgt := 44) (by decide) (fun c9 => ?_) (fun c9 => ?_)
    · have h := it_ h c9
      refine r_aload_n C 1 dX6_overlap_44 rfl rfl ?_
      obtain ⟨v10, ev10, h⟩ := bs h
      refine r_getR C (c := 4) (r := (RX6, TX6, 6)) rfl 2 (by decide) rfl ev10 q322 dX6_overlap_45 ?_
      refine r_iload C 0 dX6_overlap_48 rfl ?_
      obtain ⟨u12, eu12, h⟩ := bs h
      obtain ⟨q11, eq11, h⟩ := bs h
      refine r_callV C (As := [vI ((v1 + v2) - (2 * x3))]) (b := v10) (rest := []) (st1 := []) (v := none) (r := (RX8, TX8, 2)) (ci := 6) rfl eu12 (m_X8_nought C.tr eq11) (lw_V q863 q628 q629 q130 q630) rfl hdX8_nought rfl rfl (Nat.le_of_ble_eq_true rfl) ⟨by decide, by decide⟩ dX6_overlap_50 rfl ?_
      refine r_aload_n C 1 dX6_overlap_53 rfl rfl ?_
      refine r_iload_n C 4 dX6_overlap_54 rfl rfl ?_
      obtain ⟨u14, eu14, h⟩ := bs h
      obtain ⟨q13, eq13, h⟩ := bs h
      refine r_callV C (As := [vI x3]) (b := a0) (rest := []) (st1 := []) (v := none) (r := (RX6, TX6, 6)) (ci := 4) rfl eu14 (m_X6_chooses C.tr eq13) (lw_V q929 q931 qs19 q128 q932) rfl hdX6_chooses rfl rfl (Nat.le_of_ble_eq_true rfl) ⟨by decide, by decide⟩ dX6_overlap_55 rfl ?_
      refine r_iconst C dX6_overlap_58 ?_
      refine r_istore C [(6, vI 0), (5, vI ((v1 + v2) - (2 * x3))), (0, vO a0), (1, vO a1), (2, vO a2), (3, vI x3), (4, vO a4)] dX6_overlap_59 (by decide) rfl ?_
      refine r_sub [2, 3, 4, 5, 6, 1, 0] rfl ?_
      exact w_X6_overlap_l61 (fin := fin) C h hK
    · have h := ie_ h c9
      refine r_aload C 5 dX6_overlap_37 rfl ?_
      refine r_iconst C dX6_overlap_39 ?_
      obtain ⟨u48, eu48, h⟩ := bs h
      obtain ⟨q47, eq47, h⟩ := bs h
      refine r_callV C (As := [vI (-1)]) (b := a4) (rest := []) (st1 := []) (v := none) (r := (RX8, TX8, 2)) (ci := 6) rfl eu48 (m_X8_nought C.tr eq47) (lw_V q863 q628 q629 q130 q630) rfl hdX8_nought rfl rfl (Nat.le_of_ble_eq_true rfl) ⟨by decide, by decide⟩ dX6_overlap_40 rfl ?_
      cases h
      exact r_vret C hK dX6_overlap_43
theorem hdX6_overlap : zhd yX6_overlap 4 := by decide +kernel
theorem m_X6_overlap {l : Launch} {D : va_G} {b0 : Nat} (hl : l.stackTraces = false) {a0 : Nat} {a1 : Nat} {a2 : Nat} {x3 : Int} {a4 : Nat} {μ : Me} {w : Me} (h : s_X6_overlap a0 a1 a2 x3 a4 μ = some w) : MN l D b0 yX6_overlap (ws_ yX6_overlap cX6_overlap 8 none) 3 [vO a0, vO a1, vO a2, vI x3, vO a4] μ none w :=
  MN.of hl (by decide +kernel) (Nat.le_of_ble_eq_true rfl) (fun Z C _ _ => w_X6_overlap C h rfl)
noncomputable def s_X1_overlap (a0 : Nat) (x1 : Int) (x2 : Int) (x3 : Int) (x4 : Int) (μ : Me) : Option (Ex ⊕ (Int × Me)) :=
  (ck μ 0 a0).bind fun _ =>
  xb (s_X1_formAt a0 x1 μ) (fun e2 => some (.inl e2)) fun q1 =>
  (ck q1.2 0 a0).bind fun _ =>
  xb (s_X1_formAt a0 x2 q1.2) (fun e5 => some (.inl e5)) fun q4 =>
  (gI q4.2 6 q1.1 1).bind fun v7 =>
  (gI q4.2 6 q4.1 1).bind fun v8 =>
  (s_J6_min v7 v8 q4.2).bind fun q9 =>
  (s_X1_isIn (w32 x3) 0 (w32 q9.1) q9.2).bind fun q10 =>
  xb (s_X1_must q10.1 q10.2) (fun e12 => some (.inl e12)) fun q11 =>
  (gR q11 0 a0 1).bind fun v13 =>
  (gR q11 0 a0 5).bind fun v14 =>
  (ck q11 4 v13).bind fun _ =>
  (s_X6_overlap v13 q1.1 q4.1 x3 v14 q11).bind fun q15 =>
  (gR q15 0 a0 5).bind fun v17 =>
  (s_X1_tells v17 x4 q15).bind fun q18 =>
  some (.inr (q18.1, q18.2))
theorem w_X1_overlap {Z : Zt} {fin : Ex ⊕ (Int × Me)} {w : Ex ⊕ (Int × Me)} (C : CX Z yX1_overlap cX1_overlap (some .int) 8 7) (X : XE Z) {a0 : Nat} {x1 : Int} {x2 : Int} {x3 : Int} {x4 : Int} {μ : Me} (h : s_X1_overlap a0 x1 x2 x3 x4 μ = some w) (hK : w = fin) : WL Z (XQ Z (zoI fin) (zmI fin)) μ 0 [(0, vO a0), (1, vI x1), (2, vI x2), (3, vI x3), (4, vI x4)] [] := by
  unfold s_X1_overlap at h
  refine r_aload_n C 0 dX1_overlap_0 rfl rfl ?_
  refine r_iload_n C 1 dX1_overlap_1 rfl rfl ?_
  obtain ⟨u3, eu3, h⟩ := bs h
  rcases xbs h with ⟨e2, eq1, h⟩ | ⟨q1, eq1, h⟩
  · refine r_xVx C (As := [vI x1]) (b := a0) (rest := []) (μ1 := e2.2.2) (r := (RX1, TX1, 19)) (ci := 0) rfl eu3 (m_X1_formAt C.tr eq1) (lw_V q799 q801 qs15 q120 q802) rfl hdX1_formAt rfl rfl (Nat.le_of_ble_eq_true rfl) ⟨by decide, by decide⟩ dX1_overlap_2 ?_
    cases h
    exact r_xoutI C X hK
  · refine r_xV C (As := [vI x1]) (b := a0) (rest := []) (st1 := [vO q1.1]) (v := some (vO q1.1)) (μ1 := q1.2) (r := (RX1, TX1, 19)) (ci := 0) rfl eu3 (m_X1_formAt C.tr eq1) (lw_V q799 q801 qs15 q120 q802) rfl hdX1_formAt rfl rfl (Nat.le_of_ble_eq_true rfl) ⟨by decide, by decide⟩ dX1_overlap_2 rfl ?_
    refine r_astore C [(5, vO q1.1), (0, vO a0), (1, vI x1), (2, vI x2), (3, vI x3), (4, vI x4)] dX1_overlap_5 (by decide) rfl ?_
    refine r_aload_n C 1 dX1_overlap_7 rfl rfl ?_
    refine r_iload_n C 3 dX1_overlap_8 rfl rfl ?_
    obtain ⟨u6, eu6, h⟩ := bs h
    rcases xbs h with ⟨e5, eq4, h⟩ | ⟨q4, eq4, h⟩
    · refine r_xVx C (As := [vI x2]) (b := a0) (rest := []) (μ1 := e5.2.2) (r := (RX1, TX1, 19)) (ci := 0) rfl eu6 (m_X1_formAt C.tr eq4) (lw_V q799 q801 qs15 q120 q802) rfl hdX1_formAt rfl rfl (Nat.le_of_ble_eq_true rfl) ⟨by decide, by decide⟩ dX1_overlap_9 ?_
      cases h
      exact r_xoutI C X hK
    · refine r_xV C (As := [vI x2]) (b := a0) (rest := []) (st1 := [vO q4.1]) (v := some (vO q4.1)) (μ1 := q4.2) (r := (RX1, TX1, 19)) (ci := 0) rfl eu6 (m_X1_formAt C.tr eq4) (lw_V q799 q801 qs15 q120 q802) rfl hdX1_formAt rfl rfl (Nat.le_of_ble_eq_true rfl) ⟨by decide, by decide⟩ dX1_overlap_9 rfl ?_
      refine r_astore C [(6, vO q4.1), (5, vO q1.1), (0, vO a0), (1, vI x1), (2, vI x2), (3, vI x3), (4, vI x4)] dX1_overlap_12 (by decide) rfl ?_
      refine r_iload_n C 5 dX1_overlap_14 rfl rfl ?_
      refine r_i2l C dX1_overlap_15 ?_
      refine r_lconst (v := 0) C dX1_overlap_16 (by decide) ?_
      refine r_aload C 1 dX1_overlap_17 rfl ?_
      obtain ⟨v7, ev7, h⟩ := bs h
      refine r_getIN C (c := 6) (r := (RX8, TX8, 2)) rfl 1 (by decide) rfl ev7 (lw_n q309 rfl) dX1_overlap_19 ?_
      refine r_aload C 0 dX1_overlap_22 rfl ?_
      obtain ⟨v8, ev8, h⟩ := bs h
      refine r_getIN C (c := 6) (r := (RX8, TX8, 2)) rfl 1 (by decide) rfl ev8 (lw_n q309 rfl) dX1_overlap_24 ?_
      obtain ⟨q9, eq9, h⟩ := bs h
      refine r_callS C (As := [vI v7, vI v8]) (rest := [vJ 0, vJ (w32 x3)]) (st1 := [vI q9.1, vJ 0, vJ (w32 x3)]) (v := some (vI q9.1)) (m_J6_min C.tr eq9) (lw_S q1122 q927 q137 q928) hdJ6_min rfl rfl (Nat.le_of_ble_eq_true rfl) ⟨by decide, by decide⟩ dX1_overlap_27 rfl ?_
      refine r_i2l C dX1_overlap_30 ?_
      obtain ⟨q10, eq10, h⟩ := bs h
      refine r_callS C (As := [vJ (w32 x3), vJ 0, vJ (w32 q9.1)]) (rest := []) (st1 := [vI q10.1]) (v := some (vI q10.1)) (m_X1_isIn C.tr eq10) (lw_S q499 q500 q120 q501) hdX1_isIn rfl rfl (Nat.le_of_ble_eq_true rfl) ⟨by decide, by decide⟩ dX1_overlap_31 rfl ?_
      rcases xbs h with ⟨e12, eq11, h⟩ | ⟨q11, eq11, h⟩
      · refine r_xSx C (As := [vI q10.1]) (rest := []) (μ1 := e12.2.2) (m_X1_must C.tr eq11) (lw_S q557 q558 q120 q559) hdX1_must rfl rfl (Nat.le_of_ble_eq_true rfl) ⟨by decide, by decide⟩ dX1_overlap_34 ?_
        cases h
        exact r_xoutI C X hK
      · refine r_xS C (As := [vI q10.1]) (rest := []) (st1 := []) (v := none) (μ1 := q11) (m_X1_must C.tr eq11) (lw_S q557 q558 q120 q559) hdX1_must rfl rfl (Nat.le_of_ble_eq_true rfl) ⟨by decide, by decide⟩ dX1_overlap_34 rfl ?_
        refine r_aload_n C 2 dX1_overlap_37 rfl rfl ?_
        obtain ⟨v13, ev13, h⟩ := bs h
        refine r_getR C (c := 0) (r := (RX1, TX1, 19)) rfl 1 (by decide) rfl ev13 q422 dX1_overlap_38 ?_
        refine r_aload C 1 dX1_overlap_41 rfl ?_
        refine r_aload C 0 dX1_overlap_43 rfl ?_
        refine r_iload_n C 5 dX1_overlap_45 rfl rfl ?_
        refine r_aload_n C 2 dX1_overlap_46 rfl rfl ?_
        obtain ⟨v14, ev14, h⟩ := bs h
        refine r_getR C (c := 0) (r := (RX1, TX1, 19)) rfl 5 (by decide) rfl ev14 q433 dX1_overlap_47 ?_
        obtain ⟨u16, eu16, h⟩ := bs h
        obtain ⟨q15, eq15, h⟩ := bs h
        refine r_callV C (As := [vO q1.1, vO q4.1, vI x3, vO v14]) (b := v13) (rest := []) (st1 := []) (v := none) (r := (RX6, TX6, 6)) (ci := 4) rfl eu16 (m_X6_overlap C.tr eq15) (lw_V q1209 q923 q924 q128 q925) rfl hdX6_overlap rfl rfl (Nat.le_of_ble_eq_true rfl) ⟨by decide, by decide⟩ dX1_overlap_50 rfl ?_
        refine r_aload_n C 2 dX1_overlap_53 rfl rfl ?_
        obtain ⟨v17, ev17, h⟩ := bs h
        refine r_getR C (c := 0) (r := (RX1, TX1, 19)) rfl 5 (by decide) rfl ev17 q433 dX1_overlap_54 ?_
        refine r_iload C 6 dX1_overlap_57 rfl ?_
        obtain ⟨q18, eq18, h⟩ := bs h
        refine r_callS C (As := [vO v17, vI x4]) (rest := []) (st1 := [vI q18.1]) (v := some (vI q18.1)) (m_X1_tells C.tr eq18) (lw_S q821 q822 q120 q823) hdX1_tells rfl rfl (Nat.le_of_ble_eq_true rfl) ⟨by decide, by decide⟩ dX1_overlap_59 rfl ?_
        cases h
        exact r_xiret C hK dX1_overlap_62
theorem hdX1_overlap : zhd yX1_overlap 4 := by decide +kernel
theorem m_X1_overlap {l : Launch} {D : va_G} {b0 : Nat} (hl : l.stackTraces = false) {a0 : Nat} {x1 : Int} {x2 : Int} {x3 : Int} {x4 : Int} {μ : Me} {w : Ex ⊕ (Int × Me)} (h : s_X1_overlap a0 x1 x2 x3 x4 μ = some w) : XN l D b0 yX1_overlap (ws_ yX1_overlap cX1_overlap 7 (some .int)) 8 [vO a0, vI x1, vI x2, vI x3, vI x4] μ (zoI w) (zmI w) :=
  XN.of hl (by decide +kernel) (Nat.le_of_ble_eq_true rfl) (fun Z C X _ _ => w_X1_overlap C X h rfl)
theorem at_X1_thereIs_4 : ∀ w ∈ vx_at0 "LetterForms" 93 (exn 4) nm9, w ∈ lw_tbl ∧ (goodWord w || zNest w) = true := lw_pl _ [124, 197, 206, 214, 217, 219, 198, 199, 156, 157, 200, 205, 215, 236, 187, 237, 189, 238, 191, 201, 203, 193, 1234, 1235, 1236, 573, 178, 573, 574, 575, 576, 180, 576, 577, 578, 198, 182, 1233, 1225, 1226, 1227, 213, 1228, 1229, 1230, 1231, 196, 195, 1232] (by decide +kernel) (by decide +kernel)
noncomputable def s_X1_thereIs (x0 : Int) (μ : Me) : Option (Ex ⊕ Me) :=
  (if w32 x0 = 0 then
  (tE μ 4).bind fun e2 =>
  some (.inl e2)
  else
  some (.inr μ))
theorem w_X1_thereIs {Z : Zt} {fin : Ex ⊕ Me} {w : Ex ⊕ Me} (C : CX Z yX1_thereIs cX1_thereIs none 6 1) (X : XE Z) {x0 : Int} {μ : Me} (h : s_X1_thereIs x0 μ = some w) (hK : w = fin) : WL Z (XQ Z (zoV fin) (zmV fin)) μ 0 [(0, vI x0)] [] := by
  unfold s_X1_thereIs at h
  refine r_iload_n C 0 dX1_thereIs_0 rfl rfl ?_
  refine r_if_ne C dX1_thereIs_1 (tgt := 12) (by decide) (fun c1 => ?_) (fun c1 => ?_)
  · have h := ie_ h c1
    cases h
    exact r_xvret C hK dX1_thereIs_12
  · have h := it_ h c1
    obtain ⟨e2, ee2, h⟩ := bs h
    cases h
    exact r_throwV C ee2 hK (by decide +kernel) q1224 q149 at_X1_thereIs_4 (by decide) (Nat.le_of_ble_eq_true rfl) dX1_thereIs_4 dX1_thereIs_7 dX1_thereIs_8 dX1_thereIs_11 X.out
theorem hdX1_thereIs : zhd yX1_thereIs 1 := by decide +kernel
theorem m_X1_thereIs {l : Launch} {D : va_G} {b0 : Nat} (hl : l.stackTraces = false) {x0 : Int} {μ : Me} {w : Ex ⊕ Me} (h : s_X1_thereIs x0 μ = some w) : XN l D b0 yX1_thereIs (ws_ yX1_thereIs cX1_thereIs 1 none) 6 [vI x0] μ (zoV w) (zmV w) :=
  XN.of hl (by decide +kernel) (Nat.le_of_ble_eq_true rfl) (fun Z C X _ _ => w_X1_thereIs C X h rfl)
noncomputable def s_X1_isReduced (y0 : Int) (y2 : Int) (y4 : Int) (μ : Me) : Option (Int × Me) :=
  (if w64 y2 ≤ w64 (-y0) then
  some (0, μ)
  else
  (if w64 y0 < w64 y2 then
  some (0, μ)
  else
  (if w64 y4 < w64 y0 then
  some (0, μ)
  else
  (if w64 y0 < w64 y4 then
  some (1, μ)
  else
  (if w64 y2 < w64 0 then
  some (0, μ)
  else
  some (1, μ))))))
theorem w_X1_isReduced {Z : Zt} {fin : Int × Me} {w : Int × Me} (C : CX Z yX1_isReduced cX1_isReduced (some .boolean) 1 6) {y0 : Int} {y2 : Int} {y4 : Int} {μ : Me} (h : s_X1_isReduced y0 y2 y4 μ = some w) (hK : w = fin) : WL Z (QN Z (some (vI fin.1)) fin.2) μ 0 [(0, vJ y0), (2, vJ y2), (4, vJ y4)] [] := by
  unfold s_X1_isReduced at h
  refine r_lload_n C 1 dX1_isReduced_0 rfl rfl ?_
  refine r_lload_n C 0 dX1_isReduced_1 rfl rfl ?_
  refine r_lneg C dX1_isReduced_2 ?_
  refine r_lcmp_le C dX1_isReduced_3 dX1_isReduced_4 (tgt := 37) (by decide) (fun c1 => ?_) (fun c1 => ?_)
  · have h := it_ h c1
    refine r_iconst C dX1_isReduced_37 ?_
    cases h
    exact r_zret C (Or.inl rfl) hK dX1_isReduced_38
  · have h := ie_ h c1
    refine r_lload_n C 1 dX1_isReduced_7 rfl rfl ?_
    refine r_lload_n C 0 dX1_isReduced_8 rfl rfl ?_
    refine r_lcmp_gt C dX1_isReduced_9 dX1_isReduced_10 (tgt := 37) (by decide) (fun c2 => ?_) (fun c2 => ?_)
    · have h := it_ h c2
      refine r_iconst C dX1_isReduced_37 ?_
      cases h
      exact r_zret C (Or.inl rfl) hK dX1_isReduced_38
    · have h := ie_ h c2
      refine r_lload_n C 0 dX1_isReduced_13 rfl rfl ?_
      refine r_lload C 2 dX1_isReduced_14 rfl ?_
      refine r_lcmp_gt C dX1_isReduced_16 dX1_isReduced_17 (tgt := 37) (by decide) (fun c3 => ?_) (fun c3 => ?_)
      · have h := it_ h c3
        refine r_iconst C dX1_isReduced_37 ?_
        cases h
        exact r_zret C (Or.inl rfl) hK dX1_isReduced_38
      · have h := ie_ h c3
        refine r_lload_n C 0 dX1_isReduced_20 rfl rfl ?_
        refine r_lload C 2 dX1_isReduced_21 rfl ?_
        refine r_lcmp_lt C dX1_isReduced_23 dX1_isReduced_24 (tgt := 33) (by decide) (fun c4 => ?_) (fun c4 => ?_)
        · have h := it_ h c4
          refine r_iconst C dX1_isReduced_33 ?_
          refine r_goto C dX1_isReduced_34 (tgt := 38) (by decide) ?_
          cases h
          exact r_zret C (Or.inr rfl) hK dX1_isReduced_38
        · have h := ie_ h c4
          refine r_lload_n C 1 dX1_isReduced_27 rfl rfl ?_
          refine r_lconst (v := 0) C dX1_isReduced_28 (by decide) ?_
          refine r_lcmp_lt C dX1_isReduced_29 dX1_isReduced_30 (tgt := 37) (by decide) (fun c5 => ?_) (fun c5 => ?_)
          · have h := it_ h c5
            refine r_iconst C dX1_isReduced_37 ?_
            cases h
            exact r_zret C (Or.inl rfl) hK dX1_isReduced_38
          · have h := ie_ h c5
            refine r_iconst C dX1_isReduced_33 ?_
            refine r_goto C dX1_isReduced_34 (tgt := 38) (by decide) ?_
            cases h
            exact r_zret C (Or.inr rfl) hK dX1_isReduced_38
theorem hdX1_isReduced : zhd yX1_isReduced 3 := by decide +kernel
theorem m_X1_isReduced {l : Launch} {D : va_G} {b0 : Nat} (hl : l.stackTraces = false) {y0 : Int} {y2 : Int} {y4 : Int} {μ : Me} {w : Int × Me} (h : s_X1_isReduced y0 y2 y4 μ = some w) : MN l D b0 yX1_isReduced (ws_ yX1_isReduced cX1_isReduced 6 (some .boolean)) 1 [vJ y0, vJ y2, vJ y4] μ (some (vI w.1)) w.2 :=
  MN.of hl (by decide +kernel) (Nat.le_of_ble_eq_true rfl) (fun Z C _ _ => w_X1_isReduced C h rfl)
noncomputable def s_X1_reduces_b255 (a0 : Nat)  (μ : Me) : Option ((Me) ⊕ (Me)) :=
  (gI μ 0 a0 17).bind fun v39 =>
  (pI μ 0 a0 17 (v39 + 1)).bind fun m40 =>
  some (.inl m40)
theorem w_X1_reduces_b255 {Z : Zt} {fin : Me} {w : ((Me) ⊕ (Me))} (C : CX Z yX1_reduces cX1_reduces none 2 8) {a0 : Nat}  {μ : Me} (h : s_X1_reduces_b255 a0 μ = some w) (hK : (Sum.elim (fun s : Me => WL Z (QN Z none fin) s 33 [(0, vO a0)] []) (fun r : Me => r = fin)) w) : WL Z (QN Z none fin) μ 255 [(0, vO a0)] [] := by
  unfold s_X1_reduces_b255 at h
  refine r_aload_n C 0 dX1_reduces_255 rfl rfl ?_
  refine r_dup C dX1_reduces_256 rfl ?_
  obtain ⟨v39, ev39, h⟩ := bs h
  refine r_getI C (c := 0) (r := (RX1, TX1, 19)) rfl 17 (by decide) rfl ev39 q445 dX1_reduces_257 ?_
  refine r_iconst C dX1_reduces_260 ?_
  refine r_iadd C dX1_reduces_261 ?_
  obtain ⟨m40, em40, h⟩ := bs h
  refine r_putI C (c := 0) (r := (RX1, TX1, 19)) rfl 17 (by decide) rfl ⟨rfl, rfl⟩ rfl em40 q445 dX1_reduces_262 ?_
  refine r_goto C dX1_reduces_265 (tgt := 33) (by decide) ?_
  cases h
  exact hK
noncomputable def s_X1_reduces_b84 (a0 : Nat) (y1 : Int) (y3 : Int)  (μ : Me) : Option ((Me) ⊕ (Me)) :=
  (s_J6_floorDiv ((y3 + y1) - 1) (2 * y1) μ).bind fun q23 =>
  (gR q23.2 0 a0 13).bind fun v24 =>
  (aJ q23.2 103 v24 2).bind fun v25 =>
  (uJ q23.2 v24 2 (v25 + ((y3 * (-q23.1)) + ((y1 * (-q23.1)) * (-q23.1))))).bind fun m26 =>
  (gR m26 0 a0 13).bind fun v27 =>
  (uJ m26 v27 1 (y3 + ((2 * y1) * (-q23.1)))).bind fun m28 =>
  (gR m28 0 a0 14).bind fun v29 =>
  (aJ m28 103 v29 1).bind fun v30 =>
  (gR m28 0 a0 14).bind fun v31 =>
  (aJ m28 103 v31 0).bind fun v32 =>
  (uJ m28 v29 1 (v30 + (v32 * (-q23.1)))).bind fun m33 =>
  (gR m33 0 a0 14).bind fun v34 =>
  (aJ m33 103 v34 3).bind fun v35 =>
  (gR m33 0 a0 14).bind fun v36 =>
  (aJ m33 103 v36 2).bind fun v37 =>
  (uJ m33 v34 3 (v35 + (v37 * (-q23.1)))).bind fun m38 =>
  s_X1_reduces_b255 a0 m38
theorem w_X1_reduces_b84 {Z : Zt} {fin : Me} {w : ((Me) ⊕ (Me))} (C : CX Z yX1_reduces cX1_reduces none 2 8) {a0 : Nat} {y1 : Int} {y3 : Int}  {μ : Me} (h : s_X1_reduces_b84 a0 y1 y3 μ = some w) (hK : (Sum.elim (fun s : Me => WL Z (QN Z none fin) s 33 [(0, vO a0)] []) (fun r : Me => r = fin)) w) : WL Z (QN Z none fin) μ 84 [(0, vO a0), (1, vJ y1), (3, vJ y3)] [] := by
  unfold s_X1_reduces_b84 at h
  refine r_lload_n C 2 dX1_reduces_84 rfl rfl ?_
  refine r_lload_n C 1 dX1_reduces_85 rfl rfl ?_
  refine r_ladd C dX1_reduces_86 ?_
  refine r_lconst (v := 1) C dX1_reduces_87 (by decide) ?_
  refine r_lsub C dX1_reduces_88 ?_
  refine r_ldc2 (n := 2) C q1246 dX1_reduces_89 (by decide) ?_
  refine r_lload_n C 1 dX1_reduces_92 rfl rfl ?_
  refine r_lmul C dX1_reduces_93 ?_
  obtain ⟨q23, eq23, h⟩ := bs h
  refine r_callS C (As := [vJ ((y3 + y1) - 1), vJ (2 * y1)]) (rest := []) (st1 := [vJ q23.1]) (v := some (vJ q23.1)) (m_J6_floorDiv C.tr eq23) (lw_S q1247 q1248 q137 q1249) hdJ6_floorDiv rfl rfl (Nat.le_of_ble_eq_true rfl) ⟨by decide, by decide⟩ dX1_reduces_94 rfl ?_
  refine r_lneg C dX1_reduces_97 ?_
  refine r_lstore C [(5, vJ (-q23.1)), (0, vO a0), (1, vJ y1), (3, vJ y3)] dX1_reduces_98 (by decide) rfl ?_
  refine r_aload_n C 1 dX1_reduces_100 rfl rfl ?_
  obtain ⟨v24, ev24, h⟩ := bs h
  refine r_getR C (c := 0) (r := (RX1, TX1, 19)) rfl 13 (by decide) rfl ev24 q441 dX1_reduces_101 ?_
  refine r_iconst C dX1_reduces_104 ?_
  refine r_dup2 C dX1_reduces_105 rfl rfl ?_
  obtain ⟨v25, ev25, h⟩ := bs h
  refine r_lald C ev25 dX1_reduces_106 ?_
  refine r_lload_n C 3 dX1_reduces_107 rfl rfl ?_
  refine r_lload C 0 dX1_reduces_108 rfl ?_
  refine r_lmul C dX1_reduces_110 ?_
  refine r_lload_n C 2 dX1_reduces_111 rfl rfl ?_
  refine r_lload C 0 dX1_reduces_112 rfl ?_
  refine r_lmul C dX1_reduces_114 ?_
  refine r_lload C 0 dX1_reduces_115 rfl ?_
  refine r_lmul C dX1_reduces_117 ?_
  refine r_ladd C dX1_reduces_118 ?_
  refine r_ladd C dX1_reduces_119 ?_
  obtain ⟨m26, em26, h⟩ := bs h
  refine r_last C em26 dX1_reduces_120 ?_
  refine r_aload_n C 1 dX1_reduces_121 rfl rfl ?_
  obtain ⟨v27, ev27, h⟩ := bs h
  refine r_getR C (c := 0) (r := (RX1, TX1, 19)) rfl 13 (by decide) rfl ev27 q441 dX1_reduces_122 ?_
  refine r_iconst C dX1_reduces_125 ?_
  refine r_lload_n C 3 dX1_reduces_126 rfl rfl ?_
  refine r_ldc2 (n := 2) C q1246 dX1_reduces_127 (by decide) ?_
  refine r_lload_n C 2 dX1_reduces_130 rfl rfl ?_
  refine r_lmul C dX1_reduces_131 ?_
  refine r_lload C 0 dX1_reduces_132 rfl ?_
  refine r_lmul C dX1_reduces_134 ?_
  refine r_ladd C dX1_reduces_135 ?_
  obtain ⟨m28, em28, h⟩ := bs h
  refine r_last C em28 dX1_reduces_136 ?_
  refine r_aload_n C 1 dX1_reduces_137 rfl rfl ?_
  obtain ⟨v29, ev29, h⟩ := bs h
  refine r_getR C (c := 0) (r := (RX1, TX1, 19)) rfl 14 (by decide) rfl ev29 q442 dX1_reduces_138 ?_
  refine r_iconst C dX1_reduces_141 ?_
  refine r_dup2 C dX1_reduces_142 rfl rfl ?_
  obtain ⟨v30, ev30, h⟩ := bs h
  refine r_lald C ev30 dX1_reduces_143 ?_
  refine r_aload_n C 1 dX1_reduces_144 rfl rfl ?_
  obtain ⟨v31, ev31, h⟩ := bs h
  refine r_getR C (c := 0) (r := (RX1, TX1, 19)) rfl 14 (by decide) rfl ev31 q442 dX1_reduces_145 ?_
  refine r_iconst C dX1_reduces_148 ?_
  obtain ⟨v32, ev32, h⟩ := bs h
  refine r_lald C ev32 dX1_reduces_149 ?_
  refine r_lload C 0 dX1_reduces_150 rfl ?_
  refine r_lmul C dX1_reduces_152 ?_
  refine r_ladd C dX1_reduces_153 ?_
  obtain ⟨m33, em33, h⟩ := bs h
  refine r_last C em33 dX1_reduces_154 ?_
  refine r_aload_n C 1 dX1_reduces_155 rfl rfl ?_
  obtain ⟨v34, ev34, h⟩ := bs h
  refine r_getR C (c := 0) (r := (RX1, TX1, 19)) rfl 14 (by decide) rfl ev34 q442 dX1_reduces_156 ?_
  refine r_iconst C dX1_reduces_159 ?_
  refine r_dup2 C dX1_reduces_160 rfl rfl ?_
  obtain ⟨v35, ev35, h⟩ := bs h
  refine r_lald C ev35 dX1_reduces_161 ?_
  refine r_aload_n C 1 dX1_reduces_162 rfl rfl ?_
  obtain ⟨v36, ev36, h⟩ := bs h
  refine r_getR C (c := 0) (r := (RX1, TX1, 19)) rfl 14 (by decide) rfl ev36 q442 dX1_reduces_163 ?_
  refine r_iconst C dX1_reduces_166 ?_
  obtain ⟨v37, ev37, h⟩ := bs h
  refine r_lald C ev37 dX1_reduces_167 ?_
  refine r_lload C 0 dX1_reduces_168 rfl ?_
  refine r_lmul C dX1_reduces_170 ?_
  refine r_ladd C dX1_reduces_171 ?_
  obtain ⟨m38, em38, h⟩ := bs h
  refine r_last C em38 dX1_reduces_172 ?_
  refine r_goto C dX1_reduces_173 (tgt := 255) (by decide) ?_
  refine r_sub [1] rfl ?_
  exact w_X1_reduces_b255 (fin := fin) C h hK
noncomputable def s_X1_reduces_l206_st (a0 : Nat) (x5 : Int) (μ : Me) : Option ((Int × Me) ⊕ ((Me) ⊕ (Me))) :=
  (if w32 4 ≤ w32 x5 then
  (s_X1_reduces_b255 a0 μ).map Sum.inr
  else
  (gR μ 0 a0 14).bind fun v51 =>
  (aJ μ 103 v51 x5).bind fun v52 =>
  (gR μ 0 a0 14).bind fun v53 =>
  (gR μ 0 a0 14).bind fun v54 =>
  (aJ μ 103 v54 (x5 + 1)).bind fun v55 =>
  (uJ μ v53 x5 v55).bind fun m56 =>
  (gR m56 0 a0 14).bind fun v57 =>
  (uJ m56 v57 (x5 + 1) (-v52)).bind fun m58 =>
  some (.inl ((x5 + 2), m58)))
theorem w_X1_reduces_l206_st {Z : Zt} {fin : Me} {w : ((Int × Me) ⊕ ((Me) ⊕ (Me)))} (C : CX Z yX1_reduces cX1_reduces none 2 8) {a0 : Nat} {x5 : Int} {μ : Me} (h : s_X1_reduces_l206_st a0 x5 μ = some w) (hK : (Sum.elim (fun s : Int × Me => WL Z (QN Z none fin) s.2 206 [(0, vO a0), (5, vI s.1)] []) (Sum.elim (fun s : Me => WL Z (QN Z none fin) s 33 [(0, vO a0)] []) (fun r : Me => r = fin))) w) : WL Z (QN Z none fin) μ 206 [(0, vO a0), (5, vI x5)] [] := by
  unfold s_X1_reduces_l206_st at h
  refine r_iload C 1 dX1_reduces_206 rfl ?_
  refine r_iconst C dX1_reduces_208 ?_
  refine r_icmp_ge C dX1_reduces_209 (tgt := 255) (by decide) (fun c50 => ?_) (fun c50 => ?_)
  · have h := it_ h c50
    obtain ⟨z, hz, ez⟩ := ms_ h; clear h; subst ez; have h := hz; clear hz
    refine r_sub [0] rfl ?_
    exact w_X1_reduces_b255 (fin := fin) C h hK
  · have h := ie_ h c50
    refine r_aload_n C 0 dX1_reduces_212 rfl rfl ?_
    obtain ⟨v51, ev51, h⟩ := bs h
    refine r_getR C (c := 0) (r := (RX1, TX1, 19)) rfl 14 (by decide) rfl ev51 q442 dX1_reduces_213 ?_
    refine r_iload C 1 dX1_reduces_216 rfl ?_
    obtain ⟨v52, ev52, h⟩ := bs h
    refine r_lald C ev52 dX1_reduces_218 ?_
    refine r_lstore C [(6, vJ v52), (0, vO a0), (5, vI x5)] dX1_reduces_219 (by decide) rfl ?_
    refine r_aload_n C 1 dX1_reduces_221 rfl rfl ?_
    obtain ⟨v53, ev53, h⟩ := bs h
    refine r_getR C (c := 0) (r := (RX1, TX1, 19)) rfl 14 (by decide) rfl ev53 q442 dX1_reduces_222 ?_
    refine r_iload C 2 dX1_reduces_225 rfl ?_
    refine r_aload_n C 1 dX1_reduces_227 rfl rfl ?_
    obtain ⟨v54, ev54, h⟩ := bs h
    refine r_getR C (c := 0) (r := (RX1, TX1, 19)) rfl 14 (by decide) rfl ev54 q442 dX1_reduces_228 ?_
    refine r_iload C 2 dX1_reduces_231 rfl ?_
    refine r_iconst C dX1_reduces_233 ?_
    refine r_iadd C dX1_reduces_234 ?_
    obtain ⟨v55, ev55, h⟩ := bs h
    refine r_lald C ev55 dX1_reduces_235 ?_
    obtain ⟨m56, em56, h⟩ := bs h
    refine r_last C em56 dX1_reduces_236 ?_
    refine r_aload_n C 1 dX1_reduces_237 rfl rfl ?_
    obtain ⟨v57, ev57, h⟩ := bs h
    refine r_getR C (c := 0) (r := (RX1, TX1, 19)) rfl 14 (by decide) rfl ev57 q442 dX1_reduces_238 ?_
    refine r_iload C 2 dX1_reduces_241 rfl ?_
    refine r_iconst C dX1_reduces_243 ?_
    refine r_iadd C dX1_reduces_244 ?_
    refine r_lload C 0 dX1_reduces_245 rfl ?_
    refine r_lneg C dX1_reduces_247 ?_
    obtain ⟨m58, em58, h⟩ := bs h
    refine r_last C em58 dX1_reduces_248 ?_
    refine r_iinc C 2 [(5, vI (x5 + 2)), (6, vJ v52), (0, vO a0)] dX1_reduces_249 rfl (by decide) rfl ?_
    refine r_goto C dX1_reduces_252 (tgt := 206) (by decide) ?_
    cases h
    refine r_sub [2, 0] rfl ?_
    exact hK
noncomputable def s_X1_reduces_l206 (a0 : Nat) (x5 : Int) (μ : Me) : Option ((Me) ⊕ (Me)) :=
  whileO (fun s : Int × Me => s_X1_reduces_l206_st a0 s.1 s.2) (x5, μ)
theorem e_X1_reduces_l206 (a0 : Nat) (x5 : Int) (μ : Me) : s_X1_reduces_l206 a0 x5 μ = (s_X1_reduces_l206_st a0 x5 μ).bind fun x => x.elim (fun s : Int × Me => s_X1_reduces_l206 a0 s.1 s.2) some := whileO_eq _ _
theorem w_X1_reduces_l206 {Z : Zt} {fin : Me} {w : ((Me) ⊕ (Me))} (C : CX Z yX1_reduces cX1_reduces none 2 8) {a0 : Nat} {x5 : Int} {μ : Me} (h : s_X1_reduces_l206 a0 x5 μ = some w) (hK : (Sum.elim (fun s : Me => WL Z (QN Z none fin) s 33 [(0, vO a0)] []) (fun r : Me => r = fin)) w) : WL Z (QN Z none fin) μ 206 [(0, vO a0), (5, vI x5)] [] := by
  refine whileO_walk (w := w) (fun s : Int × Me => WL Z (QN Z none fin) s.2 206 [(0, vO a0), (5, vI s.1)] []) (fun s v h2 hi hr => ?_) (x5, μ) h
  refine w_X1_reduces_l206_st (fin := fin) C h2 ?_
  cases v with
  | inl s2 => exact hi s2 rfl
  | inr r => have e := hr r rfl; subst e; exact hK
noncomputable def s_X1_reduces_l33_st (a0 : Nat) (μ : Me) : Option ((Me) ⊕ (Me)) :=
  (gR μ 0 a0 13).bind fun v10 =>
  (aJ μ 103 v10 0).bind fun v11 =>
  (gR μ 0 a0 13).bind fun v12 =>
  (aJ μ 103 v12 1).bind fun v13 =>
  (gR μ 0 a0 13).bind fun v14 =>
  (aJ μ 103 v14 2).bind fun v15 =>
  (s_X1_isReduced v11 v13 v15 μ).bind fun q16 =>
  (if w32 q16.1 = 0 then
  (gR q16.2 0 a0 13).bind fun v18 =>
  (aJ q16.2 103 v18 0).bind fun v19 =>
  (gR q16.2 0 a0 13).bind fun v20 =>
  (aJ q16.2 103 v20 1).bind fun v21 =>
  (if w64 v21 ≤ w64 (-v19) then
  s_X1_reduces_b84 a0 v19 v21 q16.2
  else
  (if w64 v21 ≤ w64 v19 then
  (gR q16.2 0 a0 13).bind fun v42 =>
  (gR q16.2 0 a0 13).bind fun v43 =>
  (aJ q16.2 103 v43 2).bind fun v44 =>
  (uJ q16.2 v42 0 v44).bind fun m45 =>
  (gR m45 0 a0 13).bind fun v46 =>
  (uJ m45 v46 1 (-v21)).bind fun m47 =>
  (gR m47 0 a0 13).bind fun v48 =>
  (uJ m47 v48 2 v19).bind fun m49 =>
  s_X1_reduces_l206 a0 0 m49
  else
  s_X1_reduces_b84 a0 v19 v21 q16.2))
  else
  some (.inr q16.2))
theorem w_X1_reduces_l33_st {Z : Zt} {fin : Me} {w : ((Me) ⊕ (Me))} (C : CX Z yX1_reduces cX1_reduces none 2 8) {a0 : Nat} {μ : Me} (h : s_X1_reduces_l33_st a0 μ = some w) (hK : (Sum.elim (fun s : Me => WL Z (QN Z none fin) s 33 [(0, vO a0)] []) (fun r : Me => r = fin)) w) : WL Z (QN Z none fin) μ 33 [(0, vO a0)] [] := by
  unfold s_X1_reduces_l33_st at h
  refine r_aload_n C 0 dX1_reduces_33 rfl rfl ?_
  obtain ⟨v10, ev10, h⟩ := bs h
  refine r_getR C (c := 0) (r := (RX1, TX1, 19)) rfl 13 (by decide) rfl ev10 q441 dX1_reduces_34 ?_
  refine r_iconst C dX1_reduces_37 ?_
  obtain ⟨v11, ev11, h⟩ := bs h
  refine r_lald C ev11 dX1_reduces_38 ?_
  refine r_aload_n C 0 dX1_reduces_39 rfl rfl ?_
  obtain ⟨v12, ev12, h⟩ := bs h
  refine r_getR C (c := 0) (r := (RX1, TX1, 19)) rfl 13 (by decide) rfl ev12 q441 dX1_reduces_40 ?_
  refine r_iconst C dX1_reduces_43 ?_
  obtain ⟨v13, ev13, h⟩ := bs h
  refine r_lald C ev13 dX1_reduces_44 ?_
  refine r_aload_n C 0 dX1_reduces_45 rfl rfl ?_
  obtain ⟨v14, ev14, h⟩ := bs h
  refine r_getR C (c := 0) (r := (RX1, TX1, 19)) rfl 13 (by decide) rfl ev14 q441 dX1_reduces_46 ?_
  refine r_iconst C dX1_reduces_49 ?_
  obtain ⟨v15, ev15, h⟩ := bs h
  refine r_lald C ev15 dX1_reduces_50 ?_
  obtain ⟨q16, eq16, h⟩ := bs h
  refine r_callS C (As := [vJ v11, vJ v13, vJ v15]) (rest := []) (st1 := [vI q16.1]) (v := some (vI q16.1)) (m_X1_isReduced C.tr eq16) (lw_S q1243 q1244 q120 q1245) hdX1_isReduced rfl rfl (Nat.le_of_ble_eq_true rfl) ⟨by decide, by decide⟩ dX1_reduces_51 rfl ?_
  refine r_if_ne C dX1_reduces_54 (tgt := 268) (by decide) (fun c17 => ?_) (fun c17 => ?_)
  · have h := ie_ h c17
    cases h
    exact r_vret C hK dX1_reduces_268
  · have h := it_ h c17
    refine r_aload_n C 0 dX1_reduces_57 rfl rfl ?_
    obtain ⟨v18, ev18, h⟩ := bs h
    refine r_getR C (c := 0) (r := (RX1, TX1, 19)) rfl 13 (by decide) rfl ev18 q441 dX1_reduces_58 ?_
    refine r_iconst C dX1_reduces_61 ?_
    obtain ⟨v19, ev19, h⟩ := bs h
    refine r_lald C ev19 dX1_reduces_62 ?_
    refine r_lstore_n C [(1, vJ v19), (0, vO a0)] dX1_reduces_63 rfl (by decide) rfl ?_
    refine r_aload_n C 1 dX1_reduces_64 rfl rfl ?_
    obtain ⟨v20, ev20, h⟩ := bs h
    refine r_getR C (c := 0) (r := (RX1, TX1, 19)) rfl 13 (by decide) rfl ev20 q441 dX1_reduces_65 ?_
    refine r_iconst C dX1_reduces_68 ?_
    obtain ⟨v21, ev21, h⟩ := bs h
    refine r_lald C ev21 dX1_reduces_69 ?_
    refine r_lstore_n C [(3, vJ v21), (1, vJ v19), (0, vO a0)] dX1_reduces_70 rfl (by decide) rfl ?_
    refine r_lload_n C 0 dX1_reduces_71 rfl rfl ?_
    refine r_lload_n C 1 dX1_reduces_72 rfl rfl ?_
    refine r_lneg C dX1_reduces_73 ?_
    refine r_lcmp_le C dX1_reduces_74 dX1_reduces_75 (tgt := 84) (by decide) (fun c22 => ?_) (fun c22 => ?_)
    · have h := it_ h c22
      refine r_sub [2, 1, 0] rfl ?_
      exact w_X1_reduces_b84 (fin := fin) C h hK
    · have h := ie_ h c22
      refine r_lload_n C 0 dX1_reduces_78 rfl rfl ?_
      refine r_lload_n C 1 dX1_reduces_79 rfl rfl ?_
      refine r_lcmp_le C dX1_reduces_80 dX1_reduces_81 (tgt := 176) (by decide) (fun c41 => ?_) (fun c41 => ?_)
      · have h := it_ h c41
        refine r_aload_n C 2 dX1_reduces_176 rfl rfl ?_
        obtain ⟨v42, ev42, h⟩ := bs h
        refine r_getR C (c := 0) (r := (RX1, TX1, 19)) rfl 13 (by decide) rfl ev42 q441 dX1_reduces_177 ?_
        refine r_iconst C dX1_reduces_180 ?_
        refine r_aload_n C 2 dX1_reduces_181 rfl rfl ?_
        obtain ⟨v43, ev43, h⟩ := bs h
        refine r_getR C (c := 0) (r := (RX1, TX1, 19)) rfl 13 (by decide) rfl ev43 q441 dX1_reduces_182 ?_
        refine r_iconst C dX1_reduces_185 ?_
        obtain ⟨v44, ev44, h⟩ := bs h
        refine r_lald C ev44 dX1_reduces_186 ?_
        obtain ⟨m45, em45, h⟩ := bs h
        refine r_last C em45 dX1_reduces_187 ?_
        refine r_aload_n C 2 dX1_reduces_188 rfl rfl ?_
        obtain ⟨v46, ev46, h⟩ := bs h
        refine r_getR C (c := 0) (r := (RX1, TX1, 19)) rfl 13 (by decide) rfl ev46 q441 dX1_reduces_189 ?_
        refine r_iconst C dX1_reduces_192 ?_
        refine r_lload_n C 0 dX1_reduces_193 rfl rfl ?_
        refine r_lneg C dX1_reduces_194 ?_
        obtain ⟨m47, em47, h⟩ := bs h
        refine r_last C em47 dX1_reduces_195 ?_
        refine r_aload_n C 2 dX1_reduces_196 rfl rfl ?_
        obtain ⟨v48, ev48, h⟩ := bs h
        refine r_getR C (c := 0) (r := (RX1, TX1, 19)) rfl 13 (by decide) rfl ev48 q441 dX1_reduces_197 ?_
        refine r_iconst C dX1_reduces_200 ?_
        refine r_lload_n C 1 dX1_reduces_201 rfl rfl ?_
        obtain ⟨m49, em49, h⟩ := bs h
        refine r_last C em49 dX1_reduces_202 ?_
        refine r_iconst C dX1_reduces_203 ?_
        refine r_istore C [(5, vI 0), (3, vJ v21), (1, vJ v19), (0, vO a0)] dX1_reduces_204 (by decide) rfl ?_
        refine r_sub [3, 0] rfl ?_
        exact w_X1_reduces_l206 (fin := fin) C h hK
      · have h := ie_ h c41
        refine r_sub [2, 1, 0] rfl ?_
        exact w_X1_reduces_b84 (fin := fin) C h hK
noncomputable def s_X1_reduces_l33 (a0 : Nat) (μ : Me) : Option (Me) :=
  whileO (fun s : Me => s_X1_reduces_l33_st a0 s) μ
theorem e_X1_reduces_l33 (a0 : Nat) (μ : Me) : s_X1_reduces_l33 a0 μ = (s_X1_reduces_l33_st a0 μ).bind fun x => x.elim (fun s : Me => s_X1_reduces_l33 a0 s) some := whileO_eq _ _
theorem w_X1_reduces_l33 {Z : Zt} {fin : Me} {w : (Me)} (C : CX Z yX1_reduces cX1_reduces none 2 8) {a0 : Nat} {μ : Me} (h : s_X1_reduces_l33 a0 μ = some w) (hK : (fun r : Me => r = fin) w) : WL Z (QN Z none fin) μ 33 [(0, vO a0)] [] := by
  refine whileO_walk (w := w) (fun s : Me => WL Z (QN Z none fin) s 33 [(0, vO a0)] []) (fun s v h2 hi hr => ?_) μ h
  refine w_X1_reduces_l33_st (fin := fin) C h2 ?_
  cases v with
  | inl s2 => exact hi s2 rfl
  | inr r => have e := hr r rfl; subst e; exact hK
noncomputable def s_X1_reduces (a0 : Nat) (μ : Me) : Option (Me) :=
  (pI μ 0 a0 17 0).bind fun m1 =>
  (gR m1 0 a0 14).bind fun v2 =>
  (uJ m1 v2 0 1).bind fun m3 =>
  (gR m3 0 a0 14).bind fun v4 =>
  (uJ m3 v4 1 0).bind fun m5 =>
  (gR m5 0 a0 14).bind fun v6 =>
  (uJ m5 v6 2 0).bind fun m7 =>
  (gR m7 0 a0 14).bind fun v8 =>
  (uJ m7 v8 3 1).bind fun m9 =>
  s_X1_reduces_l33 a0 m9
theorem w_X1_reduces {Z : Zt} {fin : Me} {w : Me} (C : CX Z yX1_reduces cX1_reduces none 2 8) {a0 : Nat} {μ : Me} (h : s_X1_reduces a0 μ = some w) (hK : w = fin) : WL Z (QN Z none fin) μ 0 [(0, vO a0)] [] := by
  unfold s_X1_reduces at h
  refine r_aload_n C 0 dX1_reduces_0 rfl rfl ?_
  refine r_iconst C dX1_reduces_1 ?_
  obtain ⟨m1, em1, h⟩ := bs h
  refine r_putI C (c := 0) (r := (RX1, TX1, 19)) rfl 17 (by decide) rfl ⟨rfl, rfl⟩ rfl em1 q445 dX1_reduces_2 ?_
  refine r_aload_n C 0 dX1_reduces_5 rfl rfl ?_
  obtain ⟨v2, ev2, h⟩ := bs h
  refine r_getR C (c := 0) (r := (RX1, TX1, 19)) rfl 14 (by decide) rfl ev2 q442 dX1_reduces_6 ?_
  refine r_iconst C dX1_reduces_9 ?_
  refine r_lconst (v := 1) C dX1_reduces_10 (by decide) ?_
  obtain ⟨m3, em3, h⟩ := bs h
  refine r_last C em3 dX1_reduces_11 ?_
  refine r_aload_n C 0 dX1_reduces_12 rfl rfl ?_
  obtain ⟨v4, ev4, h⟩ := bs h
  refine r_getR C (c := 0) (r := (RX1, TX1, 19)) rfl 14 (by decide) rfl ev4 q442 dX1_reduces_13 ?_
  refine r_iconst C dX1_reduces_16 ?_
  refine r_lconst (v := 0) C dX1_reduces_17 (by decide) ?_
  obtain ⟨m5, em5, h⟩ := bs h
  refine r_last C em5 dX1_reduces_18 ?_
  refine r_aload_n C 0 dX1_reduces_19 rfl rfl ?_
  obtain ⟨v6, ev6, h⟩ := bs h
  refine r_getR C (c := 0) (r := (RX1, TX1, 19)) rfl 14 (by decide) rfl ev6 q442 dX1_reduces_20 ?_
  refine r_iconst C dX1_reduces_23 ?_
  refine r_lconst (v := 0) C dX1_reduces_24 (by decide) ?_
  obtain ⟨m7, em7, h⟩ := bs h
  refine r_last C em7 dX1_reduces_25 ?_
  refine r_aload_n C 0 dX1_reduces_26 rfl rfl ?_
  obtain ⟨v8, ev8, h⟩ := bs h
  refine r_getR C (c := 0) (r := (RX1, TX1, 19)) rfl 14 (by decide) rfl ev8 q442 dX1_reduces_27 ?_
  refine r_iconst C dX1_reduces_30 ?_
  refine r_lconst (v := 1) C dX1_reduces_31 (by decide) ?_
  obtain ⟨m9, em9, h⟩ := bs h
  refine r_last C em9 dX1_reduces_32 ?_
  exact w_X1_reduces_l33 (fin := fin) C h hK
theorem hdX1_reduces : zhd yX1_reduces 0 := by decide +kernel
theorem m_X1_reduces {l : Launch} {D : va_G} {b0 : Nat} (hl : l.stackTraces = false) {a0 : Nat} {μ : Me} {w : Me} (h : s_X1_reduces a0 μ = some w) : MN l D b0 yX1_reduces (ws_ yX1_reduces cX1_reduces 8 none) 2 [vO a0] μ none w :=
  MN.of hl (by decide +kernel) (Nat.le_of_ble_eq_true rfl) (fun Z C _ _ => w_X1_reduces C h rfl)
noncomputable def s_X1_reduced_b65 (a0 : Nat) (x1 : Int) (x2 : Int) (x3 : Int) (x4 : Int) (t0 : Int) (μ : Me) : Option (Ex ⊕ (Int × Me)) :=
  xb (s_X1_must t0 μ) (fun e4 => some (.inl e4)) fun q3 =>
  (s_X1_isIn (w32 x4) 0 8 q3).bind fun q5 =>
  xb (s_X1_thereIs q5.1 q5.2) (fun e7 => some (.inl e7)) fun q6 =>
  (gR q6 0 a0 13).bind fun v8 =>
  (uJ q6 v8 0 (w32 x1)).bind fun m9 =>
  (gR m9 0 a0 13).bind fun v10 =>
  (uJ m9 v10 1 (w32 x2)).bind fun m11 =>
  (gR m11 0 a0 13).bind fun v12 =>
  (uJ m11 v12 2 (w32 x3)).bind fun m13 =>
  (ck m13 0 a0).bind fun _ =>
  (s_X1_reduces a0 m13).bind fun q14 =>
  (if w32 3 ≤ w32 x4 then
  (if w32 8 ≤ w32 x4 then
  (gR q14 0 a0 13).bind fun v18 =>
  (aJ q14 103 v18 0).bind fun v19 =>
  (gR q14 0 a0 13).bind fun v20 =>
  (aJ q14 103 v20 2).bind fun v21 =>
  (if w64 v19 = w64 v21 then
  (gR q14 0 a0 13).bind fun v23 =>
  (aJ q14 103 v23 1).bind fun v24 =>
  (if w64 v24 = w64 0 then
  some (.inr (4, q14))
  else
  (gR q14 0 a0 13).bind fun v26 =>
  (aJ q14 103 v26 1).bind fun v27 =>
  (gR q14 0 a0 13).bind fun v28 =>
  (aJ q14 103 v28 0).bind fun v29 =>
  (if w64 v27 = w64 v29 then
  some (.inr (6, q14))
  else
  some (.inr (2, q14))))
  else
  some (.inr (2, q14)))
  else
  (if w32 x4 = w32 3 then
  (gI q14 0 a0 17).bind fun v34 =>
  some (.inr ((w32 v34), q14))
  else
  (gR q14 0 a0 14).bind fun v32 =>
  (aJ q14 103 v32 (x4 - 4)).bind fun v33 =>
  some (.inr (v33, q14))))
  else
  (gR q14 0 a0 13).bind fun v35 =>
  (aJ q14 103 v35 x4).bind fun v36 =>
  some (.inr (v36, q14)))
theorem w_X1_reduced_b65 {Z : Zt} {fin : Ex ⊕ (Int × Me)} {w : (Ex ⊕ (Int × Me))} (C : CX Z yX1_reduced cX1_reduced (some .long) 7 5) (X : XE Z) {a0 : Nat} {x1 : Int} {x2 : Int} {x3 : Int} {x4 : Int} {t0 : Int} {μ : Me} (h : s_X1_reduced_b65 a0 x1 x2 x3 x4 t0 μ = some w) (hK : (fun r : Ex ⊕ (Int × Me) => r = fin) w) : WL Z (XQ Z (zoJ fin) (zmI fin)) μ 65 [(0, vO a0), (1, vI x1), (2, vI x2), (3, vI x3), (4, vI x4)] [vI t0] := by
  unfold s_X1_reduced_b65 at h
  rcases xbs h with ⟨e4, eq3, h⟩ | ⟨q3, eq3, h⟩
  · refine r_xSx C (As := [vI t0]) (rest := []) (μ1 := e4.2.2) (m_X1_must C.tr eq3) (lw_S q557 q558 q120 q559) hdX1_must rfl rfl (Nat.le_of_ble_eq_true rfl) ⟨by decide, by decide⟩ dX1_reduced_65 ?_
    cases h
    exact r_xoutJ C X hK
  · refine r_xS C (As := [vI t0]) (rest := []) (st1 := []) (v := none) (μ1 := q3) (m_X1_must C.tr eq3) (lw_S q557 q558 q120 q559) hdX1_must rfl rfl (Nat.le_of_ble_eq_true rfl) ⟨by decide, by decide⟩ dX1_reduced_65 rfl ?_
    refine r_iload C 4 dX1_reduced_68 rfl ?_
    refine r_i2l C dX1_reduced_70 ?_
    refine r_lconst (v := 0) C dX1_reduced_71 (by decide) ?_
    refine r_ldc2 (n := 8) C q1009 dX1_reduced_72 (by decide) ?_
    obtain ⟨q5, eq5, h⟩ := bs h
    refine r_callS C (As := [vJ (w32 x4), vJ 0, vJ 8]) (rest := []) (st1 := [vI q5.1]) (v := some (vI q5.1)) (m_X1_isIn C.tr eq5) (lw_S q499 q500 q120 q501) hdX1_isIn rfl rfl (Nat.le_of_ble_eq_true rfl) ⟨by decide, by decide⟩ dX1_reduced_75 rfl ?_
    rcases xbs h with ⟨e7, eq6, h⟩ | ⟨q6, eq6, h⟩
    · refine r_xSx C (As := [vI q5.1]) (rest := []) (μ1 := e7.2.2) (m_X1_thereIs C.tr eq6) (lw_S q1221 q1222 q120 q1223) hdX1_thereIs rfl rfl (Nat.le_of_ble_eq_true rfl) ⟨by decide, by decide⟩ dX1_reduced_78 ?_
      cases h
      exact r_xoutJ C X hK
    · refine r_xS C (As := [vI q5.1]) (rest := []) (st1 := []) (v := none) (μ1 := q6) (m_X1_thereIs C.tr eq6) (lw_S q1221 q1222 q120 q1223) hdX1_thereIs rfl rfl (Nat.le_of_ble_eq_true rfl) ⟨by decide, by decide⟩ dX1_reduced_78 rfl ?_
      refine r_aload_n C 0 dX1_reduced_81 rfl rfl ?_
      obtain ⟨v8, ev8, h⟩ := bs h
      refine r_getR C (c := 0) (r := (RX1, TX1, 19)) rfl 13 (by decide) rfl ev8 q441 dX1_reduced_82 ?_
      refine r_iconst C dX1_reduced_85 ?_
      refine r_iload_n C 1 dX1_reduced_86 rfl rfl ?_
      refine r_i2l C dX1_reduced_87 ?_
      obtain ⟨m9, em9, h⟩ := bs h
      refine r_last C em9 dX1_reduced_88 ?_
      refine r_aload_n C 0 dX1_reduced_89 rfl rfl ?_
      obtain ⟨v10, ev10, h⟩ := bs h
      refine r_getR C (c := 0) (r := (RX1, TX1, 19)) rfl 13 (by decide) rfl ev10 q441 dX1_reduced_90 ?_
      refine r_iconst C dX1_reduced_93 ?_
      refine r_iload_n C 2 dX1_reduced_94 rfl rfl ?_
      refine r_i2l C dX1_reduced_95 ?_
      obtain ⟨m11, em11, h⟩ := bs h
      refine r_last C em11 dX1_reduced_96 ?_
      refine r_aload_n C 0 dX1_reduced_97 rfl rfl ?_
      obtain ⟨v12, ev12, h⟩ := bs h
      refine r_getR C (c := 0) (r := (RX1, TX1, 19)) rfl 13 (by decide) rfl ev12 q441 dX1_reduced_98 ?_
      refine r_iconst C dX1_reduced_101 ?_
      refine r_iload_n C 3 dX1_reduced_102 rfl rfl ?_
      refine r_i2l C dX1_reduced_103 ?_
      obtain ⟨m13, em13, h⟩ := bs h
      refine r_last C em13 dX1_reduced_104 ?_
      refine r_aload_n C 0 dX1_reduced_105 rfl rfl ?_
      obtain ⟨u15, eu15, h⟩ := bs h
      obtain ⟨q14, eq14, h⟩ := bs h
      refine r_callV C (As := []) (b := a0) (rest := []) (st1 := []) (v := none) (r := (RX1, TX1, 19)) (ci := 0) rfl eu15 (m_X1_reduces C.tr eq14) (lw_V q1239 q1241 qs35 q120 q1242) rfl hdX1_reduces rfl rfl (Nat.le_of_ble_eq_true rfl) ⟨by decide, by decide⟩ dX1_reduced_106 rfl ?_
      refine r_iload C 4 dX1_reduced_109 rfl ?_
      refine r_iconst C dX1_reduced_111 ?_
      refine r_icmp_ge C dX1_reduced_112 (tgt := 123) (by decide) (fun c16 => ?_) (fun c16 => ?_)
      · have h := it_ h c16
        refine r_iload C 4 dX1_reduced_123 rfl ?_
        refine r_bipush C dX1_reduced_125 (by decide) ?_
        refine r_icmp_ge C dX1_reduced_127 (tgt := 154) (by decide) (fun c17 => ?_) (fun c17 => ?_)
        · have h := it_ h c17
          refine r_aload_n C 0 dX1_reduced_154 rfl rfl ?_
          obtain ⟨v18, ev18, h⟩ := bs h
          refine r_getR C (c := 0) (r := (RX1, TX1, 19)) rfl 13 (by decide) rfl ev18 q441 dX1_reduced_155 ?_
          refine r_iconst C dX1_reduced_158 ?_
          obtain ⟨v19, ev19, h⟩ := bs h
          refine r_lald C ev19 dX1_reduced_159 ?_
          refine r_aload_n C 0 dX1_reduced_160 rfl rfl ?_
          obtain ⟨v20, ev20, h⟩ := bs h
          refine r_getR C (c := 0) (r := (RX1, TX1, 19)) rfl 13 (by decide) rfl ev20 q441 dX1_reduced_161 ?_
          refine r_iconst C dX1_reduced_164 ?_
          obtain ⟨v21, ev21, h⟩ := bs h
          refine r_lald C ev21 dX1_reduced_165 ?_
          refine r_lcmp_eq C dX1_reduced_166 dX1_reduced_167 (tgt := 176) (by decide) (fun c22 => ?_) (fun c22 => ?_)
          · have h := it_ h c22
            refine r_aload_n C 0 dX1_reduced_176 rfl rfl ?_
            obtain ⟨v23, ev23, h⟩ := bs h
            refine r_getR C (c := 0) (r := (RX1, TX1, 19)) rfl 13 (by decide) rfl ev23 q441 dX1_reduced_177 ?_
            refine r_iconst C dX1_reduced_180 ?_
            obtain ⟨v24, ev24, h⟩ := bs h
            refine r_lald C ev24 dX1_reduced_181 ?_
            refine r_lconst (v := 0) C dX1_reduced_182 (by decide) ?_
            refine r_lcmp_ne C dX1_reduced_183 dX1_reduced_184 (tgt := 193) (by decide) (fun c25 => ?_) (fun c25 => ?_)
            · have h := ie_ h c25
              refine r_aload_n C 0 dX1_reduced_193 rfl rfl ?_
              obtain ⟨v26, ev26, h⟩ := bs h
              refine r_getR C (c := 0) (r := (RX1, TX1, 19)) rfl 13 (by decide) rfl ev26 q441 dX1_reduced_194 ?_
              refine r_iconst C dX1_reduced_197 ?_
              obtain ⟨v27, ev27, h⟩ := bs h
              refine r_lald C ev27 dX1_reduced_198 ?_
              refine r_aload_n C 0 dX1_reduced_199 rfl rfl ?_
              obtain ⟨v28, ev28, h⟩ := bs h
              refine r_getR C (c := 0) (r := (RX1, TX1, 19)) rfl 13 (by decide) rfl ev28 q441 dX1_reduced_200 ?_
              refine r_iconst C dX1_reduced_203 ?_
              obtain ⟨v29, ev29, h⟩ := bs h
              refine r_lald C ev29 dX1_reduced_204 ?_
              refine r_lcmp_ne C dX1_reduced_205 dX1_reduced_206 (tgt := 215) (by decide) (fun c30 => ?_) (fun c30 => ?_)
              · have h := ie_ h c30
                refine r_ldc2 (n := 2) C q1246 dX1_reduced_215 (by decide) ?_
                cases h
                exact r_xlret C hK dX1_reduced_218
              · have h := it_ h c30
                refine r_ldc2 (n := 6) C q1250 dX1_reduced_209 (by decide) ?_
                refine r_goto C dX1_reduced_212 (tgt := 218) (by decide) ?_
                cases h
                exact r_xlret C hK dX1_reduced_218
            · have h := it_ h c25
              refine r_ldc2 (n := 4) C q1220 dX1_reduced_187 (by decide) ?_
              refine r_goto C dX1_reduced_190 (tgt := 218) (by decide) ?_
              cases h
              exact r_xlret C hK dX1_reduced_218
          · have h := ie_ h c22
            refine r_ldc2 (n := 2) C q1246 dX1_reduced_170 (by decide) ?_
            refine r_goto C dX1_reduced_173 (tgt := 218) (by decide) ?_
            cases h
            exact r_xlret C hK dX1_reduced_218
        · have h := ie_ h c17
          refine r_iload C 4 dX1_reduced_130 rfl ?_
          refine r_iconst C dX1_reduced_132 ?_
          refine r_icmp_ne C dX1_reduced_133 (tgt := 144) (by decide) (fun c31 => ?_) (fun c31 => ?_)
          · have h := ie_ h c31
            refine r_aload_n C 0 dX1_reduced_144 rfl rfl ?_
            obtain ⟨v32, ev32, h⟩ := bs h
            refine r_getR C (c := 0) (r := (RX1, TX1, 19)) rfl 14 (by decide) rfl ev32 q442 dX1_reduced_145 ?_
            refine r_iload C 4 dX1_reduced_148 rfl ?_
            refine r_iconst C dX1_reduced_150 ?_
            refine r_isub C dX1_reduced_151 ?_
            obtain ⟨v33, ev33, h⟩ := bs h
            refine r_lald C ev33 dX1_reduced_152 ?_
            cases h
            exact r_xlret C hK dX1_reduced_153
          · have h := it_ h c31
            refine r_aload_n C 0 dX1_reduced_136 rfl rfl ?_
            obtain ⟨v34, ev34, h⟩ := bs h
            refine r_getI C (c := 0) (r := (RX1, TX1, 19)) rfl 17 (by decide) rfl ev34 q445 dX1_reduced_137 ?_
            refine r_i2l C dX1_reduced_140 ?_
            refine r_goto C dX1_reduced_141 (tgt := 153) (by decide) ?_
            cases h
            exact r_xlret C hK dX1_reduced_153
      · have h := ie_ h c16
        refine r_aload_n C 0 dX1_reduced_115 rfl rfl ?_
        obtain ⟨v35, ev35, h⟩ := bs h
        refine r_getR C (c := 0) (r := (RX1, TX1, 19)) rfl 13 (by decide) rfl ev35 q441 dX1_reduced_116 ?_
        refine r_iload C 4 dX1_reduced_119 rfl ?_
        obtain ⟨v36, ev36, h⟩ := bs h
        refine r_lald C ev36 dX1_reduced_121 ?_
        cases h
        exact r_xlret C hK dX1_reduced_122
noncomputable def s_X1_reduced_b64 (a0 : Nat) (x1 : Int) (x2 : Int) (x3 : Int) (x4 : Int)  (μ : Me) : Option (Ex ⊕ (Int × Me)) :=
  s_X1_reduced_b65 a0 x1 x2 x3 x4 0 μ
theorem w_X1_reduced_b64 {Z : Zt} {fin : Ex ⊕ (Int × Me)} {w : (Ex ⊕ (Int × Me))} (C : CX Z yX1_reduced cX1_reduced (some .long) 7 5) (X : XE Z) {a0 : Nat} {x1 : Int} {x2 : Int} {x3 : Int} {x4 : Int}  {μ : Me} (h : s_X1_reduced_b64 a0 x1 x2 x3 x4 μ = some w) (hK : (fun r : Ex ⊕ (Int × Me) => r = fin) w) : WL Z (XQ Z (zoJ fin) (zmI fin)) μ 64 [(0, vO a0), (1, vI x1), (2, vI x2), (3, vI x3), (4, vI x4)] [] := by
  unfold s_X1_reduced_b64 at h
  refine r_iconst C dX1_reduced_64 ?_
  exact w_X1_reduced_b65 (fin := fin) C X h hK
noncomputable def s_X1_reduced (a0 : Nat) (x1 : Int) (x2 : Int) (x3 : Int) (x4 : Int) (μ : Me) : Option (Ex ⊕ (Int × Me)) :=
  (s_X1_isIn (w32 x1) 1 999 μ).bind fun q1 =>
  (if w32 q1.1 = 0 then
  s_X1_reduced_b64 a0 x1 x2 x3 x4 q1.2
  else
  (s_X1_isIn (w32 x2) (-999) 999 q1.2).bind fun q37 =>
  (if w32 q37.1 = 0 then
  s_X1_reduced_b64 a0 x1 x2 x3 x4 q37.2
  else
  (s_X1_isIn (w32 x3) (-999) 999 q37.2).bind fun q39 =>
  (if w32 q39.1 = 0 then
  s_X1_reduced_b64 a0 x1 x2 x3 x4 q39.2
  else
  (if w64 0 ≤ w64 (((w32 x2) * (w32 x2)) - ((4 * (w32 x1)) * (w32 x3))) then
  s_X1_reduced_b64 a0 x1 x2 x3 x4 q39.2
  else
  s_X1_reduced_b65 a0 x1 x2 x3 x4 1 q39.2))))
theorem w_X1_reduced {Z : Zt} {fin : Ex ⊕ (Int × Me)} {w : Ex ⊕ (Int × Me)} (C : CX Z yX1_reduced cX1_reduced (some .long) 7 5) (X : XE Z) {a0 : Nat} {x1 : Int} {x2 : Int} {x3 : Int} {x4 : Int} {μ : Me} (h : s_X1_reduced a0 x1 x2 x3 x4 μ = some w) (hK : w = fin) : WL Z (XQ Z (zoJ fin) (zmI fin)) μ 0 [(0, vO a0), (1, vI x1), (2, vI x2), (3, vI x3), (4, vI x4)] [] := by
  unfold s_X1_reduced at h
  refine r_iload_n C 1 dX1_reduced_0 rfl rfl ?_
  refine r_i2l C dX1_reduced_1 ?_
  refine r_lconst (v := 1) C dX1_reduced_2 (by decide) ?_
  refine r_ldc2 (n := 999) C q1218 dX1_reduced_3 (by decide) ?_
  obtain ⟨q1, eq1, h⟩ := bs h
  refine r_callS C (As := [vJ (w32 x1), vJ 1, vJ 999]) (rest := []) (st1 := [vI q1.1]) (v := some (vI q1.1)) (m_X1_isIn C.tr eq1) (lw_S q499 q500 q120 q501) hdX1_isIn rfl rfl (Nat.le_of_ble_eq_true rfl) ⟨by decide, by decide⟩ dX1_reduced_6 rfl ?_
  refine r_if_eq C dX1_reduced_9 (tgt := 64) (by decide) (fun c2 => ?_) (fun c2 => ?_)
  · have h := it_ h c2
    exact w_X1_reduced_b64 (fin := fin) C X h hK
  · have h := ie_ h c2
    refine r_iload_n C 2 dX1_reduced_12 rfl rfl ?_
    refine r_i2l C dX1_reduced_13 ?_
    refine r_ldc2 (n := (-999)) C q1219 dX1_reduced_14 (by decide) ?_
    refine r_ldc2 (n := 999) C q1218 dX1_reduced_17 (by decide) ?_
    obtain ⟨q37, eq37, h⟩ := bs h
    refine r_callS C (As := [vJ (w32 x2), vJ (-999), vJ 999]) (rest := []) (st1 := [vI q37.1]) (v := some (vI q37.1)) (m_X1_isIn C.tr eq37) (lw_S q499 q500 q120 q501) hdX1_isIn rfl rfl (Nat.le_of_ble_eq_true rfl) ⟨by decide, by decide⟩ dX1_reduced_20 rfl ?_
    refine r_if_eq C dX1_reduced_23 (tgt := 64) (by decide) (fun c38 => ?_) (fun c38 => ?_)
    · have h := it_ h c38
      exact w_X1_reduced_b64 (fin := fin) C X h hK
    · have h := ie_ h c38
      refine r_iload_n C 3 dX1_reduced_26 rfl rfl ?_
      refine r_i2l C dX1_reduced_27 ?_
      refine r_ldc2 (n := (-999)) C q1219 dX1_reduced_28 (by decide) ?_
      refine r_ldc2 (n := 999) C q1218 dX1_reduced_31 (by decide) ?_
      obtain ⟨q39, eq39, h⟩ := bs h
      refine r_callS C (As := [vJ (w32 x3), vJ (-999), vJ 999]) (rest := []) (st1 := [vI q39.1]) (v := some (vI q39.1)) (m_X1_isIn C.tr eq39) (lw_S q499 q500 q120 q501) hdX1_isIn rfl rfl (Nat.le_of_ble_eq_true rfl) ⟨by decide, by decide⟩ dX1_reduced_34 rfl ?_
      refine r_if_eq C dX1_reduced_37 (tgt := 64) (by decide) (fun c40 => ?_) (fun c40 => ?_)
      · have h := it_ h c40
        exact w_X1_reduced_b64 (fin := fin) C X h hK
      · have h := ie_ h c40
        refine r_iload_n C 2 dX1_reduced_40 rfl rfl ?_
        refine r_i2l C dX1_reduced_41 ?_
        refine r_iload_n C 2 dX1_reduced_42 rfl rfl ?_
        refine r_i2l C dX1_reduced_43 ?_
        refine r_lmul C dX1_reduced_44 ?_
        refine r_ldc2 (n := 4) C q1220 dX1_reduced_45 (by decide) ?_
        refine r_iload_n C 1 dX1_reduced_48 rfl rfl ?_
        refine r_i2l C dX1_reduced_49 ?_
        refine r_lmul C dX1_reduced_50 ?_
        refine r_iload_n C 3 dX1_reduced_51 rfl rfl ?_
        refine r_i2l C dX1_reduced_52 ?_
        refine r_lmul C dX1_reduced_53 ?_
        refine r_lsub C dX1_reduced_54 ?_
        refine r_lconst (v := 0) C dX1_reduced_55 (by decide) ?_
        refine r_lcmp_ge C dX1_reduced_56 dX1_reduced_57 (tgt := 64) (by decide) (fun c41 => ?_) (fun c41 => ?_)
        · have h := it_ h c41
          exact w_X1_reduced_b64 (fin := fin) C X h hK
        · have h := ie_ h c41
          refine r_iconst C dX1_reduced_60 ?_
          refine r_goto C dX1_reduced_61 (tgt := 65) (by decide) ?_
          exact w_X1_reduced_b65 (fin := fin) C X h hK
theorem hdX1_reduced : zhd yX1_reduced 4 := by decide +kernel
theorem m_X1_reduced {l : Launch} {D : va_G} {b0 : Nat} (hl : l.stackTraces = false) {a0 : Nat} {x1 : Int} {x2 : Int} {x3 : Int} {x4 : Int} {μ : Me} {w : Ex ⊕ (Int × Me)} (h : s_X1_reduced a0 x1 x2 x3 x4 μ = some w) : XN l D b0 yX1_reduced (ws_ yX1_reduced cX1_reduced 5 (some .long)) 7 [vO a0, vI x1, vI x2, vI x3, vI x4] μ (zoJ w) (zmI w) :=
  XN.of hl (by decide +kernel) (Nat.le_of_ble_eq_true rfl) (fun Z C X _ _ => w_X1_reduced C X h rfl)
noncomputable def s_X1_isDisc (x0 : Int) (μ : Me) : Option (Ex ⊕ Me) :=
  (s_X1_isIn (w32 x0) (-9999) (-3) μ).bind fun q1 =>
  (if w32 q1.1 = 0 then
  xb (s_X1_must 0 q1.2) (fun e4 => some (.inl e4)) fun q3 =>
  some (.inr q3)
  else
  (s_J6_floorMod x0 4 q1.2).bind fun q5 =>
  (if w32 2 ≤ w32 q5.1 then
  xb (s_X1_must 0 q5.2) (fun e8 => some (.inl e8)) fun q7 =>
  some (.inr q7)
  else
  xb (s_X1_must 1 q5.2) (fun e10 => some (.inl e10)) fun q9 =>
  some (.inr q9)))
theorem w_X1_isDisc {Z : Zt} {fin : Ex ⊕ Me} {w : Ex ⊕ Me} (C : CX Z yX1_isDisc cX1_isDisc none 7 1) (X : XE Z) {x0 : Int} {μ : Me} (h : s_X1_isDisc x0 μ = some w) (hK : w = fin) : WL Z (XQ Z (zoV fin) (zmV fin)) μ 0 [(0, vI x0)] [] := by
  unfold s_X1_isDisc at h
  refine r_iload_n C 0 dX1_isDisc_0 rfl rfl ?_
  refine r_i2l C dX1_isDisc_1 ?_
  refine r_ldc2 (n := (-9999)) C q1261 dX1_isDisc_2 (by decide) ?_
  refine r_ldc2 (n := (-3)) C q1262 dX1_isDisc_5 (by decide) ?_
  obtain ⟨q1, eq1, h⟩ := bs h
  refine r_callS C (As := [vJ (w32 x0), vJ (-9999), vJ (-3)]) (rest := []) (st1 := [vI q1.1]) (v := some (vI q1.1)) (m_X1_isIn C.tr eq1) (lw_S q499 q500 q120 q501) hdX1_isIn rfl rfl (Nat.le_of_ble_eq_true rfl) ⟨by decide, by decide⟩ dX1_isDisc_8 rfl ?_
  refine r_if_eq C dX1_isDisc_11 (tgt := 27) (by decide) (fun c2 => ?_) (fun c2 => ?_)
  · have h := it_ h c2
    refine r_iconst C dX1_isDisc_27 ?_
    rcases xbs h with ⟨e4, eq3, h⟩ | ⟨q3, eq3, h⟩
    · refine r_xSx C (As := [vI 0]) (rest := []) (μ1 := e4.2.2) (m_X1_must C.tr eq3) (lw_S q557 q558 q120 q559) hdX1_must rfl rfl (Nat.le_of_ble_eq_true rfl) ⟨by decide, by decide⟩ dX1_isDisc_28 ?_
      cases h
      exact r_xoutV C X hK
    · refine r_xS C (As := [vI 0]) (rest := []) (st1 := []) (v := none) (μ1 := q3) (m_X1_must C.tr eq3) (lw_S q557 q558 q120 q559) hdX1_must rfl rfl (Nat.le_of_ble_eq_true rfl) ⟨by decide, by decide⟩ dX1_isDisc_28 rfl ?_
      cases h
      exact r_xvret C hK dX1_isDisc_31
  · have h := ie_ h c2
    refine r_iload_n C 0 dX1_isDisc_14 rfl rfl ?_
    refine r_iconst C dX1_isDisc_15 ?_
    obtain ⟨q5, eq5, h⟩ := bs h
    refine r_callS C (As := [vI x0, vI 4]) (rest := []) (st1 := [vI q5.1]) (v := some (vI q5.1)) (m_J6_floorMod C.tr eq5) (lw_S q1263 q1264 q137 q1265) hdJ6_floorMod rfl rfl (Nat.le_of_ble_eq_true rfl) ⟨by decide, by decide⟩ dX1_isDisc_16 rfl ?_
    refine r_iconst C dX1_isDisc_19 ?_
    refine r_icmp_ge C dX1_isDisc_20 (tgt := 27) (by decide) (fun c6 => ?_) (fun c6 => ?_)
    · have h := it_ h c6
      refine r_iconst C dX1_isDisc_27 ?_
      rcases xbs h with ⟨e8, eq7, h⟩ | ⟨q7, eq7, h⟩
      · refine r_xSx C (As := [vI 0]) (rest := []) (μ1 := e8.2.2) (m_X1_must C.tr eq7) (lw_S q557 q558 q120 q559) hdX1_must rfl rfl (Nat.le_of_ble_eq_true rfl) ⟨by decide, by decide⟩ dX1_isDisc_28 ?_
        cases h
        exact r_xoutV C X hK
      · refine r_xS C (As := [vI 0]) (rest := []) (st1 := []) (v := none) (μ1 := q7) (m_X1_must C.tr eq7) (lw_S q557 q558 q120 q559) hdX1_must rfl rfl (Nat.le_of_ble_eq_true rfl) ⟨by decide, by decide⟩ dX1_isDisc_28 rfl ?_
        cases h
        exact r_xvret C hK dX1_isDisc_31
    · have h := ie_ h c6
      refine r_iconst C dX1_isDisc_23 ?_
      refine r_goto C dX1_isDisc_24 (tgt := 28) (by decide) ?_
      rcases xbs h with ⟨e10, eq9, h⟩ | ⟨q9, eq9, h⟩
      · refine r_xSx C (As := [vI 1]) (rest := []) (μ1 := e10.2.2) (m_X1_must C.tr eq9) (lw_S q557 q558 q120 q559) hdX1_must rfl rfl (Nat.le_of_ble_eq_true rfl) ⟨by decide, by decide⟩ dX1_isDisc_28 ?_
        cases h
        exact r_xoutV C X hK
      · refine r_xS C (As := [vI 1]) (rest := []) (st1 := []) (v := none) (μ1 := q9) (m_X1_must C.tr eq9) (lw_S q557 q558 q120 q559) hdX1_must rfl rfl (Nat.le_of_ble_eq_true rfl) ⟨by decide, by decide⟩ dX1_isDisc_28 rfl ?_
        cases h
        exact r_xvret C hK dX1_isDisc_31
theorem hdX1_isDisc : zhd yX1_isDisc 1 := by decide +kernel
theorem m_X1_isDisc {l : Launch} {D : va_G} {b0 : Nat} (hl : l.stackTraces = false) {x0 : Int} {μ : Me} {w : Ex ⊕ Me} (h : s_X1_isDisc x0 μ = some w) : XN l D b0 yX1_isDisc (ws_ yX1_isDisc cX1_isDisc 1 none) 7 [vI x0] μ (zoV w) (zmV w) :=
  XN.of hl (by decide +kernel) (Nat.le_of_ble_eq_true rfl) (fun Z C X _ _ => w_X1_isDisc C X h rfl)
noncomputable def s_X1_divisor_l10_st (x2 : Int) (x3 : Int) (μ : Me) : Option ((Int × Int × Me) ⊕ (Int × Me)) :=
  (if w32 x3 = 0 then
  some (.inr (x2, μ))
  else
  (rmI x2 x3).bind fun v4 =>
  some (.inl (x3, v4, μ)))
theorem w_X1_divisor_l10_st {Z : Zt} {fin : Int × Me} {w : ((Int × Int × Me) ⊕ (Int × Me))} (C : CX Z yX1_divisor cX1_divisor (some .int) 2 5) {x2 : Int} {x3 : Int} {μ : Me} (h : s_X1_divisor_l10_st x2 x3 μ = some w) (hK : (Sum.elim (fun s : Int × Int × Me => WL Z (QN Z (some (vI fin.1)) fin.2) s.2.2 10 [(2, vI s.1), (3, vI s.2.1)] []) (fun r : Int × Me => r = fin)) w) : WL Z (QN Z (some (vI fin.1)) fin.2) μ 10 [(2, vI x2), (3, vI x3)] [] := by
  unfold s_X1_divisor_l10_st at h
  refine r_iload_n C 1 dX1_divisor_10 rfl rfl ?_
  refine r_if_eq C dX1_divisor_11 (tgt := 27) (by decide) (fun c3 => ?_) (fun c3 => ?_)
  · have h := it_ h c3
    refine r_iload_n C 0 dX1_divisor_27 rfl rfl ?_
    cases h
    exact r_iret C hK dX1_divisor_28
  · have h := ie_ h c3
    refine r_iload_n C 0 dX1_divisor_14 rfl rfl ?_
    refine r_iload_n C 1 dX1_divisor_15 rfl rfl ?_
    obtain ⟨v4, ev4, h⟩ := bs h
    refine r_irem C ev4 dX1_divisor_16 ?_
    refine r_istore C [(4, vI v4), (2, vI x2), (3, vI x3)] dX1_divisor_17 (by decide) rfl ?_
    refine r_iload_n C 2 dX1_divisor_19 rfl rfl ?_
    refine r_istore_n C [(2, vI x3), (4, vI v4), (3, vI x3)] dX1_divisor_20 rfl (by decide) rfl ?_
    refine r_iload C 1 dX1_divisor_21 rfl ?_
    refine r_istore_n C [(3, vI v4), (2, vI x3), (4, vI v4)] dX1_divisor_23 rfl (by decide) rfl ?_
    refine r_goto C dX1_divisor_24 (tgt := 10) (by decide) ?_
    cases h
    refine r_sub [1, 0] rfl ?_
    exact hK
noncomputable def s_X1_divisor_l10 (x2 : Int) (x3 : Int) (μ : Me) : Option (Int × Me) :=
  whileO (fun s : Int × Int × Me => s_X1_divisor_l10_st s.1 s.2.1 s.2.2) (x2, x3, μ)
theorem e_X1_divisor_l10 (x2 : Int) (x3 : Int) (μ : Me) : s_X1_divisor_l10 x2 x3 μ = (s_X1_divisor_l10_st x2 x3 μ).bind fun x => x.elim (fun s : Int × Int × Me => s_X1_divisor_l10 s.1 s.2.1 s.2.2) some := whileO_eq _ _
theorem w_X1_divisor_l10 {Z : Zt} {fin : Int × Me} {w : (Int × Me)} (C : CX Z yX1_divisor cX1_divisor (some .int) 2 5) {x2 : Int} {x3 : Int} {μ : Me} (h : s_X1_divisor_l10 x2 x3 μ = some w) (hK : (fun r : Int × Me => r = fin) w) : WL Z (QN Z (some (vI fin.1)) fin.2) μ 10 [(2, vI x2), (3, vI x3)] [] := by
  refine whileO_walk (w := w) (fun s : Int × Int × Me => WL Z (QN Z (some (vI fin.1)) fin.2) s.2.2 10 [(2, vI s.1), (3, vI s.2.1)] []) (fun s v h2 hi hr => ?_) (x2, x3, μ) h
  refine w_X1_divisor_l10_st (fin := fin) C h2 ?_
  cases v with
  | inl s2 => exact hi s2 rfl
  | inr r => have e := hr r rfl; subst e; exact hK
noncomputable def s_X1_divisor (x0 : Int) (x1 : Int) (μ : Me) : Option (Int × Me) :=
  (s_J6_abs x0 μ).bind fun q1 =>
  (s_J6_abs x1 q1.2).bind fun q2 =>
  s_X1_divisor_l10 q1.1 q2.1 q2.2
theorem w_X1_divisor {Z : Zt} {fin : Int × Me} {w : Int × Me} (C : CX Z yX1_divisor cX1_divisor (some .int) 2 5) {x0 : Int} {x1 : Int} {μ : Me} (h : s_X1_divisor x0 x1 μ = some w) (hK : w = fin) : WL Z (QN Z (some (vI fin.1)) fin.2) μ 0 [(0, vI x0), (1, vI x1)] [] := by
  unfold s_X1_divisor at h
  refine r_iload_n C 0 dX1_divisor_0 rfl rfl ?_
  obtain ⟨q1, eq1, h⟩ := bs h
  refine r_callS C (As := [vI x0]) (rest := []) (st1 := [vI q1.1]) (v := some (vI q1.1)) (m_J6_abs C.tr eq1) (lw_S q1273 q1274 q137 q1275) hdJ6_abs rfl rfl (Nat.le_of_ble_eq_true rfl) ⟨by decide, by decide⟩ dX1_divisor_1 rfl ?_
  refine r_istore_n C [(2, vI q1.1), (0, vI x0), (1, vI x1)] dX1_divisor_4 rfl (by decide) rfl ?_
  refine r_iload_n C 2 dX1_divisor_5 rfl rfl ?_
  obtain ⟨q2, eq2, h⟩ := bs h
  refine r_callS C (As := [vI x1]) (rest := []) (st1 := [vI q2.1]) (v := some (vI q2.1)) (m_J6_abs C.tr eq2) (lw_S q1273 q1274 q137 q1275) hdJ6_abs rfl rfl (Nat.le_of_ble_eq_true rfl) ⟨by decide, by decide⟩ dX1_divisor_6 rfl ?_
  refine r_istore_n C [(3, vI q2.1), (2, vI q1.1), (0, vI x0), (1, vI x1)] dX1_divisor_9 rfl (by decide) rfl ?_
  refine r_sub [1, 0] rfl ?_
  exact w_X1_divisor_l10 (fin := fin) C h hK
theorem hdX1_divisor : zhd yX1_divisor 2 := by decide +kernel
theorem m_X1_divisor {l : Launch} {D : va_G} {b0 : Nat} (hl : l.stackTraces = false) {x0 : Int} {x1 : Int} {μ : Me} {w : Int × Me} (h : s_X1_divisor x0 x1 μ = some w) : MN l D b0 yX1_divisor (ws_ yX1_divisor cX1_divisor 5 (some .int)) 2 [vI x0, vI x1] μ (some (vI w.1)) w.2 :=
  MN.of hl (by decide +kernel) (Nat.le_of_ble_eq_true rfl) (fun Z C _ _ => w_X1_divisor C h rfl)
noncomputable def s_X1_lists_b133 (x4 : Int)  (μ : Me) : Option (Int × Me) :=
  some ((x4 + 1), μ)
theorem w_X1_lists_b133 {Z : Zt} {fin : Int × Me} {w : (Int × Me)} (C : CX Z yX1_lists cX1_lists (some .int) 3 9) {x4 : Int}  {μ : Me} (h : s_X1_lists_b133 x4 μ = some w) (hK : (fun r : Int × Me => r = fin) w) : WL Z (QN Z (some (vI fin.1)) fin.2) μ 133 [(4, vI x4)] [] := by
  unfold s_X1_lists_b133 at h
  refine r_iload C 0 dX1_lists_133 rfl ?_
  refine r_iconst C dX1_lists_135 ?_
  refine r_iadd C dX1_lists_136 ?_
  cases h
  exact r_iret C hK dX1_lists_137
noncomputable def s_X1_lists_b100 (a0 : Nat) (x1 : Int) (x2 : Int) (x3 : Int) (x4 : Int) (x5 : Int) (x6 : Int) (x8 : Int)  (μ : Me) : Option ((Int × Int × Me) ⊕ ((Int × Int × Me) ⊕ (Int × Me))) :=
  (gR μ 0 a0 13).bind fun v9 =>
  (uJ μ v9 0 (w32 x5)).bind fun m10 =>
  (gR m10 0 a0 13).bind fun v11 =>
  (uJ m10 v11 1 (w32 x6)).bind fun m12 =>
  (gR m12 0 a0 13).bind fun v13 =>
  (uJ m12 v13 2 (w32 x8)).bind fun m14 =>
  (if w32 x4 = w32 x3 then
  ((s_X1_lists_b133 x4 m14).map Sum.inr).map Sum.inr
  else
  some (.inl ((x4 + 1), (x6 + 1), m14)))
theorem w_X1_lists_b100 {Z : Zt} {fin : Int × Me} {w : ((Int × Int × Me) ⊕ ((Int × Int × Me) ⊕ (Int × Me)))} (C : CX Z yX1_lists cX1_lists (some .int) 3 9) {a0 : Nat} {x1 : Int} {x2 : Int} {x3 : Int} {x4 : Int} {x5 : Int} {x6 : Int} {x8 : Int}  {μ : Me} (h : s_X1_lists_b100 a0 x1 x2 x3 x4 x5 x6 x8 μ = some w) (hK : (Sum.elim (fun s : Int × Int × Me => WL Z (QN Z (some (vI fin.1)) fin.2) s.2.2 24 [(0, vO a0), (1, vI x1), (2, vI x2), (3, vI x3), (4, vI s.1), (5, vI x5), (6, vI s.2.1)] []) (Sum.elim (fun s : Int × Int × Me => WL Z (QN Z (some (vI fin.1)) fin.2) s.2.2 6 [(0, vO a0), (1, vI x1), (2, vI x2), (3, vI x3), (4, vI s.1), (5, vI s.2.1)] []) (fun r : Int × Me => r = fin))) w) : WL Z (QN Z (some (vI fin.1)) fin.2) μ 100 [(0, vO a0), (1, vI x1), (2, vI x2), (3, vI x3), (4, vI x4), (5, vI x5), (6, vI x6), (8, vI x8)] [] := by
  unfold s_X1_lists_b100 at h
  refine r_aload_n C 0 dX1_lists_100 rfl rfl ?_
  obtain ⟨v9, ev9, h⟩ := bs h
  refine r_getR C (c := 0) (r := (RX1, TX1, 19)) rfl 13 (by decide) rfl ev9 q441 dX1_lists_101 ?_
  refine r_iconst C dX1_lists_104 ?_
  refine r_iload C 5 dX1_lists_105 rfl ?_
  refine r_i2l C dX1_lists_107 ?_
  obtain ⟨m10, em10, h⟩ := bs h
  refine r_last C em10 dX1_lists_108 ?_
  refine r_aload_n C 0 dX1_lists_109 rfl rfl ?_
  obtain ⟨v11, ev11, h⟩ := bs h
  refine r_getR C (c := 0) (r := (RX1, TX1, 19)) rfl 13 (by decide) rfl ev11 q441 dX1_lists_110 ?_
  refine r_iconst C dX1_lists_113 ?_
  refine r_iload C 6 dX1_lists_114 rfl ?_
  refine r_i2l C dX1_lists_116 ?_
  obtain ⟨m12, em12, h⟩ := bs h
  refine r_last C em12 dX1_lists_117 ?_
  refine r_aload_n C 0 dX1_lists_118 rfl rfl ?_
  obtain ⟨v13, ev13, h⟩ := bs h
  refine r_getR C (c := 0) (r := (RX1, TX1, 19)) rfl 13 (by decide) rfl ev13 q441 dX1_lists_119 ?_
  refine r_iconst C dX1_lists_122 ?_
  refine r_iload C 7 dX1_lists_123 rfl ?_
  refine r_i2l C dX1_lists_125 ?_
  obtain ⟨m14, em14, h⟩ := bs h
  refine r_last C em14 dX1_lists_126 ?_
  refine r_iload C 4 dX1_lists_127 rfl ?_
  refine r_iload_n C 3 dX1_lists_129 rfl rfl ?_
  refine r_icmp_ne C dX1_lists_130 (tgt := 138) (by decide) (fun c15 => ?_) (fun c15 => ?_)
  · have h := ie_ h c15
    refine r_iinc C 4 [(4, vI (x4 + 1)), (0, vO a0), (1, vI x1), (2, vI x2), (3, vI x3), (5, vI x5), (6, vI x6), (8, vI x8)] dX1_lists_138 rfl (by decide) rfl ?_
    refine r_iinc C 6 [(6, vI (x6 + 1)), (4, vI (x4 + 1)), (0, vO a0), (1, vI x1), (2, vI x2), (3, vI x3), (5, vI x5), (8, vI x8)] dX1_lists_141 rfl (by decide) rfl ?_
    refine r_goto C dX1_lists_144 (tgt := 24) (by decide) ?_
    cases h
    refine r_sub [2, 3, 4, 5, 1, 6, 0] rfl ?_
    exact hK
  · have h := it_ h c15
    obtain ⟨z, hz, ez⟩ := ms_ h; clear h; subst ez; have h := hz; clear hz
    obtain ⟨z, hz, ez⟩ := ms_ h; clear h; subst ez; have h := hz; clear hz
    refine r_sub [4] rfl ?_
    exact w_X1_lists_b133 (fin := fin) C h hK
noncomputable def s_X1_lists_l24_st (a0 : Nat) (x1 : Int) (x2 : Int) (x3 : Int) (x4 : Int) (x5 : Int) (x6 : Int) (μ : Me) : Option ((Int × Int × Me) ⊕ ((Int × Int × Me) ⊕ (Int × Me))) :=
  (if w32 x5 < w32 x6 then
  some (.inr (.inl (x4, (x5 + 1), μ)))
  else
  (rmI ((x6 * x6) - x1) (4 * x5)).bind fun v3 =>
  (if w32 v3 = 0 then
  (dvI ((x6 * x6) - x1) (4 * x5)).bind fun v5 =>
  (s_X1_isReduced (w32 x5) (w32 x6) (w32 v5) μ).bind fun q6 =>
  (if w32 q6.1 = 0 then
  some (.inl (x4, (x6 + 1), q6.2))
  else
  (if w32 x2 = 0 then
  (s_X1_divisor x5 x6 q6.2).bind fun q16 =>
  (s_X1_divisor q16.1 v5 q16.2).bind fun q17 =>
  (if w32 q17.1 ≤ w32 1 then
  s_X1_lists_b100 a0 x1 x2 x3 x4 x5 x6 v5 q17.2
  else
  some (.inl (x4, (x6 + 1), q17.2)))
  else
  s_X1_lists_b100 a0 x1 x2 x3 x4 x5 x6 v5 q6.2))
  else
  some (.inl (x4, (x6 + 1), μ))))
theorem w_X1_lists_l24_st {Z : Zt} {fin : Int × Me} {w : ((Int × Int × Me) ⊕ ((Int × Int × Me) ⊕ (Int × Me)))} (C : CX Z yX1_lists cX1_lists (some .int) 3 9) {a0 : Nat} {x1 : Int} {x2 : Int} {x3 : Int} {x4 : Int} {x5 : Int} {x6 : Int} {μ : Me} (h : s_X1_lists_l24_st a0 x1 x2 x3 x4 x5 x6 μ = some w) (hK : (Sum.elim (fun s : Int × Int × Me => WL Z (QN Z (some (vI fin.1)) fin.2) s.2.2 24 [(0, vO a0), (1, vI x1), (2, vI x2), (3, vI x3), (4, vI s.1), (5, vI x5), (6, vI s.2.1)] []) (Sum.elim (fun s : Int × Int × Me => WL Z (QN Z (some (vI fin.1)) fin.2) s.2.2 6 [(0, vO a0), (1, vI x1), (2, vI x2), (3, vI x3), (4, vI s.1), (5, vI s.2.1)] []) (fun r : Int × Me => r = fin))) w) : WL Z (QN Z (some (vI fin.1)) fin.2) μ 24 [(0, vO a0), (1, vI x1), (2, vI x2), (3, vI x3), (4, vI x4), (5, vI x5), (6, vI x6)] [] := by
  unfold s_X1_lists_l24_st at h
  refine r_iload C 6 dX1_lists_24 rfl ?_
  refine r_iload C 5 dX1_lists_26 rfl ?_
  refine r_icmp_gt C dX1_lists_28 (tgt := 147) (by decide) (fun c2 => ?_) (fun c2 => ?_)
  · have h := it_ h c2
    refine r_iinc C 5 [(5, vI (x5 + 1)), (0, vO a0), (1, vI x1), (2, vI x2), (3, vI x3), (4, vI x4), (6, vI x6)] dX1_lists_147 rfl (by decide) rfl ?_
    refine r_goto C dX1_lists_150 (tgt := 6) (by decide) ?_
    cases h
    refine r_sub [1, 2, 3, 4, 5, 0] rfl ?_
    exact hK
  · have h := ie_ h c2
    refine r_iload C 6 dX1_lists_31 rfl ?_
    refine r_iload C 6 dX1_lists_33 rfl ?_
    refine r_imul C dX1_lists_35 ?_
    refine r_iload_n C 1 dX1_lists_36 rfl rfl ?_
    refine r_isub C dX1_lists_37 ?_
    refine r_istore C [(7, vI ((x6 * x6) - x1)), (0, vO a0), (1, vI x1), (2, vI x2), (3, vI x3), (4, vI x4), (5, vI x5), (6, vI x6)] dX1_lists_38 (by decide) rfl ?_
    refine r_iload C 0 dX1_lists_40 rfl ?_
    refine r_iconst C dX1_lists_42 ?_
    refine r_iload C 6 dX1_lists_43 rfl ?_
    refine r_imul C dX1_lists_45 ?_
    obtain ⟨v3, ev3, h⟩ := bs h
    refine r_irem C ev3 dX1_lists_46 ?_
    refine r_if_eq C dX1_lists_47 (tgt := 53) (by decide) (fun c4 => ?_) (fun c4 => ?_)
    · have h := it_ h c4
      refine r_iload C 0 dX1_lists_53 rfl ?_
      refine r_iconst C dX1_lists_55 ?_
      refine r_iload C 6 dX1_lists_56 rfl ?_
      refine r_imul C dX1_lists_58 ?_
      obtain ⟨v5, ev5, h⟩ := bs h
      refine r_idiv C ev5 dX1_lists_59 ?_
      refine r_istore C [(8, vI v5), (7, vI ((x6 * x6) - x1)), (0, vO a0), (1, vI x1), (2, vI x2), (3, vI x3), (4, vI x4), (5, vI x5), (6, vI x6)] dX1_lists_60 (by decide) rfl ?_
      refine r_iload C 7 dX1_lists_62 rfl ?_
      refine r_i2l C dX1_lists_64 ?_
      refine r_iload C 8 dX1_lists_65 rfl ?_
      refine r_i2l C dX1_lists_67 ?_
      refine r_iload C 0 dX1_lists_68 rfl ?_
      refine r_i2l C dX1_lists_70 ?_
      obtain ⟨q6, eq6, h⟩ := bs h
      refine r_callS C (As := [vJ (w32 x5), vJ (w32 x6), vJ (w32 v5)]) (rest := []) (st1 := [vI q6.1]) (v := some (vI q6.1)) (m_X1_isReduced C.tr eq6) (lw_S q1243 q1244 q120 q1245) hdX1_isReduced rfl rfl (Nat.le_of_ble_eq_true rfl) ⟨by decide, by decide⟩ dX1_lists_71 rfl ?_
      refine r_if_eq C dX1_lists_74 (tgt := 141) (by decide) (fun c7 => ?_) (fun c7 => ?_)
      · have h := it_ h c7
        refine r_iinc C 8 [(6, vI (x6 + 1)), (8, vI v5), (7, vI ((x6 * x6) - x1)), (0, vO a0), (1, vI x1), (2, vI x2), (3, vI x3), (4, vI x4), (5, vI x5)] dX1_lists_141 rfl (by decide) rfl ?_
        refine r_goto C dX1_lists_144 (tgt := 24) (by decide) ?_
        cases h
        refine r_sub [3, 4, 5, 6, 7, 8, 0] rfl ?_
        exact hK
      · have h := ie_ h c7
        refine r_iload_n C 4 dX1_lists_77 rfl rfl ?_
        refine r_if_ne C dX1_lists_78 (tgt := 100) (by decide) (fun c8 => ?_) (fun c8 => ?_)
        · have h := ie_ h c8
          refine r_sub [2, 3, 4, 5, 6, 7, 8, 0] rfl ?_
          exact w_X1_lists_b100 (fin := fin) C h hK
        · have h := it_ h c8
          refine r_iload C 7 dX1_lists_81 rfl ?_
          refine r_iload C 8 dX1_lists_83 rfl ?_
          obtain ⟨q16, eq16, h⟩ := bs h
          refine r_callS C (As := [vI x5, vI x6]) (rest := []) (st1 := [vI q16.1]) (v := some (vI q16.1)) (m_X1_divisor C.tr eq16) (lw_S q1270 q1271 q120 q1272) hdX1_divisor rfl rfl (Nat.le_of_ble_eq_true rfl) ⟨by decide, by decide⟩ dX1_lists_85 rfl ?_
          refine r_iload C 0 dX1_lists_88 rfl ?_
          obtain ⟨q17, eq17, h⟩ := bs h
          refine r_callS C (As := [vI q16.1, vI v5]) (rest := []) (st1 := [vI q17.1]) (v := some (vI q17.1)) (m_X1_divisor C.tr eq17) (lw_S q1270 q1271 q120 q1272) hdX1_divisor rfl rfl (Nat.le_of_ble_eq_true rfl) ⟨by decide, by decide⟩ dX1_lists_90 rfl ?_
          refine r_iconst C dX1_lists_93 ?_
          refine r_icmp_le C dX1_lists_94 (tgt := 100) (by decide) (fun c18 => ?_) (fun c18 => ?_)
          · have h := it_ h c18
            refine r_sub [2, 3, 4, 5, 6, 7, 8, 0] rfl ?_
            exact w_X1_lists_b100 (fin := fin) C h hK
          · have h := ie_ h c18
            refine r_goto C dX1_lists_97 (tgt := 141) (by decide) ?_
            refine r_iinc C 8 [(6, vI (x6 + 1)), (8, vI v5), (7, vI ((x6 * x6) - x1)), (0, vO a0), (1, vI x1), (2, vI x2), (3, vI x3), (4, vI x4), (5, vI x5)] dX1_lists_141 rfl (by decide) rfl ?_
            refine r_goto C dX1_lists_144 (tgt := 24) (by decide) ?_
            cases h
            refine r_sub [3, 4, 5, 6, 7, 8, 0] rfl ?_
            exact hK
    · have h := ie_ h c4
      refine r_goto C dX1_lists_50 (tgt := 141) (by decide) ?_
      refine r_iinc C 7 [(6, vI (x6 + 1)), (7, vI ((x6 * x6) - x1)), (0, vO a0), (1, vI x1), (2, vI x2), (3, vI x3), (4, vI x4), (5, vI x5)] dX1_lists_141 rfl (by decide) rfl ?_
      refine r_goto C dX1_lists_144 (tgt := 24) (by decide) ?_
      cases h
      refine r_sub [2, 3, 4, 5, 6, 7, 0] rfl ?_
      exact hK
noncomputable def s_X1_lists_l24 (a0 : Nat) (x1 : Int) (x2 : Int) (x3 : Int) (x4 : Int) (x5 : Int) (x6 : Int) (μ : Me) : Option ((Int × Int × Me) ⊕ (Int × Me)) :=
  whileO (fun s : Int × Int × Me => s_X1_lists_l24_st a0 x1 x2 x3 s.1 x5 s.2.1 s.2.2) (x4, x6, μ)
theorem e_X1_lists_l24 (a0 : Nat) (x1 : Int) (x2 : Int) (x3 : Int) (x4 : Int) (x5 : Int) (x6 : Int) (μ : Me) : s_X1_lists_l24 a0 x1 x2 x3 x4 x5 x6 μ = (s_X1_lists_l24_st a0 x1 x2 x3 x4 x5 x6 μ).bind fun x => x.elim (fun s : Int × Int × Me => s_X1_lists_l24 a0 x1 x2 x3 s.1 x5 s.2.1 s.2.2) some := whileO_eq _ _
theorem w_X1_lists_l24 {Z : Zt} {fin : Int × Me} {w : ((Int × Int × Me) ⊕ (Int × Me))} (C : CX Z yX1_lists cX1_lists (some .int) 3 9) {a0 : Nat} {x1 : Int} {x2 : Int} {x3 : Int} {x4 : Int} {x5 : Int} {x6 : Int} {μ : Me} (h : s_X1_lists_l24 a0 x1 x2 x3 x4 x5 x6 μ = some w) (hK : (Sum.elim (fun s : Int × Int × Me => WL Z (QN Z (some (vI fin.1)) fin.2) s.2.2 6 [(0, vO a0), (1, vI x1), (2, vI x2), (3, vI x3), (4, vI s.1), (5, vI s.2.1)] []) (fun r : Int × Me => r = fin)) w) : WL Z (QN Z (some (vI fin.1)) fin.2) μ 24 [(0, vO a0), (1, vI x1), (2, vI x2), (3, vI x3), (4, vI x4), (5, vI x5), (6, vI x6)] [] := by
  refine whileO_walk (w := w) (fun s : Int × Int × Me => WL Z (QN Z (some (vI fin.1)) fin.2) s.2.2 24 [(0, vO a0), (1, vI x1), (2, vI x2), (3, vI x3), (4, vI s.1), (5, vI x5), (6, vI s.2.1)] []) (fun s v h2 hi hr => ?_) (x4, x6, μ) h
  refine w_X1_lists_l24_st (fin := fin) C h2 ?_
  cases v with
  | inl s2 => exact hi s2 rfl
  | inr r => have e := hr r rfl; subst e; exact hK
noncomputable def s_X1_lists_l6_st (a0 : Nat) (x1 : Int) (x2 : Int) (x3 : Int) (x4 : Int) (x5 : Int) (μ : Me) : Option ((Int × Int × Me) ⊕ (Int × Me)) :=
  (if w32 (-x1) < w32 ((3 * x5) * x5) then
  some (.inr (x4, μ))
  else
  s_X1_lists_l24 a0 x1 x2 x3 x4 x5 (1 - x5) μ)
theorem w_X1_lists_l6_st {Z : Zt} {fin : Int × Me} {w : ((Int × Int × Me) ⊕ (Int × Me))} (C : CX Z yX1_lists cX1_lists (some .int) 3 9) {a0 : Nat} {x1 : Int} {x2 : Int} {x3 : Int} {x4 : Int} {x5 : Int} {μ : Me} (h : s_X1_lists_l6_st a0 x1 x2 x3 x4 x5 μ = some w) (hK : (Sum.elim (fun s : Int × Int × Me => WL Z (QN Z (some (vI fin.1)) fin.2) s.2.2 6 [(0, vO a0), (1, vI x1), (2, vI x2), (3, vI x3), (4, vI s.1), (5, vI s.2.1)] []) (fun r : Int × Me => r = fin)) w) : WL Z (QN Z (some (vI fin.1)) fin.2) μ 6 [(0, vO a0), (1, vI x1), (2, vI x2), (3, vI x3), (4, vI x4), (5, vI x5)] [] := by
  unfold s_X1_lists_l6_st at h
  refine r_iconst C dX1_lists_6 ?_
  refine r_iload C 5 dX1_lists_7 rfl ?_
  refine r_imul C dX1_lists_9 ?_
  refine r_iload C 5 dX1_lists_10 rfl ?_
  refine r_imul C dX1_lists_12 ?_
  refine r_iload_n C 1 dX1_lists_13 rfl rfl ?_
  refine r_ineg C dX1_lists_14 ?_
  refine r_icmp_gt C dX1_lists_15 (tgt := 153) (by decide) (fun c1 => ?_) (fun c1 => ?_)
  · have h := it_ h c1
    refine r_iload C 4 dX1_lists_153 rfl ?_
    cases h
    exact r_iret C hK dX1_lists_155
  · have h := ie_ h c1
    refine r_iconst C dX1_lists_18 ?_
    refine r_iload C 5 dX1_lists_19 rfl ?_
    refine r_isub C dX1_lists_21 ?_
    refine r_istore C [(6, vI (1 - x5)), (0, vO a0), (1, vI x1), (2, vI x2), (3, vI x3), (4, vI x4), (5, vI x5)] dX1_lists_22 (by decide) rfl ?_
    refine r_sub [1, 2, 3, 4, 5, 6, 0] rfl ?_
    exact w_X1_lists_l24 (fin := fin) C h hK
noncomputable def s_X1_lists_l6 (a0 : Nat) (x1 : Int) (x2 : Int) (x3 : Int) (x4 : Int) (x5 : Int) (μ : Me) : Option (Int × Me) :=
  whileO (fun s : Int × Int × Me => s_X1_lists_l6_st a0 x1 x2 x3 s.1 s.2.1 s.2.2) (x4, x5, μ)
theorem e_X1_lists_l6 (a0 : Nat) (x1 : Int) (x2 : Int) (x3 : Int) (x4 : Int) (x5 : Int) (μ : Me) : s_X1_lists_l6 a0 x1 x2 x3 x4 x5 μ = (s_X1_lists_l6_st a0 x1 x2 x3 x4 x5 μ).bind fun x => x.elim (fun s : Int × Int × Me => s_X1_lists_l6 a0 x1 x2 x3 s.1 s.2.1 s.2.2) some := whileO_eq _ _
theorem w_X1_lists_l6 {Z : Zt} {fin : Int × Me} {w : (Int × Me)} (C : CX Z yX1_lists cX1_lists (some .int) 3 9) {a0 : Nat} {x1 : Int} {x2 : Int} {x3 : Int} {x4 : Int} {x5 : Int} {μ : Me} (h : s_X1_lists_l6 a0 x1 x2 x3 x4 x5 μ = some w) (hK : (fun r : Int × Me => r = fin) w) : WL Z (QN Z (some (vI fin.1)) fin.2) μ 6 [(0, vO a0), (1, vI x1), (2, vI x2), (3, vI x3), (4, vI x4), (5, vI x5)] [] := by
  refine whileO_walk (w := w) (fun s : Int × Int × Me => WL Z (QN Z (some (vI fin.1)) fin.2) s.2.2 6 [(0, vO a0), (1, vI x1), (2, vI x2), (3, vI x3), (4, vI s.1), (5, vI s.2.1)] []) (fun s v h2 hi hr => ?_) (x4, x5, μ) h
  refine w_X1_lists_l6_st (fin := fin) C h2 ?_
  cases v with
  | inl s2 => exact hi s2 rfl
  | inr r => have e := hr r rfl; subst e; exact hK
noncomputable def s_X1_lists (a0 : Nat) (x1 : Int) (x2 : Int) (x3 : Int) (μ : Me) : Option (Int × Me) :=
  s_X1_lists_l6 a0 x1 x2 x3 0 1 μ
theorem w_X1_lists {Z : Zt} {fin : Int × Me} {w : Int × Me} (C : CX Z yX1_lists cX1_lists (some .int) 3 9) {a0 : Nat} {x1 : Int} {x2 : Int} {x3 : Int} {μ : Me} (h : s_X1_lists a0 x1 x2 x3 μ = some w) (hK : w = fin) : WL Z (QN Z (some (vI fin.1)) fin.2) μ 0 [(0, vO a0), (1, vI x1), (2, vI x2), (3, vI x3)] [] := by
  unfold s_X1_lists at h
  refine r_iconst C dX1_lists_0 ?_
  refine r_istore C [(4, vI 0), (0, vO a0), (1, vI x1), (2, vI x2), (3, vI x3)] dX1_lists_1 (by decide) rfl ?_
  refine r_iconst C dX1_lists_3 ?_
  refine r_istore C [(5, vI 1), (4, vI 0), (0, vO a0), (1, vI x1), (2, vI x2), (3, vI x3)] dX1_lists_4 (by decide) rfl ?_
  refine r_sub [2, 3, 4, 5, 1, 0] rfl ?_
  exact w_X1_lists_l6 (fin := fin) C h hK
theorem hdX1_lists : zhd yX1_lists 3 := by decide +kernel
theorem m_X1_lists {l : Launch} {D : va_G} {b0 : Nat} (hl : l.stackTraces = false) {a0 : Nat} {x1 : Int} {x2 : Int} {x3 : Int} {μ : Me} {w : Int × Me} (h : s_X1_lists a0 x1 x2 x3 μ = some w) : MN l D b0 yX1_lists (ws_ yX1_lists cX1_lists 9 (some .int)) 3 [vO a0, vI x1, vI x2, vI x3] μ (some (vI w.1)) w.2 :=
  MN.of hl (by decide +kernel) (Nat.le_of_ble_eq_true rfl) (fun Z C _ _ => w_X1_lists C h rfl)
noncomputable def s_X1_classes (a0 : Nat) (x1 : Int) (x2 : Int) (μ : Me) : Option (Ex ⊕ (Int × Me)) :=
  xb (s_X1_isDisc x1 μ) (fun e2 => some (.inl e2)) fun q1 =>
  (ck q1 0 a0).bind fun _ =>
  (s_X1_lists a0 x1 x2 (-1) q1).bind fun q3 =>
  some (.inr (q3.1, q3.2))
theorem w_X1_classes {Z : Zt} {fin : Ex ⊕ (Int × Me)} {w : Ex ⊕ (Int × Me)} (C : CX Z yX1_classes cX1_classes (some .int) 8 3) (X : XE Z) {a0 : Nat} {x1 : Int} {x2 : Int} {μ : Me} (h : s_X1_classes a0 x1 x2 μ = some w) (hK : w = fin) : WL Z (XQ Z (zoI fin) (zmI fin)) μ 0 [(0, vO a0), (1, vI x1), (2, vI x2)] [] := by
  unfold s_X1_classes at h
  refine r_iload_n C 1 dX1_classes_0 rfl rfl ?_
  rcases xbs h with ⟨e2, eq1, h⟩ | ⟨q1, eq1, h⟩
  · refine r_xSx C (As := [vI x1]) (rest := []) (μ1 := e2.2.2) (m_X1_isDisc C.tr eq1) (lw_S q1258 q1259 q120 q1260) hdX1_isDisc rfl rfl (Nat.le_of_ble_eq_true rfl) ⟨by decide, by decide⟩ dX1_classes_1 ?_
    cases h
    exact r_xoutI C X hK
  · refine r_xS C (As := [vI x1]) (rest := []) (st1 := []) (v := none) (μ1 := q1) (m_X1_isDisc C.tr eq1) (lw_S q1258 q1259 q120 q1260) hdX1_isDisc rfl rfl (Nat.le_of_ble_eq_true rfl) ⟨by decide, by decide⟩ dX1_classes_1 rfl ?_
    refine r_aload_n C 0 dX1_classes_4 rfl rfl ?_
    refine r_iload_n C 1 dX1_classes_5 rfl rfl ?_
    refine r_iload_n C 2 dX1_classes_6 rfl rfl ?_
    refine r_iconst C dX1_classes_7 ?_
    obtain ⟨u4, eu4, h⟩ := bs h
    obtain ⟨q3, eq3, h⟩ := bs h
    refine r_callV C (As := [vI x1, vI x2, vI (-1)]) (b := a0) (rest := []) (st1 := [vI q3.1]) (v := some (vI q3.1)) (r := (RX1, TX1, 19)) (ci := 0) rfl eu4 (m_X1_lists C.tr eq3) (lw_V q1266 q1268 qs36 q120 q1269) rfl hdX1_lists rfl rfl (Nat.le_of_ble_eq_true rfl) ⟨by decide, by decide⟩ dX1_classes_8 rfl ?_
    cases h
    exact r_xiret C hK dX1_classes_11
theorem hdX1_classes : zhd yX1_classes 2 := by decide +kernel
theorem m_X1_classes {l : Launch} {D : va_G} {b0 : Nat} (hl : l.stackTraces = false) {a0 : Nat} {x1 : Int} {x2 : Int} {μ : Me} {w : Ex ⊕ (Int × Me)} (h : s_X1_classes a0 x1 x2 μ = some w) : XN l D b0 yX1_classes (ws_ yX1_classes cX1_classes 3 (some .int)) 8 [vO a0, vI x1, vI x2] μ (zoI w) (zmI w) :=
  XN.of hl (by decide +kernel) (Nat.le_of_ble_eq_true rfl) (fun Z C X _ _ => w_X1_classes C X h rfl)
noncomputable def s_X1_reducedAt_b13 (a0 : Nat) (x1 : Int) (x2 : Int) (x3 : Int) (t0 : Int) (μ : Me) : Option (Ex ⊕ (Int × Me)) :=
  xb (s_X1_must t0 μ) (fun e5 => some (.inl e5)) fun q4 =>
  (s_X1_isIn (w32 x3) 0 2 q4).bind fun q6 =>
  xb (s_X1_thereIs q6.1 q6.2) (fun e8 => some (.inl e8)) fun q7 =>
  (ck q7 0 a0).bind fun _ =>
  (s_X1_lists a0 x1 0 x2 q7).bind fun q9 =>
  (if w32 x2 < w32 q9.1 then
  (gR q9.2 0 a0 13).bind fun v12 =>
  (aJ q9.2 103 v12 x3).bind fun v13 =>
  some (.inr (v13, q9.2))
  else
  some (.inr ((-9999), q9.2)))
theorem w_X1_reducedAt_b13 {Z : Zt} {fin : Ex ⊕ (Int × Me)} {w : (Ex ⊕ (Int × Me))} (C : CX Z yX1_reducedAt cX1_reducedAt (some .int) 8 4) (X : XE Z) {a0 : Nat} {x1 : Int} {x2 : Int} {x3 : Int} {t0 : Int} {μ : Me} (h : s_X1_reducedAt_b13 a0 x1 x2 x3 t0 μ = some w) (hK : (fun r : Ex ⊕ (Int × Me) => r = fin) w) : WL Z (XQ Z (zoI fin) (zmI fin)) μ 13 [(0, vO a0), (1, vI x1), (2, vI x2), (3, vI x3)] [vI t0] := by
  unfold s_X1_reducedAt_b13 at h
  rcases xbs h with ⟨e5, eq4, h⟩ | ⟨q4, eq4, h⟩
  · refine r_xSx C (As := [vI t0]) (rest := []) (μ1 := e5.2.2) (m_X1_must C.tr eq4) (lw_S q557 q558 q120 q559) hdX1_must rfl rfl (Nat.le_of_ble_eq_true rfl) ⟨by decide, by decide⟩ dX1_reducedAt_13 ?_
    cases h
    exact r_xoutI C X hK
  · refine r_xS C (As := [vI t0]) (rest := []) (st1 := []) (v := none) (μ1 := q4) (m_X1_must C.tr eq4) (lw_S q557 q558 q120 q559) hdX1_must rfl rfl (Nat.le_of_ble_eq_true rfl) ⟨by decide, by decide⟩ dX1_reducedAt_13 rfl ?_
    refine r_iload_n C 3 dX1_reducedAt_16 rfl rfl ?_
    refine r_i2l C dX1_reducedAt_17 ?_
    refine r_lconst (v := 0) C dX1_reducedAt_18 (by decide) ?_
    refine r_ldc2 (n := 2) C q1246 dX1_reducedAt_19 (by decide) ?_
    obtain ⟨q6, eq6, h⟩ := bs h
    refine r_callS C (As := [vJ (w32 x3), vJ 0, vJ 2]) (rest := []) (st1 := [vI q6.1]) (v := some (vI q6.1)) (m_X1_isIn C.tr eq6) (lw_S q499 q500 q120 q501) hdX1_isIn rfl rfl (Nat.le_of_ble_eq_true rfl) ⟨by decide, by decide⟩ dX1_reducedAt_22 rfl ?_
    rcases xbs h with ⟨e8, eq7, h⟩ | ⟨q7, eq7, h⟩
    · refine r_xSx C (As := [vI q6.1]) (rest := []) (μ1 := e8.2.2) (m_X1_thereIs C.tr eq7) (lw_S q1221 q1222 q120 q1223) hdX1_thereIs rfl rfl (Nat.le_of_ble_eq_true rfl) ⟨by decide, by decide⟩ dX1_reducedAt_25 ?_
      cases h
      exact r_xoutI C X hK
    · refine r_xS C (As := [vI q6.1]) (rest := []) (st1 := []) (v := none) (μ1 := q7) (m_X1_thereIs C.tr eq7) (lw_S q1221 q1222 q120 q1223) hdX1_thereIs rfl rfl (Nat.le_of_ble_eq_true rfl) ⟨by decide, by decide⟩ dX1_reducedAt_25 rfl ?_
      refine r_aload_n C 0 dX1_reducedAt_28 rfl rfl ?_
      refine r_iload_n C 1 dX1_reducedAt_29 rfl rfl ?_
      refine r_iconst C dX1_reducedAt_30 ?_
      refine r_iload_n C 2 dX1_reducedAt_31 rfl rfl ?_
      obtain ⟨u10, eu10, h⟩ := bs h
      obtain ⟨q9, eq9, h⟩ := bs h
      refine r_callV C (As := [vI x1, vI 0, vI x2]) (b := a0) (rest := []) (st1 := [vI q9.1]) (v := some (vI q9.1)) (r := (RX1, TX1, 19)) (ci := 0) rfl eu10 (m_X1_lists C.tr eq9) (lw_V q1266 q1268 qs36 q120 q1269) rfl hdX1_lists rfl rfl (Nat.le_of_ble_eq_true rfl) ⟨by decide, by decide⟩ dX1_reducedAt_32 rfl ?_
      refine r_iload_n C 2 dX1_reducedAt_35 rfl rfl ?_
      refine r_icmp_gt C dX1_reducedAt_36 (tgt := 45) (by decide) (fun c11 => ?_) (fun c11 => ?_)
      · have h := it_ h c11
        refine r_aload_n C 0 dX1_reducedAt_45 rfl rfl ?_
        obtain ⟨v12, ev12, h⟩ := bs h
        refine r_getR C (c := 0) (r := (RX1, TX1, 19)) rfl 13 (by decide) rfl ev12 q441 dX1_reducedAt_46 ?_
        refine r_iload_n C 3 dX1_reducedAt_49 rfl rfl ?_
        obtain ⟨v13, ev13, h⟩ := bs h
        refine r_lald C ev13 dX1_reducedAt_50 ?_
        refine r_l2i C dX1_reducedAt_51 ?_
        cases h
        exact r_xiret C hK dX1_reducedAt_52
      · have h := ie_ h c11
        refine r_sipush C dX1_reducedAt_39 (by decide) ?_
        refine r_goto C dX1_reducedAt_42 (tgt := 52) (by decide) ?_
        cases h
        exact r_xiret C hK dX1_reducedAt_52
noncomputable def s_X1_reducedAt (a0 : Nat) (x1 : Int) (x2 : Int) (x3 : Int) (μ : Me) : Option (Ex ⊕ (Int × Me)) :=
  xb (s_X1_isDisc x1 μ) (fun e2 => some (.inl e2)) fun q1 =>
  (if w32 x2 < 0 then
  s_X1_reducedAt_b13 a0 x1 x2 x3 0 q1
  else
  s_X1_reducedAt_b13 a0 x1 x2 x3 1 q1)
theorem w_X1_reducedAt {Z : Zt} {fin : Ex ⊕ (Int × Me)} {w : Ex ⊕ (Int × Me)} (C : CX Z yX1_reducedAt cX1_reducedAt (some .int) 8 4) (X : XE Z) {a0 : Nat} {x1 : Int} {x2 : Int} {x3 : Int} {μ : Me} (h : s_X1_reducedAt a0 x1 x2 x3 μ = some w) (hK : w = fin) : WL Z (XQ Z (zoI fin) (zmI fin)) μ 0 [(0, vO a0), (1, vI x1), (2, vI x2), (3, vI x3)] [] := by
  unfold s_X1_reducedAt at h
  refine r_iload_n C 1 dX1_reducedAt_0 rfl rfl ?_
  rcases xbs h with ⟨e2, eq1, h⟩ | ⟨q1, eq1, h⟩
  · refine r_xSx C (As := [vI x1]) (rest := []) (μ1 := e2.2.2) (m_X1_isDisc C.tr eq1) (lw_S q1258 q1259 q120 q1260) hdX1_isDisc rfl rfl (Nat.le_of_ble_eq_true rfl) ⟨by decide, by decide⟩ dX1_reducedAt_1 ?_
    cases h
    exact r_xoutI C X hK
  · refine r_xS C (As := [vI x1]) (rest := []) (st1 := []) (v := none) (μ1 := q1) (m_X1_isDisc C.tr eq1) (lw_S q1258 q1259 q120 q1260) hdX1_isDisc rfl rfl (Nat.le_of_ble_eq_true rfl) ⟨by decide, by decide⟩ dX1_reducedAt_1 rfl ?_
    refine r_iload_n C 2 dX1_reducedAt_4 rfl rfl ?_
    refine r_if_lt C dX1_reducedAt_5 (tgt := 12) (by decide) (fun c3 => ?_) (fun c3 => ?_)
    · have h := it_ h c3
      refine r_iconst C dX1_reducedAt_12 ?_
      exact w_X1_reducedAt_b13 (fin := fin) C X h hK
    · have h := ie_ h c3
      refine r_iconst C dX1_reducedAt_8 ?_
      refine r_goto C dX1_reducedAt_9 (tgt := 13) (by decide) ?_
      exact w_X1_reducedAt_b13 (fin := fin) C X h hK
theorem hdX1_reducedAt : zhd yX1_reducedAt 3 := by decide +kernel
theorem m_X1_reducedAt {l : Launch} {D : va_G} {b0 : Nat} (hl : l.stackTraces = false) {a0 : Nat} {x1 : Int} {x2 : Int} {x3 : Int} {μ : Me} {w : Ex ⊕ (Int × Me)} (h : s_X1_reducedAt a0 x1 x2 x3 μ = some w) : XN l D b0 yX1_reducedAt (ws_ yX1_reducedAt cX1_reducedAt 4 (some .int)) 8 [vO a0, vI x1, vI x2, vI x3] μ (zoI w) (zmI w) :=
  XN.of hl (by decide +kernel) (Nat.le_of_ble_eq_true rfl) (fun Z C X _ _ => w_X1_reducedAt C X h rfl)
noncomputable def s_X1_cubic_b67 (y0 : Int) (y2 : Int) (y4 : Int) (y8 : Int)  (μ : Me) : Option (Int × Me) :=
  (if w64 y8 ≤ w64 0 then
  (if w64 0 ≤ w64 y8 then
  (if w64 (y2 * y2) = w64 ((3 * y0) * y4) then
  some (1, μ)
  else
  some (2, μ))
  else
  some (1, μ))
  else
  some (3, μ))
theorem w_X1_cubic_b67 {Z : Zt} {fin : Int × Me} {w : (Int × Me)} (C : CX Z yX1_cubic cX1_cubic (some .int) 1 10) {y0 : Int} {y2 : Int} {y4 : Int} {y8 : Int}  {μ : Me} (h : s_X1_cubic_b67 y0 y2 y4 y8 μ = some w) (hK : (fun r : Int × Me => r = fin) w) : WL Z (QN Z (some (vI fin.1)) fin.2) μ 67 [(0, vJ y0), (2, vJ y2), (4, vJ y4), (8, vJ y8)] [] := by
  unfold s_X1_cubic_b67 at h
  refine r_lload C 3 dX1_cubic_67 rfl ?_
  refine r_lconst (v := 0) C dX1_cubic_69 (by decide) ?_
  refine r_lcmp_le C dX1_cubic_70 dX1_cubic_71 (tgt := 78) (by decide) (fun c1 => ?_) (fun c1 => ?_)
  · have h := it_ h c1
    refine r_lload C 3 dX1_cubic_78 rfl ?_
    refine r_lconst (v := 0) C dX1_cubic_80 (by decide) ?_
    refine r_lcmp_ge C dX1_cubic_81 dX1_cubic_82 (tgt := 89) (by decide) (fun c2 => ?_) (fun c2 => ?_)
    · have h := it_ h c2
      refine r_lload_n C 1 dX1_cubic_89 rfl rfl ?_
      refine r_lload_n C 1 dX1_cubic_90 rfl rfl ?_
      refine r_lmul C dX1_cubic_91 ?_
      refine r_ldc2 (n := 3) C q1098 dX1_cubic_92 (by decide) ?_
      refine r_lload_n C 0 dX1_cubic_95 rfl rfl ?_
      refine r_lmul C dX1_cubic_96 ?_
      refine r_lload C 2 dX1_cubic_97 rfl ?_
      refine r_lmul C dX1_cubic_99 ?_
      refine r_lcmp_ne C dX1_cubic_100 dX1_cubic_101 (tgt := 108) (by decide) (fun c3 => ?_) (fun c3 => ?_)
      · have h := ie_ h c3
        refine r_iconst C dX1_cubic_108 ?_
        cases h
        exact r_iret C hK dX1_cubic_109
      · have h := it_ h c3
        refine r_iconst C dX1_cubic_104 ?_
        refine r_goto C dX1_cubic_105 (tgt := 109) (by decide) ?_
        cases h
        exact r_iret C hK dX1_cubic_109
    · have h := ie_ h c2
      refine r_iconst C dX1_cubic_85 ?_
      refine r_goto C dX1_cubic_86 (tgt := 109) (by decide) ?_
      cases h
      exact r_iret C hK dX1_cubic_109
  · have h := ie_ h c1
    refine r_iconst C dX1_cubic_74 ?_
    refine r_goto C dX1_cubic_75 (tgt := 109) (by decide) ?_
    cases h
    exact r_iret C hK dX1_cubic_109
noncomputable def s_X1_cubic (y0 : Int) (y2 : Int) (y4 : Int) (y6 : Int) (μ : Me) : Option (Int × Me) :=
  s_X1_cubic_b67 y0 y2 y4 ((((((((18 * y0) * y2) * y4) * y6) - ((((4 * y2) * y2) * y2) * y6)) + (((y2 * y2) * y4) * y4)) - ((((4 * y0) * y4) * y4) * y4)) - ((((27 * y0) * y0) * y6) * y6)) μ
theorem w_X1_cubic {Z : Zt} {fin : Int × Me} {w : Int × Me} (C : CX Z yX1_cubic cX1_cubic (some .int) 1 10) {y0 : Int} {y2 : Int} {y4 : Int} {y6 : Int} {μ : Me} (h : s_X1_cubic y0 y2 y4 y6 μ = some w) (hK : w = fin) : WL Z (QN Z (some (vI fin.1)) fin.2) μ 0 [(0, vJ y0), (2, vJ y2), (4, vJ y4), (6, vJ y6)] [] := by
  unfold s_X1_cubic at h
  refine r_ldc2 (n := 18) C q1295 dX1_cubic_0 (by decide) ?_
  refine r_lload_n C 0 dX1_cubic_3 rfl rfl ?_
  refine r_lmul C dX1_cubic_4 ?_
  refine r_lload_n C 1 dX1_cubic_5 rfl rfl ?_
  refine r_lmul C dX1_cubic_6 ?_
  refine r_lload C 2 dX1_cubic_7 rfl ?_
  refine r_lmul C dX1_cubic_9 ?_
  refine r_lload C 3 dX1_cubic_10 rfl ?_
  refine r_lmul C dX1_cubic_12 ?_
  refine r_ldc2 (n := 4) C q1220 dX1_cubic_13 (by decide) ?_
  refine r_lload_n C 1 dX1_cubic_16 rfl rfl ?_
  refine r_lmul C dX1_cubic_17 ?_
  refine r_lload_n C 1 dX1_cubic_18 rfl rfl ?_
  refine r_lmul C dX1_cubic_19 ?_
  refine r_lload_n C 1 dX1_cubic_20 rfl rfl ?_
  refine r_lmul C dX1_cubic_21 ?_
  refine r_lload C 3 dX1_cubic_22 rfl ?_
  refine r_lmul C dX1_cubic_24 ?_
  refine r_lsub C dX1_cubic_25 ?_
  refine r_lload_n C 1 dX1_cubic_26 rfl rfl ?_
  refine r_lload_n C 1 dX1_cubic_27 rfl rfl ?_
  refine r_lmul C dX1_cubic_28 ?_
  refine r_lload C 2 dX1_cubic_29 rfl ?_
  refine r_lmul C dX1_cubic_31 ?_
  refine r_lload C 2 dX1_cubic_32 rfl ?_
  refine r_lmul C dX1_cubic_34 ?_
  refine r_ladd C dX1_cubic_35 ?_
  refine r_ldc2 (n := 4) C q1220 dX1_cubic_36 (by decide) ?_
  refine r_lload_n C 0 dX1_cubic_39 rfl rfl ?_
  refine r_lmul C dX1_cubic_40 ?_
  refine r_lload C 2 dX1_cubic_41 rfl ?_
  refine r_lmul C dX1_cubic_43 ?_
  refine r_lload C 2 dX1_cubic_44 rfl ?_
  refine r_lmul C dX1_cubic_46 ?_
  refine r_lload C 2 dX1_cubic_47 rfl ?_
  refine r_lmul C dX1_cubic_49 ?_
  refine r_lsub C dX1_cubic_50 ?_
  refine r_ldc2 (n := 27) C q1296 dX1_cubic_51 (by decide) ?_
  refine r_lload_n C 0 dX1_cubic_54 rfl rfl ?_
  refine r_lmul C dX1_cubic_55 ?_
  refine r_lload_n C 0 dX1_cubic_56 rfl rfl ?_
  refine r_lmul C dX1_cubic_57 ?_
  refine r_lload C 3 dX1_cubic_58 rfl ?_
  refine r_lmul C dX1_cubic_60 ?_
  refine r_lload C 3 dX1_cubic_61 rfl ?_
  refine r_lmul C dX1_cubic_63 ?_
  refine r_lsub C dX1_cubic_64 ?_
  refine r_lstore C [(8, vJ ((((((((18 * y0) * y2) * y4) * y6) - ((((4 * y2) * y2) * y2) * y6)) + (((y2 * y2) * y4) * y4)) - ((((4 * y0) * y4) * y4) * y4)) - ((((27 * y0) * y0) * y6) * y6))), (0, vJ y0), (2, vJ y2), (4, vJ y4), (6, vJ y6)] dX1_cubic_65 (by decide) rfl ?_
  refine r_sub [1, 2, 3, 0] rfl ?_
  exact w_X1_cubic_b67 (fin := fin) C h hK
theorem hdX1_cubic : zhd yX1_cubic 4 := by decide +kernel
theorem m_X1_cubic {l : Launch} {D : va_G} {b0 : Nat} (hl : l.stackTraces = false) {y0 : Int} {y2 : Int} {y4 : Int} {y6 : Int} {μ : Me} {w : Int × Me} (h : s_X1_cubic y0 y2 y4 y6 μ = some w) : MN l D b0 yX1_cubic (ws_ yX1_cubic cX1_cubic 10 (some .int)) 1 [vJ y0, vJ y2, vJ y4, vJ y6] μ (some (vI w.1)) w.2 :=
  MN.of hl (by decide +kernel) (Nat.le_of_ble_eq_true rfl) (fun Z C _ _ => w_X1_cubic C h rfl)
noncomputable def s_X1_quartic_b190 (y0 : Int) (y2 : Int) (y4 : Int) (y6 : Int) (y10 : Int) (y14 : Int) (y16 : Int) (y18 : Int)  (μ : Me) : Option (Int × Me) :=
  (if w64 0 ≤ w64 y14 then
  (if w64 y14 ≤ w64 0 then
  (if w64 y18 = w64 0 then
  (if w64 y10 = w64 0 then
  some (1, μ)
  else
  (if w64 0 ≤ w64 y16 then
  (if w64 ((((y2 * y2) * y2) + (((8 * y6) * y0) * y0)) - (((4 * y0) * y2) * y4)) = w64 0 then
  some (0, μ)
  else
  some (1, μ))
  else
  some (2, μ)))
  else
  (if w64 y10 = w64 0 then
  some (2, μ)
  else
  (if w64 0 ≤ w64 y16 then
  some (1, μ)
  else
  (if w64 0 ≤ w64 y18 then
  some (1, μ)
  else
  some (3, μ)))))
  else
  (if w64 0 ≤ w64 y16 then
  some (0, μ)
  else
  (if w64 0 ≤ w64 y18 then
  some (0, μ)
  else
  some (4, μ))))
  else
  some (2, μ))
theorem w_X1_quartic_b190 {Z : Zt} {fin : Int × Me} {w : (Int × Me)} (C : CX Z yX1_quartic cX1_quartic (some .int) 1 22) {y0 : Int} {y2 : Int} {y4 : Int} {y6 : Int} {y10 : Int} {y14 : Int} {y16 : Int} {y18 : Int}  {μ : Me} (h : s_X1_quartic_b190 y0 y2 y4 y6 y10 y14 y16 y18 μ = some w) (hK : (fun r : Int × Me => r = fin) w) : WL Z (QN Z (some (vI fin.1)) fin.2) μ 190 [(0, vJ y0), (2, vJ y2), (4, vJ y4), (6, vJ y6), (10, vJ y10), (14, vJ y14), (16, vJ y16), (18, vJ y18)] [] := by
  unfold s_X1_quartic_b190 at h
  refine r_lload_n C 1 dX1_quartic_190 rfl rfl ?_
  refine r_lload_n C 1 dX1_quartic_191 rfl rfl ?_
  refine r_lmul C dX1_quartic_192 ?_
  refine r_lload_n C 1 dX1_quartic_193 rfl rfl ?_
  refine r_lmul C dX1_quartic_194 ?_
  refine r_ldc2 (n := 8) C q1009 dX1_quartic_195 (by decide) ?_
  refine r_lload C 3 dX1_quartic_198 rfl ?_
  refine r_lmul C dX1_quartic_200 ?_
  refine r_lload_n C 0 dX1_quartic_201 rfl rfl ?_
  refine r_lmul C dX1_quartic_202 ?_
  refine r_lload_n C 0 dX1_quartic_203 rfl rfl ?_
  refine r_lmul C dX1_quartic_204 ?_
  refine r_ladd C dX1_quartic_205 ?_
  refine r_ldc2 (n := 4) C q1220 dX1_quartic_206 (by decide) ?_
  refine r_lload_n C 0 dX1_quartic_209 rfl rfl ?_
  refine r_lmul C dX1_quartic_210 ?_
  refine r_lload_n C 1 dX1_quartic_211 rfl rfl ?_
  refine r_lmul C dX1_quartic_212 ?_
  refine r_lload C 2 dX1_quartic_213 rfl ?_
  refine r_lmul C dX1_quartic_215 ?_
  refine r_lsub C dX1_quartic_216 ?_
  refine r_lstore C [(20, vJ ((((y2 * y2) * y2) + (((8 * y6) * y0) * y0)) - (((4 * y0) * y2) * y4))), (0, vJ y0), (2, vJ y2), (4, vJ y4), (6, vJ y6), (10, vJ y10), (14, vJ y14), (16, vJ y16), (18, vJ y18)] dX1_quartic_217 (by decide) rfl ?_
  refine r_lload C 6 dX1_quartic_219 rfl ?_
  refine r_lconst (v := 0) C dX1_quartic_221 (by decide) ?_
  refine r_lcmp_ge C dX1_quartic_222 dX1_quartic_223 (tgt := 228) (by decide) (fun c1 => ?_) (fun c1 => ?_)
  · have h := it_ h c1
    refine r_lload C 6 dX1_quartic_228 rfl ?_
    refine r_lconst (v := 0) C dX1_quartic_230 (by decide) ?_
    refine r_lcmp_le C dX1_quartic_231 dX1_quartic_232 (tgt := 255) (by decide) (fun c2 => ?_) (fun c2 => ?_)
    · have h := it_ h c2
      refine r_lload C 8 dX1_quartic_255 rfl ?_
      refine r_lconst (v := 0) C dX1_quartic_257 (by decide) ?_
      refine r_lcmp_ne C dX1_quartic_258 dX1_quartic_259 (tgt := 297) (by decide) (fun c3 => ?_) (fun c3 => ?_)
      · have h := ie_ h c3
        refine r_lload C 5 dX1_quartic_297 rfl ?_
        refine r_lconst (v := 0) C dX1_quartic_299 (by decide) ?_
        refine r_lcmp_ne C dX1_quartic_300 dX1_quartic_301 (tgt := 306) (by decide) (fun c4 => ?_) (fun c4 => ?_)
        · have h := ie_ h c4
          refine r_lload C 7 dX1_quartic_306 rfl ?_
          refine r_lconst (v := 0) C dX1_quartic_308 (by decide) ?_
          refine r_lcmp_ge C dX1_quartic_309 dX1_quartic_310 (tgt := 324) (by decide) (fun c5 => ?_) (fun c5 => ?_)
          · have h := it_ h c5
            refine r_iconst C dX1_quartic_324 ?_
            cases h
            exact r_iret C hK dX1_quartic_325
          · have h := ie_ h c5
            refine r_lload C 8 dX1_quartic_313 rfl ?_
            refine r_lconst (v := 0) C dX1_quartic_315 (by decide) ?_
            refine r_lcmp_ge C dX1_quartic_316 dX1_quartic_317 (tgt := 324) (by decide) (fun c6 => ?_) (fun c6 => ?_)
            · have h := it_ h c6
              refine r_iconst C dX1_quartic_324 ?_
              cases h
              exact r_iret C hK dX1_quartic_325
            · have h := ie_ h c6
              refine r_iconst C dX1_quartic_320 ?_
              refine r_goto C dX1_quartic_321 (tgt := 325) (by decide) ?_
              cases h
              exact r_iret C hK dX1_quartic_325
        · have h := it_ h c4
          refine r_iconst C dX1_quartic_304 ?_
          cases h
          exact r_iret C hK dX1_quartic_305
      · have h := it_ h c3
        refine r_lload C 5 dX1_quartic_262 rfl ?_
        refine r_lconst (v := 0) C dX1_quartic_264 (by decide) ?_
        refine r_lcmp_ne C dX1_quartic_265 dX1_quartic_266 (tgt := 273) (by decide) (fun c7 => ?_) (fun c7 => ?_)
        · have h := ie_ h c7
          refine r_lload C 7 dX1_quartic_273 rfl ?_
          refine r_lconst (v := 0) C dX1_quartic_275 (by decide) ?_
          refine r_lcmp_ge C dX1_quartic_276 dX1_quartic_277 (tgt := 284) (by decide) (fun c8 => ?_) (fun c8 => ?_)
          · have h := it_ h c8
            refine r_lload C 0 dX1_quartic_284 rfl ?_
            refine r_lconst (v := 0) C dX1_quartic_286 (by decide) ?_
            refine r_lcmp_ne C dX1_quartic_287 dX1_quartic_288 (tgt := 295) (by decide) (fun c9 => ?_) (fun c9 => ?_)
            · have h := ie_ h c9
              refine r_iconst C dX1_quartic_295 ?_
              cases h
              exact r_iret C hK dX1_quartic_296
            · have h := it_ h c9
              refine r_iconst C dX1_quartic_291 ?_
              refine r_goto C dX1_quartic_292 (tgt := 296) (by decide) ?_
              cases h
              exact r_iret C hK dX1_quartic_296
          · have h := ie_ h c8
            refine r_iconst C dX1_quartic_280 ?_
            refine r_goto C dX1_quartic_281 (tgt := 296) (by decide) ?_
            cases h
            exact r_iret C hK dX1_quartic_296
        · have h := it_ h c7
          refine r_iconst C dX1_quartic_269 ?_
          refine r_goto C dX1_quartic_270 (tgt := 296) (by decide) ?_
          cases h
          exact r_iret C hK dX1_quartic_296
    · have h := ie_ h c2
      refine r_lload C 7 dX1_quartic_235 rfl ?_
      refine r_lconst (v := 0) C dX1_quartic_237 (by decide) ?_
      refine r_lcmp_ge C dX1_quartic_238 dX1_quartic_239 (tgt := 253) (by decide) (fun c10 => ?_) (fun c10 => ?_)
      · have h := it_ h c10
        refine r_iconst C dX1_quartic_253 ?_
        cases h
        exact r_iret C hK dX1_quartic_254
      · have h := ie_ h c10
        refine r_lload C 8 dX1_quartic_242 rfl ?_
        refine r_lconst (v := 0) C dX1_quartic_244 (by decide) ?_
        refine r_lcmp_ge C dX1_quartic_245 dX1_quartic_246 (tgt := 253) (by decide) (fun c11 => ?_) (fun c11 => ?_)
        · have h := it_ h c11
          refine r_iconst C dX1_quartic_253 ?_
          cases h
          exact r_iret C hK dX1_quartic_254
        · have h := ie_ h c11
          refine r_iconst C dX1_quartic_249 ?_
          refine r_goto C dX1_quartic_250 (tgt := 254) (by decide) ?_
          cases h
          exact r_iret C hK dX1_quartic_254
  · have h := ie_ h c1
    refine r_iconst C dX1_quartic_226 ?_
    cases h
    exact r_iret C hK dX1_quartic_227
noncomputable def s_X1_quartic_b86 (y0 : Int) (y2 : Int) (y4 : Int) (y6 : Int) (y8 : Int) (y10 : Int) (y12 : Int)  (μ : Me) : Option (Int × Me) :=
  s_X1_quartic_b190 y0 y2 y4 y6 y10 ((((4 * y10) * y10) * y10) - (y12 * y12)) (((8 * y0) * y4) - ((3 * y2) * y2)) ((((((((64 * y0) * y0) * y0) * y8) - ((((16 * y0) * y0) * y4) * y4)) + ((((16 * y0) * y2) * y2) * y4)) - ((((16 * y0) * y0) * y2) * y6)) - ((((3 * y2) * y2) * y2) * y2)) μ
theorem w_X1_quartic_b86 {Z : Zt} {fin : Int × Me} {w : (Int × Me)} (C : CX Z yX1_quartic cX1_quartic (some .int) 1 22) {y0 : Int} {y2 : Int} {y4 : Int} {y6 : Int} {y8 : Int} {y10 : Int} {y12 : Int}  {μ : Me} (h : s_X1_quartic_b86 y0 y2 y4 y6 y8 y10 y12 μ = some w) (hK : (fun r : Int × Me => r = fin) w) : WL Z (QN Z (some (vI fin.1)) fin.2) μ 86 [(0, vJ y0), (2, vJ y2), (4, vJ y4), (6, vJ y6), (8, vJ y8), (10, vJ y10), (12, vJ y12)] [] := by
  unfold s_X1_quartic_b86 at h
  refine r_ldc2 (n := 4) C q1220 dX1_quartic_86 (by decide) ?_
  refine r_lload C 5 dX1_quartic_89 rfl ?_
  refine r_lmul C dX1_quartic_91 ?_
  refine r_lload C 5 dX1_quartic_92 rfl ?_
  refine r_lmul C dX1_quartic_94 ?_
  refine r_lload C 5 dX1_quartic_95 rfl ?_
  refine r_lmul C dX1_quartic_97 ?_
  refine r_lload C 6 dX1_quartic_98 rfl ?_
  refine r_lload C 6 dX1_quartic_100 rfl ?_
  refine r_lmul C dX1_quartic_102 ?_
  refine r_lsub C dX1_quartic_103 ?_
  refine r_lstore C [(14, vJ ((((4 * y10) * y10) * y10) - (y12 * y12))), (0, vJ y0), (2, vJ y2), (4, vJ y4), (6, vJ y6), (8, vJ y8), (10, vJ y10), (12, vJ y12)] dX1_quartic_104 (by decide) rfl ?_
  refine r_ldc2 (n := 8) C q1009 dX1_quartic_106 (by decide) ?_
  refine r_lload_n C 1 dX1_quartic_109 rfl rfl ?_
  refine r_lmul C dX1_quartic_110 ?_
  refine r_lload C 3 dX1_quartic_111 rfl ?_
  refine r_lmul C dX1_quartic_113 ?_
  refine r_ldc2 (n := 3) C q1098 dX1_quartic_114 (by decide) ?_
  refine r_lload_n C 2 dX1_quartic_117 rfl rfl ?_
  refine r_lmul C dX1_quartic_118 ?_
  refine r_lload_n C 2 dX1_quartic_119 rfl rfl ?_
  refine r_lmul C dX1_quartic_120 ?_
  refine r_lsub C dX1_quartic_121 ?_
  refine r_lstore C [(16, vJ (((8 * y0) * y4) - ((3 * y2) * y2))), (14, vJ ((((4 * y10) * y10) * y10) - (y12 * y12))), (0, vJ y0), (2, vJ y2), (4, vJ y4), (6, vJ y6), (8, vJ y8), (10, vJ y10), (12, vJ y12)] dX1_quartic_122 (by decide) rfl ?_
  refine r_ldc2 (n := 64) C q1301 dX1_quartic_124 (by decide) ?_
  refine r_lload_n C 2 dX1_quartic_127 rfl rfl ?_
  refine r_lmul C dX1_quartic_128 ?_
  refine r_lload_n C 2 dX1_quartic_129 rfl rfl ?_
  refine r_lmul C dX1_quartic_130 ?_
  refine r_lload_n C 2 dX1_quartic_131 rfl rfl ?_
  refine r_lmul C dX1_quartic_132 ?_
  refine r_lload C 6 dX1_quartic_133 rfl ?_
  refine r_lmul C dX1_quartic_135 ?_
  refine r_ldc2 (n := 16) C q1302 dX1_quartic_136 (by decide) ?_
  refine r_lload_n C 2 dX1_quartic_139 rfl rfl ?_
  refine r_lmul C dX1_quartic_140 ?_
  refine r_lload_n C 2 dX1_quartic_141 rfl rfl ?_
  refine r_lmul C dX1_quartic_142 ?_
  refine r_lload C 4 dX1_quartic_143 rfl ?_
  refine r_lmul C dX1_quartic_145 ?_
  refine r_lload C 4 dX1_quartic_146 rfl ?_
  refine r_lmul C dX1_quartic_148 ?_
  refine r_lsub C dX1_quartic_149 ?_
  refine r_ldc2 (n := 16) C q1302 dX1_quartic_150 (by decide) ?_
  refine r_lload_n C 2 dX1_quartic_153 rfl rfl ?_
  refine r_lmul C dX1_quartic_154 ?_
  refine r_lload_n C 3 dX1_quartic_155 rfl rfl ?_
  refine r_lmul C dX1_quartic_156 ?_
  refine r_lload_n C 3 dX1_quartic_157 rfl rfl ?_
  refine r_lmul C dX1_quartic_158 ?_
  refine r_lload C 4 dX1_quartic_159 rfl ?_
  refine r_lmul C dX1_quartic_161 ?_
  refine r_ladd C dX1_quartic_162 ?_
  refine r_ldc2 (n := 16) C q1302 dX1_quartic_163 (by decide) ?_
  refine r_lload_n C 2 dX1_quartic_166 rfl rfl ?_
  refine r_lmul C dX1_quartic_167 ?_
  refine r_lload_n C 2 dX1_quartic_168 rfl rfl ?_
  refine r_lmul C dX1_quartic_169 ?_
  refine r_lload_n C 3 dX1_quartic_170 rfl rfl ?_
  refine r_lmul C dX1_quartic_171 ?_
  refine r_lload C 5 dX1_quartic_172 rfl ?_
  refine r_lmul C dX1_quartic_174 ?_
  refine r_lsub C dX1_quartic_175 ?_
  refine r_ldc2 (n := 3) C q1098 dX1_quartic_176 (by decide) ?_
  refine r_lload_n C 3 dX1_quartic_179 rfl rfl ?_
  refine r_lmul C dX1_quartic_180 ?_
  refine r_lload_n C 3 dX1_quartic_181 rfl rfl ?_
  refine r_lmul C dX1_quartic_182 ?_
  refine r_lload_n C 3 dX1_quartic_183 rfl rfl ?_
  refine r_lmul C dX1_quartic_184 ?_
  refine r_lload_n C 3 dX1_quartic_185 rfl rfl ?_
  refine r_lmul C dX1_quartic_186 ?_
  refine r_lsub C dX1_quartic_187 ?_
  refine r_lstore C [(18, vJ ((((((((64 * y0) * y0) * y0) * y8) - ((((16 * y0) * y0) * y4) * y4)) + ((((16 * y0) * y2) * y2) * y4)) - ((((16 * y0) * y0) * y2) * y6)) - ((((3 * y2) * y2) * y2) * y2))), (16, vJ (((8 * y0) * y4) - ((3 * y2) * y2))), (14, vJ ((((4 * y10) * y10) * y10) - (y12 * y12))), (0, vJ y0), (2, vJ y2), (4, vJ y4), (6, vJ y6), (8, vJ y8), (10, vJ y10), (12, vJ y12)] dX1_quartic_188 (by decide) rfl ?_
  refine r_sub [3, 4, 5, 6, 8, 2, 1, 0] rfl ?_
  exact w_X1_quartic_b190 (fin := fin) C h hK
noncomputable def s_X1_quartic (y0 : Int) (y2 : Int) (y4 : Int) (y6 : Int) (y8 : Int) (μ : Me) : Option (Int × Me) :=
  s_X1_quartic_b86 y0 y2 y4 y6 y8 (((y4 * y4) - ((3 * y2) * y6)) + ((12 * y0) * y8)) (((((((2 * y4) * y4) * y4) - (((9 * y2) * y4) * y6)) + (((27 * y2) * y2) * y8)) + (((27 * y0) * y6) * y6)) - (((72 * y0) * y4) * y8)) μ
theorem w_X1_quartic {Z : Zt} {fin : Int × Me} {w : Int × Me} (C : CX Z yX1_quartic cX1_quartic (some .int) 1 22) {y0 : Int} {y2 : Int} {y4 : Int} {y6 : Int} {y8 : Int} {μ : Me} (h : s_X1_quartic y0 y2 y4 y6 y8 μ = some w) (hK : w = fin) : WL Z (QN Z (some (vI fin.1)) fin.2) μ 0 [(0, vJ y0), (2, vJ y2), (4, vJ y4), (6, vJ y6), (8, vJ y8)] [] := by
  unfold s_X1_quartic at h
  refine r_lload C 2 dX1_quartic_0 rfl ?_
  refine r_lload C 2 dX1_quartic_2 rfl ?_
  refine r_lmul C dX1_quartic_4 ?_
  refine r_ldc2 (n := 3) C q1098 dX1_quartic_5 (by decide) ?_
  refine r_lload_n C 1 dX1_quartic_8 rfl rfl ?_
  refine r_lmul C dX1_quartic_9 ?_
  refine r_lload C 3 dX1_quartic_10 rfl ?_
  refine r_lmul C dX1_quartic_12 ?_
  refine r_lsub C dX1_quartic_13 ?_
  refine r_ldc2 (n := 12) C q1017 dX1_quartic_14 (by decide) ?_
  refine r_lload_n C 0 dX1_quartic_17 rfl rfl ?_
  refine r_lmul C dX1_quartic_18 ?_
  refine r_lload C 4 dX1_quartic_19 rfl ?_
  refine r_lmul C dX1_quartic_21 ?_
  refine r_ladd C dX1_quartic_22 ?_
  refine r_lstore C [(10, vJ (((y4 * y4) - ((3 * y2) * y6)) + ((12 * y0) * y8))), (0, vJ y0), (2, vJ y2), (4, vJ y4), (6, vJ y6), (8, vJ y8)] dX1_quartic_23 (by decide) rfl ?_
  refine r_ldc2 (n := 2) C q1246 dX1_quartic_25 (by decide) ?_
  refine r_lload C 3 dX1_quartic_28 rfl ?_
  refine r_lmul C dX1_quartic_30 ?_
  refine r_lload C 3 dX1_quartic_31 rfl ?_
  refine r_lmul C dX1_quartic_33 ?_
  refine r_lload C 3 dX1_quartic_34 rfl ?_
  refine r_lmul C dX1_quartic_36 ?_
  refine r_ldc2 (n := 9) C q608 dX1_quartic_37 (by decide) ?_
  refine r_lload_n C 2 dX1_quartic_40 rfl rfl ?_
  refine r_lmul C dX1_quartic_41 ?_
  refine r_lload C 3 dX1_quartic_42 rfl ?_
  refine r_lmul C dX1_quartic_44 ?_
  refine r_lload C 4 dX1_quartic_45 rfl ?_
  refine r_lmul C dX1_quartic_47 ?_
  refine r_lsub C dX1_quartic_48 ?_
  refine r_ldc2 (n := 27) C q1296 dX1_quartic_49 (by decide) ?_
  refine r_lload_n C 2 dX1_quartic_52 rfl rfl ?_
  refine r_lmul C dX1_quartic_53 ?_
  refine r_lload_n C 2 dX1_quartic_54 rfl rfl ?_
  refine r_lmul C dX1_quartic_55 ?_
  refine r_lload C 5 dX1_quartic_56 rfl ?_
  refine r_lmul C dX1_quartic_58 ?_
  refine r_ladd C dX1_quartic_59 ?_
  refine r_ldc2 (n := 27) C q1296 dX1_quartic_60 (by decide) ?_
  refine r_lload_n C 1 dX1_quartic_63 rfl rfl ?_
  refine r_lmul C dX1_quartic_64 ?_
  refine r_lload C 4 dX1_quartic_65 rfl ?_
  refine r_lmul C dX1_quartic_67 ?_
  refine r_lload C 4 dX1_quartic_68 rfl ?_
  refine r_lmul C dX1_quartic_70 ?_
  refine r_ladd C dX1_quartic_71 ?_
  refine r_ldc2 (n := 72) C q1300 dX1_quartic_72 (by decide) ?_
  refine r_lload_n C 1 dX1_quartic_75 rfl rfl ?_
  refine r_lmul C dX1_quartic_76 ?_
  refine r_lload C 3 dX1_quartic_77 rfl ?_
  refine r_lmul C dX1_quartic_79 ?_
  refine r_lload C 5 dX1_quartic_80 rfl ?_
  refine r_lmul C dX1_quartic_82 ?_
  refine r_lsub C dX1_quartic_83 ?_
  refine r_lstore C [(12, vJ (((((((2 * y4) * y4) * y4) - (((9 * y2) * y4) * y6)) + (((27 * y2) * y2) * y8)) + (((27 * y0) * y6) * y6)) - (((72 * y0) * y4) * y8))), (10, vJ (((y4 * y4) - ((3 * y2) * y6)) + ((12 * y0) * y8))), (0, vJ y0), (2, vJ y2), (4, vJ y4), (6, vJ y6), (8, vJ y8)] dX1_quartic_84 (by decide) rfl ?_
  refine r_sub [2, 3, 4, 5, 6, 1, 0] rfl ?_
  exact w_X1_quartic_b86 (fin := fin) C h hK
theorem hdX1_quartic : zhd yX1_quartic 5 := by decide +kernel
theorem m_X1_quartic {l : Launch} {D : va_G} {b0 : Nat} (hl : l.stackTraces = false) {y0 : Int} {y2 : Int} {y4 : Int} {y6 : Int} {y8 : Int} {μ : Me} {w : Int × Me} (h : s_X1_quartic y0 y2 y4 y6 y8 μ = some w) : MN l D b0 yX1_quartic (ws_ yX1_quartic cX1_quartic 22 (some .int)) 1 [vJ y0, vJ y2, vJ y4, vJ y6, vJ y8] μ (some (vI w.1)) w.2 :=
  MN.of hl (by decide +kernel) (Nat.le_of_ble_eq_true rfl) (fun Z C _ _ => w_X1_quartic C h rfl)
noncomputable def s_X1_real_b97 (x1 : Int) (x2 : Int) (x3 : Int) (x4 : Int) (x5 : Int) (t0 : Int) (μ : Me) : Option (Ex ⊕ (Int × Me)) :=
  xb (s_X1_must t0 μ) (fun e5 => some (.inl e5)) fun q4 =>
  (if w32 x1 = 0 then
  (s_X1_cubic (w32 x2) (w32 x3) (w32 x4) (w32 x5) q4).bind fun q8 =>
  some (.inr (q8.1, q8.2))
  else
  (s_X1_quartic (w32 x1) (w32 x2) (w32 x3) (w32 x4) (w32 x5) q4).bind fun q7 =>
  some (.inr (q7.1, q7.2)))
theorem w_X1_real_b97 {Z : Zt} {fin : Ex ⊕ (Int × Me)} {w : (Ex ⊕ (Int × Me))} (C : CX Z yX1_real cX1_real (some .int) 7 7) (X : XE Z) {x1 : Int} {x2 : Int} {x3 : Int} {x4 : Int} {x5 : Int} {t0 : Int} {μ : Me} (h : s_X1_real_b97 x1 x2 x3 x4 x5 t0 μ = some w) (hK : (fun r : Ex ⊕ (Int × Me) => r = fin) w) : WL Z (XQ Z (zoI fin) (zmI fin)) μ 97 [(1, vI x1), (2, vI x2), (3, vI x3), (4, vI x4), (5, vI x5)] [vI t0] := by
  unfold s_X1_real_b97 at h
  rcases xbs h with ⟨e5, eq4, h⟩ | ⟨q4, eq4, h⟩
  · refine r_xSx C (As := [vI t0]) (rest := []) (μ1 := e5.2.2) (m_X1_must C.tr eq4) (lw_S q557 q558 q120 q559) hdX1_must rfl rfl (Nat.le_of_ble_eq_true rfl) ⟨by decide, by decide⟩ dX1_real_97 ?_
    cases h
    exact r_xoutI C X hK
  · refine r_xS C (As := [vI t0]) (rest := []) (st1 := []) (v := none) (μ1 := q4) (m_X1_must C.tr eq4) (lw_S q557 q558 q120 q559) hdX1_must rfl rfl (Nat.le_of_ble_eq_true rfl) ⟨by decide, by decide⟩ dX1_real_97 rfl ?_
    refine r_iload_n C 0 dX1_real_100 rfl rfl ?_
    refine r_if_ne C dX1_real_101 (tgt := 120) (by decide) (fun c6 => ?_) (fun c6 => ?_)
    · have h := ie_ h c6
      refine r_iload_n C 0 dX1_real_120 rfl rfl ?_
      refine r_i2l C dX1_real_121 ?_
      refine r_iload_n C 1 dX1_real_122 rfl rfl ?_
      refine r_i2l C dX1_real_123 ?_
      refine r_iload_n C 2 dX1_real_124 rfl rfl ?_
      refine r_i2l C dX1_real_125 ?_
      refine r_iload C 3 dX1_real_126 rfl ?_
      refine r_i2l C dX1_real_128 ?_
      refine r_iload C 4 dX1_real_129 rfl ?_
      refine r_i2l C dX1_real_131 ?_
      obtain ⟨q7, eq7, h⟩ := bs h
      refine r_callS C (As := [vJ (w32 x1), vJ (w32 x2), vJ (w32 x3), vJ (w32 x4), vJ (w32 x5)]) (rest := []) (st1 := [vI q7.1]) (v := some (vI q7.1)) (m_X1_quartic C.tr eq7) (lw_S q1297 q1298 q120 q1299) hdX1_quartic rfl rfl (Nat.le_of_ble_eq_true rfl) ⟨by decide, by decide⟩ dX1_real_132 rfl ?_
      cases h
      exact r_xiret C hK dX1_real_135
    · have h := it_ h c6
      refine r_iload_n C 1 dX1_real_104 rfl rfl ?_
      refine r_i2l C dX1_real_105 ?_
      refine r_iload_n C 2 dX1_real_106 rfl rfl ?_
      refine r_i2l C dX1_real_107 ?_
      refine r_iload C 3 dX1_real_108 rfl ?_
      refine r_i2l C dX1_real_110 ?_
      refine r_iload C 4 dX1_real_111 rfl ?_
      refine r_i2l C dX1_real_113 ?_
      obtain ⟨q8, eq8, h⟩ := bs h
      refine r_callS C (As := [vJ (w32 x2), vJ (w32 x3), vJ (w32 x4), vJ (w32 x5)]) (rest := []) (st1 := [vI q8.1]) (v := some (vI q8.1)) (m_X1_cubic C.tr eq8) (lw_S q1292 q1293 q120 q1294) hdX1_cubic rfl rfl (Nat.le_of_ble_eq_true rfl) ⟨by decide, by decide⟩ dX1_real_114 rfl ?_
      refine r_goto C dX1_real_117 (tgt := 135) (by decide) ?_
      cases h
      exact r_xiret C hK dX1_real_135
noncomputable def s_X1_real_b96 (x1 : Int) (x2 : Int) (x3 : Int) (x4 : Int) (x5 : Int)  (μ : Me) : Option (Ex ⊕ (Int × Me)) :=
  s_X1_real_b97 x1 x2 x3 x4 x5 0 μ
theorem w_X1_real_b96 {Z : Zt} {fin : Ex ⊕ (Int × Me)} {w : (Ex ⊕ (Int × Me))} (C : CX Z yX1_real cX1_real (some .int) 7 7) (X : XE Z) {x1 : Int} {x2 : Int} {x3 : Int} {x4 : Int} {x5 : Int}  {μ : Me} (h : s_X1_real_b96 x1 x2 x3 x4 x5 μ = some w) (hK : (fun r : Ex ⊕ (Int × Me) => r = fin) w) : WL Z (XQ Z (zoI fin) (zmI fin)) μ 96 [(1, vI x1), (2, vI x2), (3, vI x3), (4, vI x4), (5, vI x5)] [] := by
  unfold s_X1_real_b96 at h
  refine r_iconst C dX1_real_96 ?_
  exact w_X1_real_b97 (fin := fin) C X h hK
noncomputable def s_X1_real_b92 (x1 : Int) (x2 : Int) (x3 : Int) (x4 : Int) (x5 : Int)  (μ : Me) : Option (Ex ⊕ (Int × Me)) :=
  s_X1_real_b97 x1 x2 x3 x4 x5 1 μ
theorem w_X1_real_b92 {Z : Zt} {fin : Ex ⊕ (Int × Me)} {w : (Ex ⊕ (Int × Me))} (C : CX Z yX1_real cX1_real (some .int) 7 7) (X : XE Z) {x1 : Int} {x2 : Int} {x3 : Int} {x4 : Int} {x5 : Int}  {μ : Me} (h : s_X1_real_b92 x1 x2 x3 x4 x5 μ = some w) (hK : (fun r : Ex ⊕ (Int × Me) => r = fin) w) : WL Z (XQ Z (zoI fin) (zmI fin)) μ 92 [(1, vI x1), (2, vI x2), (3, vI x3), (4, vI x4), (5, vI x5)] [] := by
  unfold s_X1_real_b92 at h
  refine r_iconst C dX1_real_92 ?_
  refine r_goto C dX1_real_93 (tgt := 97) (by decide) ?_
  exact w_X1_real_b97 (fin := fin) C X h hK
noncomputable def s_X1_real_b77 (x1 : Int) (x2 : Int) (x3 : Int) (x4 : Int) (x5 : Int) (t0 : Int) (μ : Me) : Option (Ex ⊕ (Int × Me)) :=
  (if w32 t0 = 0 then
  s_X1_real_b96 x1 x2 x3 x4 x5 μ
  else
  (if w32 x1 = 0 then
  (if w32 x2 = 0 then
  s_X1_real_b96 x1 x2 x3 x4 x5 μ
  else
  s_X1_real_b92 x1 x2 x3 x4 x5 μ)
  else
  s_X1_real_b92 x1 x2 x3 x4 x5 μ))
theorem w_X1_real_b77 {Z : Zt} {fin : Ex ⊕ (Int × Me)} {w : (Ex ⊕ (Int × Me))} (C : CX Z yX1_real cX1_real (some .int) 7 7) (X : XE Z) {x1 : Int} {x2 : Int} {x3 : Int} {x4 : Int} {x5 : Int} {t0 : Int} {μ : Me} (h : s_X1_real_b77 x1 x2 x3 x4 x5 t0 μ = some w) (hK : (fun r : Ex ⊕ (Int × Me) => r = fin) w) : WL Z (XQ Z (zoI fin) (zmI fin)) μ 77 [(1, vI x1), (2, vI x2), (3, vI x3), (4, vI x4), (5, vI x5)] [vI t0] := by
  unfold s_X1_real_b77 at h
  refine r_istore C [(6, vI t0), (1, vI x1), (2, vI x2), (3, vI x3), (4, vI x4), (5, vI x5)] dX1_real_77 (by decide) rfl ?_
  refine r_iload C 0 dX1_real_79 rfl ?_
  refine r_if_eq C dX1_real_81 (tgt := 96) (by decide) (fun c3 => ?_) (fun c3 => ?_)
  · have h := it_ h c3
    refine r_sub [1, 2, 3, 4, 5] rfl ?_
    exact w_X1_real_b96 (fin := fin) C X h hK
  · have h := ie_ h c3
    refine r_iload_n C 1 dX1_real_84 rfl rfl ?_
    refine r_if_ne C dX1_real_85 (tgt := 92) (by decide) (fun c9 => ?_) (fun c9 => ?_)
    · have h := ie_ h c9
      refine r_sub [1, 2, 3, 4, 5] rfl ?_
      exact w_X1_real_b92 (fin := fin) C X h hK
    · have h := it_ h c9
      refine r_iload_n C 2 dX1_real_88 rfl rfl ?_
      refine r_if_eq C dX1_real_89 (tgt := 96) (by decide) (fun c10 => ?_) (fun c10 => ?_)
      · have h := it_ h c10
        refine r_sub [1, 2, 3, 4, 5] rfl ?_
        exact w_X1_real_b96 (fin := fin) C X h hK
      · have h := ie_ h c10
        refine r_sub [1, 2, 3, 4, 5] rfl ?_
        exact w_X1_real_b92 (fin := fin) C X h hK
noncomputable def s_X1_real_b76 (x1 : Int) (x2 : Int) (x3 : Int) (x4 : Int) (x5 : Int)  (μ : Me) : Option (Ex ⊕ (Int × Me)) :=
  s_X1_real_b77 x1 x2 x3 x4 x5 0 μ
theorem w_X1_real_b76 {Z : Zt} {fin : Ex ⊕ (Int × Me)} {w : (Ex ⊕ (Int × Me))} (C : CX Z yX1_real cX1_real (some .int) 7 7) (X : XE Z) {x1 : Int} {x2 : Int} {x3 : Int} {x4 : Int} {x5 : Int}  {μ : Me} (h : s_X1_real_b76 x1 x2 x3 x4 x5 μ = some w) (hK : (fun r : Ex ⊕ (Int × Me) => r = fin) w) : WL Z (XQ Z (zoI fin) (zmI fin)) μ 76 [(1, vI x1), (2, vI x2), (3, vI x3), (4, vI x4), (5, vI x5)] [] := by
  unfold s_X1_real_b76 at h
  refine r_iconst C dX1_real_76 ?_
  exact w_X1_real_b77 (fin := fin) C X h hK
noncomputable def s_X1_real (a0 : Nat) (x1 : Int) (x2 : Int) (x3 : Int) (x4 : Int) (x5 : Int) (μ : Me) : Option (Ex ⊕ (Int × Me)) :=
  (s_X1_isIn (w32 x1) (-30) 30 μ).bind fun q1 =>
  (if w32 q1.1 = 0 then
  s_X1_real_b76 x1 x2 x3 x4 x5 q1.2
  else
  (s_X1_isIn (w32 x2) (-30) 30 q1.2).bind fun q11 =>
  (if w32 q11.1 = 0 then
  s_X1_real_b76 x1 x2 x3 x4 x5 q11.2
  else
  (s_X1_isIn (w32 x3) (-30) 30 q11.2).bind fun q13 =>
  (if w32 q13.1 = 0 then
  s_X1_real_b76 x1 x2 x3 x4 x5 q13.2
  else
  (s_X1_isIn (w32 x4) (-30) 30 q13.2).bind fun q15 =>
  (if w32 q15.1 = 0 then
  s_X1_real_b76 x1 x2 x3 x4 x5 q15.2
  else
  (s_X1_isIn (w32 x5) (-30) 30 q15.2).bind fun q17 =>
  (if w32 q17.1 = 0 then
  s_X1_real_b76 x1 x2 x3 x4 x5 q17.2
  else
  s_X1_real_b77 x1 x2 x3 x4 x5 1 q17.2)))))
theorem w_X1_real {Z : Zt} {fin : Ex ⊕ (Int × Me)} {w : Ex ⊕ (Int × Me)} (C : CX Z yX1_real cX1_real (some .int) 7 7) (X : XE Z) {a0 : Nat} {x1 : Int} {x2 : Int} {x3 : Int} {x4 : Int} {x5 : Int} {μ : Me} (h : s_X1_real a0 x1 x2 x3 x4 x5 μ = some w) (hK : w = fin) : WL Z (XQ Z (zoI fin) (zmI fin)) μ 0 [(0, vO a0), (1, vI x1), (2, vI x2), (3, vI x3), (4, vI x4), (5, vI x5)] [] := by
  unfold s_X1_real at h
  refine r_iload_n C 1 dX1_real_0 rfl rfl ?_
  refine r_i2l C dX1_real_1 ?_
  refine r_ldc2 (n := (-30)) C q1290 dX1_real_2 (by decide) ?_
  refine r_ldc2 (n := 30) C q1291 dX1_real_5 (by decide) ?_
  obtain ⟨q1, eq1, h⟩ := bs h
  refine r_callS C (As := [vJ (w32 x1), vJ (-30), vJ 30]) (rest := []) (st1 := [vI q1.1]) (v := some (vI q1.1)) (m_X1_isIn C.tr eq1) (lw_S q499 q500 q120 q501) hdX1_isIn rfl rfl (Nat.le_of_ble_eq_true rfl) ⟨by decide, by decide⟩ dX1_real_8 rfl ?_
  refine r_if_eq C dX1_real_11 (tgt := 76) (by decide) (fun c2 => ?_) (fun c2 => ?_)
  · have h := it_ h c2
    refine r_sub [1, 2, 3, 4, 5] rfl ?_
    exact w_X1_real_b76 (fin := fin) C X h hK
  · have h := ie_ h c2
    refine r_iload_n C 2 dX1_real_14 rfl rfl ?_
    refine r_i2l C dX1_real_15 ?_
    refine r_ldc2 (n := (-30)) C q1290 dX1_real_16 (by decide) ?_
    refine r_ldc2 (n := 30) C q1291 dX1_real_19 (by decide) ?_
    obtain ⟨q11, eq11, h⟩ := bs h
    refine r_callS C (As := [vJ (w32 x2), vJ (-30), vJ 30]) (rest := []) (st1 := [vI q11.1]) (v := some (vI q11.1)) (m_X1_isIn C.tr eq11) (lw_S q499 q500 q120 q501) hdX1_isIn rfl rfl (Nat.le_of_ble_eq_true rfl) ⟨by decide, by decide⟩ dX1_real_22 rfl ?_
    refine r_if_eq C dX1_real_25 (tgt := 76) (by decide) (fun c12 => ?_) (fun c12 => ?_)
    · have h := it_ h c12
      refine r_sub [1, 2, 3, 4, 5] rfl ?_
      exact w_X1_real_b76 (fin := fin) C X h hK
    · have h := ie_ h c12
      refine r_iload_n C 3 dX1_real_28 rfl rfl ?_
      refine r_i2l C dX1_real_29 ?_
      refine r_ldc2 (n := (-30)) C q1290 dX1_real_30 (by decide) ?_
      refine r_ldc2 (n := 30) C q1291 dX1_real_33 (by decide) ?_
      obtain ⟨q13, eq13, h⟩ := bs h
      refine r_callS C (As := [vJ (w32 x3), vJ (-30), vJ 30]) (rest := []) (st1 := [vI q13.1]) (v := some (vI q13.1)) (m_X1_isIn C.tr eq13) (lw_S q499 q500 q120 q501) hdX1_isIn rfl rfl (Nat.le_of_ble_eq_true rfl) ⟨by decide, by decide⟩ dX1_real_36 rfl ?_
      refine r_if_eq C dX1_real_39 (tgt := 76) (by decide) (fun c14 => ?_) (fun c14 => ?_)
      · have h := it_ h c14
        refine r_sub [1, 2, 3, 4, 5] rfl ?_
        exact w_X1_real_b76 (fin := fin) C X h hK
      · have h := ie_ h c14
        refine r_iload C 4 dX1_real_42 rfl ?_
        refine r_i2l C dX1_real_44 ?_
        refine r_ldc2 (n := (-30)) C q1290 dX1_real_45 (by decide) ?_
        refine r_ldc2 (n := 30) C q1291 dX1_real_48 (by decide) ?_
        obtain ⟨q15, eq15, h⟩ := bs h
        refine r_callS C (As := [vJ (w32 x4), vJ (-30), vJ 30]) (rest := []) (st1 := [vI q15.1]) (v := some (vI q15.1)) (m_X1_isIn C.tr eq15) (lw_S q499 q500 q120 q501) hdX1_isIn rfl rfl (Nat.le_of_ble_eq_true rfl) ⟨by decide, by decide⟩ dX1_real_51 rfl ?_
        refine r_if_eq C dX1_real_54 (tgt := 76) (by decide) (fun c16 => ?_) (fun c16 => ?_)
        · have h := it_ h c16
          refine r_sub [1, 2, 3, 4, 5] rfl ?_
          exact w_X1_real_b76 (fin := fin) C X h hK
        · have h := ie_ h c16
          refine r_iload C 5 dX1_real_57 rfl ?_
          refine r_i2l C dX1_real_59 ?_
          refine r_ldc2 (n := (-30)) C q1290 dX1_real_60 (by decide) ?_
          refine r_ldc2 (n := 30) C q1291 dX1_real_63 (by decide) ?_
          obtain ⟨q17, eq17, h⟩ := bs h
          refine r_callS C (As := [vJ (w32 x5), vJ (-30), vJ 30]) (rest := []) (st1 := [vI q17.1]) (v := some (vI q17.1)) (m_X1_isIn C.tr eq17) (lw_S q499 q500 q120 q501) hdX1_isIn rfl rfl (Nat.le_of_ble_eq_true rfl) ⟨by decide, by decide⟩ dX1_real_66 rfl ?_
          refine r_if_eq C dX1_real_69 (tgt := 76) (by decide) (fun c18 => ?_) (fun c18 => ?_)
          · have h := it_ h c18
            refine r_sub [1, 2, 3, 4, 5] rfl ?_
            exact w_X1_real_b76 (fin := fin) C X h hK
          · have h := ie_ h c18
            refine r_iconst C dX1_real_72 ?_
            refine r_goto C dX1_real_73 (tgt := 77) (by decide) ?_
            refine r_sub [1, 2, 3, 4, 5] rfl ?_
            exact w_X1_real_b77 (fin := fin) C X h hK
theorem hdX1_real : zhd yX1_real 5 := by decide +kernel
theorem m_X1_real {l : Launch} {D : va_G} {b0 : Nat} (hl : l.stackTraces = false) {a0 : Nat} {x1 : Int} {x2 : Int} {x3 : Int} {x4 : Int} {x5 : Int} {μ : Me} {w : Ex ⊕ (Int × Me)} (h : s_X1_real a0 x1 x2 x3 x4 x5 μ = some w) : XN l D b0 yX1_real (ws_ yX1_real cX1_real 7 (some .int)) 7 [vO a0, vI x1, vI x2, vI x3, vI x4, vI x5] μ (zoI w) (zmI w) :=
  XN.of hl (by decide +kernel) (Nat.le_of_ble_eq_true rfl) (fun Z C X _ _ => w_X1_real C X h rfl)
noncomputable def s_X15_joins (a0 : Nat) (a1 : Nat) (a2 : Nat) (a3 : Nat) (μ : Me) : Option (Me) :=
  (gI μ 12 a0 2).bind fun v1 =>
  (ck μ 4 a1).bind fun _ =>
  (s_X6_overlap a1 a2 a3 v1 a2 μ).bind fun q2 =>
  some q2
theorem w_X15_joins {Z : Zt} {fin : Me} {w : Me} (C : CX Z yX15_joins cX15_joins none 4 4) {a0 : Nat} {a1 : Nat} {a2 : Nat} {a3 : Nat} {μ : Me} (h : s_X15_joins a0 a1 a2 a3 μ = some w) (hK : w = fin) : WL Z (QN Z none fin) μ 0 [(0, vO a0), (1, vO a1), (2, vO a2), (3, vO a3)] [] := by
  unfold s_X15_joins at h
  refine r_aload_n C 1 dX15_joins_0 rfl rfl ?_
  refine r_aload_n C 2 dX15_joins_1 rfl rfl ?_
  refine r_aload_n C 3 dX15_joins_2 rfl rfl ?_
  refine r_aload_n C 0 dX15_joins_3 rfl rfl ?_
  obtain ⟨v1, ev1, h⟩ := bs h
  refine r_getI C (c := 12) (r := (RX15, TX15, 3)) rfl 2 (by decide) rfl ev1 q728 dX15_joins_4 ?_
  refine r_aload_n C 2 dX15_joins_7 rfl rfl ?_
  obtain ⟨u3, eu3, h⟩ := bs h
  obtain ⟨q2, eq2, h⟩ := bs h
  refine r_callV C (As := [vO a2, vO a3, vI v1, vO a2]) (b := a1) (rest := []) (st1 := []) (v := none) (r := (RX6, TX6, 6)) (ci := 4) rfl eu3 (m_X6_overlap C.tr eq2) (lw_V q922 q923 q924 q128 q925) rfl hdX6_overlap rfl rfl (Nat.le_of_ble_eq_true rfl) ⟨by decide, by decide⟩ dX15_joins_8 rfl ?_
  cases h
  exact r_vret C hK dX15_joins_11
theorem hdX15_joins : zhd yX15_joins 3 := by decide +kernel
theorem m_X15_joins {l : Launch} {D : va_G} {b0 : Nat} (hl : l.stackTraces = false) {a0 : Nat} {a1 : Nat} {a2 : Nat} {a3 : Nat} {μ : Me} {w : Me} (h : s_X15_joins a0 a1 a2 a3 μ = some w) : MN l D b0 yX15_joins (ws_ yX15_joins cX15_joins 4 none) 4 [vO a0, vO a1, vO a2, vO a3] μ none w :=
  MN.of hl (by decide +kernel) (Nat.le_of_ble_eq_true rfl) (fun Z C _ _ => w_X15_joins C h rfl)
noncomputable def s_X15_both (a0 : Nat) (x1 : Int) (x2 : Int) (x3 : Int) (μ : Me) : Option (Int × Me) :=
  (if w32 x3 = 0 then
  some (((x1 + x2) + 0), μ)
  else
  (gI μ 12 a0 2).bind fun v2 =>
  some (((x1 + x2) + v2), μ))
theorem w_X15_both {Z : Zt} {fin : Int × Me} {w : Int × Me} (C : CX Z yX15_both cX15_both (some .int) 1 4) {a0 : Nat} {x1 : Int} {x2 : Int} {x3 : Int} {μ : Me} (h : s_X15_both a0 x1 x2 x3 μ = some w) (hK : w = fin) : WL Z (QN Z (some (vI fin.1)) fin.2) μ 0 [(0, vO a0), (1, vI x1), (2, vI x2), (3, vI x3)] [] := by
  unfold s_X15_both at h
  refine r_iload_n C 1 dX15_both_0 rfl rfl ?_
  refine r_iload_n C 2 dX15_both_1 rfl rfl ?_
  refine r_iadd C dX15_both_2 ?_
  refine r_iload_n C 3 dX15_both_3 rfl rfl ?_
  refine r_if_eq C dX15_both_4 (tgt := 14) (by decide) (fun c1 => ?_) (fun c1 => ?_)
  · have h := it_ h c1
    refine r_iconst C dX15_both_14 ?_
    refine r_iadd C dX15_both_15 ?_
    cases h
    exact r_iret C hK dX15_both_16
  · have h := ie_ h c1
    refine r_aload_n C 0 dX15_both_7 rfl rfl ?_
    obtain ⟨v2, ev2, h⟩ := bs h
    refine r_getI C (c := 12) (r := (RX15, TX15, 3)) rfl 2 (by decide) rfl ev2 q728 dX15_both_8 ?_
    refine r_goto C dX15_both_11 (tgt := 15) (by decide) ?_
    refine r_iadd C dX15_both_15 ?_
    cases h
    exact r_iret C hK dX15_both_16
theorem hdX15_both : zhd yX15_both 3 := by decide +kernel
theorem m_X15_both {l : Launch} {D : va_G} {b0 : Nat} (hl : l.stackTraces = false) {a0 : Nat} {x1 : Int} {x2 : Int} {x3 : Int} {μ : Me} {w : Int × Me} (h : s_X15_both a0 x1 x2 x3 μ = some w) : MN l D b0 yX15_both (ws_ yX15_both cX15_both 4 (some .int)) 1 [vO a0, vI x1, vI x2, vI x3] μ (some (vI w.1)) w.2 :=
  MN.of hl (by decide +kernel) (Nat.le_of_ble_eq_true rfl) (fun Z C _ _ => w_X15_both C h rfl)
noncomputable def s_X16_joins (a0 : Nat) (a1 : Nat) (a2 : Nat) (a3 : Nat) (μ : Me) : Option (Me) :=
  (ck μ 4 a1).bind fun _ =>
  (s_X6_product a1 a2 a3 a2 μ).bind fun q1 =>
  some q1
theorem w_X16_joins {Z : Zt} {fin : Me} {w : Me} (C : CX Z yX16_joins cX16_joins none 3 4) {a0 : Nat} {a1 : Nat} {a2 : Nat} {a3 : Nat} {μ : Me} (h : s_X16_joins a0 a1 a2 a3 μ = some w) (hK : w = fin) : WL Z (QN Z none fin) μ 0 [(0, vO a0), (1, vO a1), (2, vO a2), (3, vO a3)] [] := by
  unfold s_X16_joins at h
  refine r_aload_n C 1 dX16_joins_0 rfl rfl ?_
  refine r_aload_n C 2 dX16_joins_1 rfl rfl ?_
  refine r_aload_n C 3 dX16_joins_2 rfl rfl ?_
  refine r_aload_n C 2 dX16_joins_3 rfl rfl ?_
  obtain ⟨u2, eu2, h⟩ := bs h
  obtain ⟨q1, eq1, h⟩ := bs h
  refine r_callV C (As := [vO a2, vO a3, vO a2]) (b := a1) (rest := []) (st1 := []) (v := none) (r := (RX6, TX6, 6)) (ci := 4) rfl eu2 (m_X6_product C.tr eq1) (lw_V q950 q938 q939 q128 q940) rfl hdX6_product rfl rfl (Nat.le_of_ble_eq_true rfl) ⟨by decide, by decide⟩ dX16_joins_4 rfl ?_
  cases h
  exact r_vret C hK dX16_joins_7
theorem hdX16_joins : zhd yX16_joins 3 := by decide +kernel
theorem m_X16_joins {l : Launch} {D : va_G} {b0 : Nat} (hl : l.stackTraces = false) {a0 : Nat} {a1 : Nat} {a2 : Nat} {a3 : Nat} {μ : Me} {w : Me} (h : s_X16_joins a0 a1 a2 a3 μ = some w) : MN l D b0 yX16_joins (ws_ yX16_joins cX16_joins 4 none) 3 [vO a0, vO a1, vO a2, vO a3] μ none w :=
  MN.of hl (by decide +kernel) (Nat.le_of_ble_eq_true rfl) (fun Z C _ _ => w_X16_joins C h rfl)
noncomputable def s_X16_both (a0 : Nat) (x1 : Int) (x2 : Int) (x3 : Int) (μ : Me) : Option (Int × Me) :=
  some ((x1 + x2), μ)
theorem w_X16_both {Z : Zt} {fin : Int × Me} {w : Int × Me} (C : CX Z yX16_both cX16_both (some .int) 1 4) {a0 : Nat} {x1 : Int} {x2 : Int} {x3 : Int} {μ : Me} (h : s_X16_both a0 x1 x2 x3 μ = some w) (hK : w = fin) : WL Z (QN Z (some (vI fin.1)) fin.2) μ 0 [(0, vO a0), (1, vI x1), (2, vI x2), (3, vI x3)] [] := by
  unfold s_X16_both at h
  refine r_iload_n C 1 dX16_both_0 rfl rfl ?_
  refine r_iload_n C 2 dX16_both_1 rfl rfl ?_
  refine r_iadd C dX16_both_2 ?_
  cases h
  exact r_iret C hK dX16_both_3
theorem hdX16_both : zhd yX16_both 3 := by decide +kernel
theorem m_X16_both {l : Launch} {D : va_G} {b0 : Nat} (hl : l.stackTraces = false) {a0 : Nat} {x1 : Int} {x2 : Int} {x3 : Int} {μ : Me} {w : Int × Me} (h : s_X16_both a0 x1 x2 x3 μ = some w) : MN l D b0 yX16_both (ws_ yX16_both cX16_both 4 (some .int)) 1 [vO a0, vI x1, vI x2, vI x3] μ (some (vI w.1)) w.2 :=
  MN.of hl (by decide +kernel) (Nat.le_of_ble_eq_true rfl) (fun Z C _ _ => w_X16_both C h rfl)
noncomputable def s_X17_joins_l19_st (a1 : Nat) (a2 : Nat) (a3 : Nat) (x4 : Int) (μ : Me) : Option ((Int × Me) ⊕ (Me)) :=
  (gI μ 6 a2 1).bind fun v4 =>
  (if w32 v4 < w32 x4 then
  some (.inr μ)
  else
  (gR μ 6 a2 0).bind fun v6 =>
  (gR μ 4 a1 0).bind fun v7 =>
  (gR μ 6 a2 0).bind fun v8 =>
  (aI μ 101 v8 x4).bind fun v9 =>
  (gR μ 6 a3 0).bind fun v10 =>
  (aI μ 101 v10 x4).bind fun v11 =>
  (ck μ 5 v7).bind fun _ =>
  (s_X7_of v7 (w32 (v9 + v11)) μ).bind fun q12 =>
  (uI q12.2 v6 x4 q12.1).bind fun m14 =>
  some (.inl ((x4 + 1), m14)))
theorem w_X17_joins_l19_st {Z : Zt} {fin : Me} {w : ((Int × Me) ⊕ (Me))} (C : CX Z yX17_joins cX17_joins none 2 5) {a1 : Nat} {a2 : Nat} {a3 : Nat} {x4 : Int} {μ : Me} (h : s_X17_joins_l19_st a1 a2 a3 x4 μ = some w) (hK : (Sum.elim (fun s : Int × Me => WL Z (QN Z none fin) s.2 19 [(1, vO a1), (2, vO a2), (3, vO a3), (4, vI s.1)] []) (fun r : Me => r = fin)) w) : WL Z (QN Z none fin) μ 19 [(1, vO a1), (2, vO a2), (3, vO a3), (4, vI x4)] [] := by
  unfold s_X17_joins_l19_st at h
  refine r_iload C 3 dX17_joins_19 rfl ?_
  refine r_aload_n C 1 dX17_joins_21 rfl rfl ?_
  obtain ⟨v4, ev4, h⟩ := bs h
  refine r_getIN C (c := 6) (r := (RX8, TX8, 2)) rfl 1 (by decide) rfl ev4 (lw_n q307 rfl) dX17_joins_22 ?_
  refine r_icmp_gt C dX17_joins_25 (tgt := 64) (by decide) (fun c5 => ?_) (fun c5 => ?_)
  · have h := it_ h c5
    cases h
    exact r_vret C hK dX17_joins_64
  · have h := ie_ h c5
    refine r_aload_n C 1 dX17_joins_28 rfl rfl ?_
    obtain ⟨v6, ev6, h⟩ := bs h
    refine r_getRN C (c := 6) (r := (RX8, TX8, 2)) rfl 0 (by decide) rfl ev6 (lw_n q302 rfl) dX17_joins_29 ?_
    refine r_iload C 3 dX17_joins_32 rfl ?_
    refine r_aload_n C 0 dX17_joins_34 rfl rfl ?_
    obtain ⟨v7, ev7, h⟩ := bs h
    refine r_getRN C (c := 4) (r := (RX6, TX6, 6)) rfl 0 (by decide) rfl ev7 (lw_n q318 rfl) dX17_joins_35 ?_
    refine r_aload_n C 1 dX17_joins_38 rfl rfl ?_
    obtain ⟨v8, ev8, h⟩ := bs h
    refine r_getRN C (c := 6) (r := (RX8, TX8, 2)) rfl 0 (by decide) rfl ev8 (lw_n q302 rfl) dX17_joins_39 ?_
    refine r_iload C 3 dX17_joins_42 rfl ?_
    obtain ⟨v9, ev9, h⟩ := bs h
    refine r_iald C ev9 dX17_joins_44 ?_
    refine r_aload_n C 2 dX17_joins_45 rfl rfl ?_
    obtain ⟨v10, ev10, h⟩ := bs h
    refine r_getRN C (c := 6) (r := (RX8, TX8, 2)) rfl 0 (by decide) rfl ev10 (lw_n q302 rfl) dX17_joins_46 ?_
    refine r_iload C 3 dX17_joins_49 rfl ?_
    obtain ⟨v11, ev11, h⟩ := bs h
    refine r_iald C ev11 dX17_joins_51 ?_
    refine r_iadd C dX17_joins_52 ?_
    refine r_i2l C dX17_joins_53 ?_
    obtain ⟨u13, eu13, h⟩ := bs h
    obtain ⟨q12, eq12, h⟩ := bs h
    refine r_callV C (As := [vJ (w32 (v9 + v11))]) (b := v7) (rest := [vI x4, vO v6]) (st1 := [vI q12.1, vI x4, vO v6]) (v := some (vI q12.1)) (r := (RX7, TX7, 1)) (ci := 5) rfl eu13 (m_X7_of C.tr eq12) (lw_V q946 q632 q633 q129 q634) rfl hdX7_of rfl rfl (Nat.le_of_ble_eq_true rfl) ⟨by decide, by decide⟩ dX17_joins_54 rfl ?_
    obtain ⟨m14, em14, h⟩ := bs h
    refine r_iast C em14 dX17_joins_57 ?_
    refine r_iinc C 3 [(4, vI (x4 + 1)), (1, vO a1), (2, vO a2), (3, vO a3)] dX17_joins_58 rfl (by decide) rfl ?_
    refine r_goto C dX17_joins_61 (tgt := 19) (by decide) ?_
    cases h
    refine r_sub [1, 2, 3, 0] rfl ?_
    exact hK
noncomputable def s_X17_joins_l19 (a1 : Nat) (a2 : Nat) (a3 : Nat) (x4 : Int) (μ : Me) : Option (Me) :=
  whileO (fun s : Int × Me => s_X17_joins_l19_st a1 a2 a3 s.1 s.2) (x4, μ)
theorem e_X17_joins_l19 (a1 : Nat) (a2 : Nat) (a3 : Nat) (x4 : Int) (μ : Me) : s_X17_joins_l19 a1 a2 a3 x4 μ = (s_X17_joins_l19_st a1 a2 a3 x4 μ).bind fun x => x.elim (fun s : Int × Me => s_X17_joins_l19 a1 a2 a3 s.1 s.2) some := whileO_eq _ _
theorem w_X17_joins_l19 {Z : Zt} {fin : Me} {w : (Me)} (C : CX Z yX17_joins cX17_joins none 2 5) {a1 : Nat} {a2 : Nat} {a3 : Nat} {x4 : Int} {μ : Me} (h : s_X17_joins_l19 a1 a2 a3 x4 μ = some w) (hK : (fun r : Me => r = fin) w) : WL Z (QN Z none fin) μ 19 [(1, vO a1), (2, vO a2), (3, vO a3), (4, vI x4)] [] := by
  refine whileO_walk (w := w) (fun s : Int × Me => WL Z (QN Z none fin) s.2 19 [(1, vO a1), (2, vO a2), (3, vO a3), (4, vI s.1)] []) (fun s v h2 hi hr => ?_) (x4, μ) h
  refine w_X17_joins_l19_st (fin := fin) C h2 ?_
  cases v with
  | inl s2 => exact hi s2 rfl
  | inr r => have e := hr r rfl; subst e; exact hK
noncomputable def s_X17_joins (a0 : Nat) (a1 : Nat) (a2 : Nat) (a3 : Nat) (μ : Me) : Option (Me) :=
  (gI μ 6 a2 1).bind fun v1 =>
  (gI μ 6 a3 1).bind fun v2 =>
  (if w32 v1 = w32 v2 then
  s_X17_joins_l19 a1 a2 a3 0 μ
  else
  (ck μ 6 a2).bind fun _ =>
  (s_X8_nought a2 (-1) μ).bind fun q15 =>
  s_X17_joins_l19 a1 a2 a3 0 q15)
theorem w_X17_joins {Z : Zt} {fin : Me} {w : Me} (C : CX Z yX17_joins cX17_joins none 2 5) {a0 : Nat} {a1 : Nat} {a2 : Nat} {a3 : Nat} {μ : Me} (h : s_X17_joins a0 a1 a2 a3 μ = some w) (hK : w = fin) : WL Z (QN Z none fin) μ 0 [(0, vO a0), (1, vO a1), (2, vO a2), (3, vO a3)] [] := by
  unfold s_X17_joins at h
  refine r_aload_n C 2 dX17_joins_0 rfl rfl ?_
  obtain ⟨v1, ev1, h⟩ := bs h
  refine r_getIN C (c := 6) (r := (RX8, TX8, 2)) rfl 1 (by decide) rfl ev1 (lw_n q307 rfl) dX17_joins_1 ?_
  refine r_aload_n C 3 dX17_joins_4 rfl rfl ?_
  obtain ⟨v2, ev2, h⟩ := bs h
  refine r_getIN C (c := 6) (r := (RX8, TX8, 2)) rfl 1 (by decide) rfl ev2 (lw_n q307 rfl) dX17_joins_5 ?_
  refine r_icmp_eq C dX17_joins_8 (tgt := 16) (by decide) (fun c3 => ?_) (fun c3 => ?_)
  · have h := it_ h c3
    refine r_iconst C dX17_joins_16 ?_
    refine r_istore C [(4, vI 0), (0, vO a0), (1, vO a1), (2, vO a2), (3, vO a3)] dX17_joins_17 (by decide) rfl ?_
    refine r_sub [2, 3, 4, 0] rfl ?_
    exact w_X17_joins_l19 (fin := fin) C h hK
  · have h := ie_ h c3
    refine r_aload_n C 2 dX17_joins_11 rfl rfl ?_
    refine r_iconst C dX17_joins_12 ?_
    obtain ⟨u16, eu16, h⟩ := bs h
    obtain ⟨q15, eq15, h⟩ := bs h
    refine r_callV C (As := [vI (-1)]) (b := a2) (rest := []) (st1 := []) (v := none) (r := (RX8, TX8, 2)) (ci := 6) rfl eu16 (m_X8_nought C.tr eq15) (lw_V q945 q628 q629 q130 q630) rfl hdX8_nought rfl rfl (Nat.le_of_ble_eq_true rfl) ⟨by decide, by decide⟩ dX17_joins_13 rfl ?_
    refine r_iconst C dX17_joins_16 ?_
    refine r_istore C [(4, vI 0), (0, vO a0), (1, vO a1), (2, vO a2), (3, vO a3)] dX17_joins_17 (by decide) rfl ?_
    refine r_sub [2, 3, 4, 0] rfl ?_
    exact w_X17_joins_l19 (fin := fin) C h hK
theorem hdX17_joins : zhd yX17_joins 3 := by decide +kernel
theorem m_X17_joins {l : Launch} {D : va_G} {b0 : Nat} (hl : l.stackTraces = false) {a0 : Nat} {a1 : Nat} {a2 : Nat} {a3 : Nat} {μ : Me} {w : Me} (h : s_X17_joins a0 a1 a2 a3 μ = some w) : MN l D b0 yX17_joins (ws_ yX17_joins cX17_joins 5 none) 2 [vO a0, vO a1, vO a2, vO a3] μ none w :=
  MN.of hl (by decide +kernel) (Nat.le_of_ble_eq_true rfl) (fun Z C _ _ => w_X17_joins C h rfl)
noncomputable def s_X17_both (a0 : Nat) (x1 : Int) (x2 : Int) (x3 : Int) (μ : Me) : Option (Int × Me) :=
  (if w32 x1 = w32 x2 then
  some (x1, μ)
  else
  some ((-1), μ))
theorem w_X17_both {Z : Zt} {fin : Int × Me} {w : Int × Me} (C : CX Z yX17_both cX17_both (some .int) 1 4) {a0 : Nat} {x1 : Int} {x2 : Int} {x3 : Int} {μ : Me} (h : s_X17_both a0 x1 x2 x3 μ = some w) (hK : w = fin) : WL Z (QN Z (some (vI fin.1)) fin.2) μ 0 [(0, vO a0), (1, vI x1), (2, vI x2), (3, vI x3)] [] := by
  unfold s_X17_both at h
  refine r_iload_n C 1 dX17_both_0 rfl rfl ?_
  refine r_iload_n C 2 dX17_both_1 rfl rfl ?_
  refine r_icmp_ne C dX17_both_2 (tgt := 9) (by decide) (fun c1 => ?_) (fun c1 => ?_)
  · have h := ie_ h c1
    refine r_iconst C dX17_both_9 ?_
    cases h
    exact r_iret C hK dX17_both_10
  · have h := it_ h c1
    refine r_iload_n C 1 dX17_both_5 rfl rfl ?_
    refine r_goto C dX17_both_6 (tgt := 10) (by decide) ?_
    cases h
    exact r_iret C hK dX17_both_10
theorem hdX17_both : zhd yX17_both 3 := by decide +kernel
theorem m_X17_both {l : Launch} {D : va_G} {b0 : Nat} (hl : l.stackTraces = false) {a0 : Nat} {x1 : Int} {x2 : Int} {x3 : Int} {μ : Me} {w : Int × Me} (h : s_X17_both a0 x1 x2 x3 μ = some w) : MN l D b0 yX17_both (ws_ yX17_both cX17_both 4 (some .int)) 1 [vO a0, vI x1, vI x2, vI x3] μ (some (vI w.1)) w.2 :=
  MN.of hl (by decide +kernel) (Nat.le_of_ble_eq_true rfl) (fun Z C _ _ => w_X17_both C h rfl)
