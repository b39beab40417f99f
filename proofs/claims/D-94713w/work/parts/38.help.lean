/-! printed by gen/walk.py -/
set_option maxRecDepth 100000
set_option maxHeartbeats 4000000

noncomputable def s_X0_field (a0 : Nat) (x1 : Int) (μ : Me) : Option (Ex ⊕ (Int × Me)) :=
  (ck μ 0 a0).bind fun _ =>
  xb (s_X1_field a0 x1 μ) (fun e2 => (if e2.1 = 0 then
  some (.inr (1, e2.2.2))
  else
  if e2.1 = 1 then
  some (.inr (2, e2.2.2))
  else
  none)) fun q1 =>
  some (.inr (0, q1))
theorem w_X0_field {Z : Zt} {fin : Ex ⊕ (Int × Me)} {w : Ex ⊕ (Int × Me)} (C : CX Z yX0_field cX0_field (some .int) 8 3) (X : XT Z [((0 : Nat), (5 : Nat), (8 : Nat), (13 : Nat)), ((0 : Nat), (5 : Nat), (11 : Nat), (15 : Nat))]) {a0 : Nat} {x1 : Int} {μ : Me} (h : s_X0_field a0 x1 μ = some w) (hK : w = fin) : WL Z (XQ Z (zoI fin) (zmI fin)) μ 0 [(0, vO a0), (1, vI x1)] [] := by
  unfold s_X0_field at h
  refine r_aload_n C 0 dX0_field_0 rfl rfl ?_
  refine r_iload_n C 1 dX0_field_1 rfl rfl ?_
  obtain ⟨u5, eu5, h⟩ := bs h
  rcases xbs h with ⟨e2, eq1, h⟩ | ⟨q1, eq1, h⟩
  · refine r_xVx C (As := [vI x1]) (b := a0) (rest := []) (μ1 := e2.2.2) (r := (RX1, TX1, 19)) (ci := 0) rfl eu5 (m_X1_field C.tr eq1) (lw_V q553 q554 q555 q120 q556) rfl hdX1_field rfl rfl (Nat.le_of_ble_eq_true rfl) ⟨by decide, by decide⟩ dX0_field_2 ?_
    by_cases c3 : e2.1 = 0
    · have h := it_ h c3
      rw [c3]
      refine r_catch0 C X (by decide) (by decide) q551 (lw_n q562 rfl) ?_
      refine r_astore_n C [(2, vO e2.2.1), (0, vO a0), (1, vI x1)] dX0_field_8 rfl (by decide) rfl ?_
      refine r_iconst C dX0_field_9 ?_
      cases h
      exact r_xiret C hK dX0_field_10
    have h := ie_ h c3
    by_cases c4 : e2.1 = 1
    · have h := it_ h c4
      rw [c4]
      refine r_catch1 C X (by decide) q551 (C.kt.2.2.2.2.2.2 1 0 (by decide) (by decide) (by decide)) (by decide) (by decide) q552 (lw_n q583 rfl) ?_
      refine r_astore_n C [(2, vO e2.2.1), (0, vO a0), (1, vI x1)] dX0_field_11 rfl (by decide) rfl ?_
      refine r_iconst C dX0_field_12 ?_
      cases h
      exact r_xiret C hK dX0_field_13
    have h := ie_ h c4
    cases h
  · refine r_xV C (As := [vI x1]) (b := a0) (rest := []) (st1 := []) (v := none) (μ1 := q1) (r := (RX1, TX1, 19)) (ci := 0) rfl eu5 (m_X1_field C.tr eq1) (lw_V q553 q554 q555 q120 q556) rfl hdX1_field rfl rfl (Nat.le_of_ble_eq_true rfl) ⟨by decide, by decide⟩ dX0_field_2 rfl ?_
    refine r_goto C dX0_field_5 (tgt := 14) (by decide) ?_
    refine r_iconst C dX0_field_14 ?_
    cases h
    exact r_xiret C hK dX0_field_15
theorem hdX0_field : zhd yX0_field 2 := by decide +kernel
theorem m_X0_field {l : Launch} {D : va_G} {b0 : Nat} (hl : l.stackTraces = false) {a0 : Nat} {x1 : Int} {μ : Me} {w : Ex ⊕ (Int × Me)} (h : s_X0_field a0 x1 μ = some w) : XN l D b0 yX0_field (wsW_ yX0_field cX0_field 3 (some .int) [((0 : Nat), (5 : Nat), (8 : Nat), (13 : Nat)), ((0 : Nat), (5 : Nat), (11 : Nat), (15 : Nat))]) 8 [vO a0, vI x1] μ (zoI w) (zmI w) :=
  XN.ofH hl (by decide +kernel) (Nat.le_of_ble_eq_true rfl) (fun Z C X _ _ => w_X0_field C X h rfl)
noncomputable def s_X0_form (a0 : Nat) (a1 : Nat) (μ : Me) : Option (Ex ⊕ (Int × Me)) :=
  (ck μ 0 a0).bind fun _ =>
  xb (s_X1_form a0 μ) (fun e2 => (if e2.1 = 0 then
  some (.inr (1, e2.2.2))
  else
  if e2.1 = 2 then
  some (.inr (2, e2.2.2))
  else
  none)) fun q1 =>
  (uJ q1.2 a1 0 (w32 q1.1)).bind fun m6 =>
  some (.inr (0, m6))
theorem w_X0_form {Z : Zt} {fin : Ex ⊕ (Int × Me)} {w : Ex ⊕ (Int × Me)} (C : CX Z yX0_form cX0_form (some .int) 8 3) (X : XT Z [((0 : Nat), (8 : Nat), (11 : Nat), (13 : Nat)), ((0 : Nat), (8 : Nat), (14 : Nat), (21 : Nat))]) {a0 : Nat} {a1 : Nat} {μ : Me} (h : s_X0_form a0 a1 μ = some w) (hK : w = fin) : WL Z (XQ Z (zoI fin) (zmI fin)) μ 0 [(0, vO a0), (1, vO a1)] [] := by
  unfold s_X0_form at h
  refine r_aload_n C 1 dX0_form_0 rfl rfl ?_
  refine r_iconst C dX0_form_1 ?_
  refine r_aload_n C 0 dX0_form_2 rfl rfl ?_
  obtain ⟨u5, eu5, h⟩ := bs h
  rcases xbs h with ⟨e2, eq1, h⟩ | ⟨q1, eq1, h⟩
  · refine r_xVx C (As := []) (b := a0) (rest := [vI 0, vO a1]) (μ1 := e2.2.2) (r := (RX1, TX1, 19)) (ci := 0) rfl eu5 (m_X1_form C.tr eq1) (lw_V q600 q601 q602 q120 q603) rfl hdX1_form rfl rfl (Nat.le_of_ble_eq_true rfl) ⟨by decide, by decide⟩ dX0_form_3 ?_
    by_cases c3 : e2.1 = 0
    · have h := it_ h c3
      rw [c3]
      refine r_catch0 C X (by decide) (by decide) q551 (lw_n q562 rfl) ?_
      refine r_astore_n C [(2, vO e2.2.1), (0, vO a0), (1, vO a1)] dX0_form_11 rfl (by decide) rfl ?_
      refine r_iconst C dX0_form_12 ?_
      cases h
      exact r_xiret C hK dX0_form_13
    have h := ie_ h c3
    by_cases c4 : e2.1 = 2
    · have h := it_ h c4
      rw [c4]
      refine r_catch1 C X (by decide) q551 (C.kt.2.2.2.2.2.2 2 0 (by decide) (by decide) (by decide)) (by decide) (by decide) q599 (lw_n q614 rfl) ?_
      refine r_astore_n C [(2, vO e2.2.1), (0, vO a0), (1, vO a1)] dX0_form_14 rfl (by decide) rfl ?_
      refine r_iconst C dX0_form_15 ?_
      cases h
      exact r_xiret C hK dX0_form_16
    have h := ie_ h c4
    cases h
  · refine r_xV C (As := []) (b := a0) (rest := [vI 0, vO a1]) (st1 := [vI q1.1, vI 0, vO a1]) (v := some (vI q1.1)) (μ1 := q1.2) (r := (RX1, TX1, 19)) (ci := 0) rfl eu5 (m_X1_form C.tr eq1) (lw_V q600 q601 q602 q120 q603) rfl hdX1_form rfl rfl (Nat.le_of_ble_eq_true rfl) ⟨by decide, by decide⟩ dX0_form_3 rfl ?_
    refine r_i2l C dX0_form_6 ?_
    obtain ⟨m6, em6, h⟩ := bs h
    refine r_last C em6 dX0_form_7 ?_
    refine r_goto C dX0_form_8 (tgt := 17) (by decide) ?_
    refine r_iconst C dX0_form_17 ?_
    cases h
    exact r_xiret C hK dX0_form_18
theorem hdX0_form : zhd yX0_form 2 := by decide +kernel
theorem m_X0_form {l : Launch} {D : va_G} {b0 : Nat} (hl : l.stackTraces = false) {a0 : Nat} {a1 : Nat} {μ : Me} {w : Ex ⊕ (Int × Me)} (h : s_X0_form a0 a1 μ = some w) : XN l D b0 yX0_form (wsW_ yX0_form cX0_form 3 (some .int) [((0 : Nat), (8 : Nat), (11 : Nat), (13 : Nat)), ((0 : Nat), (8 : Nat), (14 : Nat), (21 : Nat))]) 8 [vO a0, vO a1] μ (zoI w) (zmI w) :=
  XN.ofH hl (by decide +kernel) (Nat.le_of_ble_eq_true rfl) (fun Z C X _ _ => w_X0_form C X h rfl)
noncomputable def s_X0_table (a0 : Nat) (x1 : Int) (x2 : Int) (x3 : Int) (x4 : Int) (a5 : Nat) (μ : Me) : Option (Ex ⊕ (Int × Me)) :=
  (ck μ 0 a0).bind fun _ =>
  xb (s_X1_table a0 x1 x2 x3 x4 μ) (fun e2 => (if e2.1 = 0 then
  some (.inr (1, e2.2.2))
  else
  if e2.1 = 2 then
  some (.inr (2, e2.2.2))
  else
  none)) fun q1 =>
  (uJ q1.2 a5 0 (w32 q1.1)).bind fun m6 =>
  some (.inr (0, m6))
theorem w_X0_table {Z : Zt} {fin : Ex ⊕ (Int × Me)} {w : Ex ⊕ (Int × Me)} (C : CX Z yX0_table cX0_table (some .int) 8 7) (X : XT Z [((0 : Nat), (14 : Nat), (17 : Nat), (13 : Nat)), ((0 : Nat), (14 : Nat), (21 : Nat), (21 : Nat))]) {a0 : Nat} {x1 : Int} {x2 : Int} {x3 : Int} {x4 : Int} {a5 : Nat} {μ : Me} (h : s_X0_table a0 x1 x2 x3 x4 a5 μ = some w) (hK : w = fin) : WL Z (XQ Z (zoI fin) (zmI fin)) μ 0 [(0, vO a0), (1, vI x1), (2, vI x2), (3, vI x3), (4, vI x4), (5, vO a5)] [] := by
  unfold s_X0_table at h
  refine r_aload C 5 dX0_table_0 rfl ?_
  refine r_iconst C dX0_table_2 ?_
  refine r_aload_n C 0 dX0_table_3 rfl rfl ?_
  refine r_iload_n C 1 dX0_table_4 rfl rfl ?_
  refine r_iload_n C 2 dX0_table_5 rfl rfl ?_
  refine r_iload_n C 3 dX0_table_6 rfl rfl ?_
  refine r_iload C 4 dX0_table_7 rfl ?_
  obtain ⟨u5, eu5, h⟩ := bs h
  rcases xbs h with ⟨e2, eq1, h⟩ | ⟨q1, eq1, h⟩
  · refine r_xVx C (As := [vI x1, vI x2, vI x3, vI x4]) (b := a0) (rest := [vI 0, vO a5]) (μ1 := e2.2.2) (r := (RX1, TX1, 19)) (ci := 0) rfl eu5 (m_X1_table C.tr eq1) (lw_V q638 q639 q640 q120 q641) rfl hdX1_table rfl rfl (Nat.le_of_ble_eq_true rfl) ⟨by decide, by decide⟩ dX0_table_9 ?_
    by_cases c3 : e2.1 = 0
    · have h := it_ h c3
      rw [c3]
      refine r_catch0 C X (by decide) (by decide) q551 (lw_n q562 rfl) ?_
      refine r_astore C [(6, vO e2.2.1), (0, vO a0), (1, vI x1), (2, vI x2), (3, vI x3), (4, vI x4), (5, vO a5)] dX0_table_17 (by decide) rfl ?_
      refine r_iconst C dX0_table_19 ?_
      cases h
      exact r_xiret C hK dX0_table_20
    have h := ie_ h c3
    by_cases c4 : e2.1 = 2
    · have h := it_ h c4
      rw [c4]
      refine r_catch1 C X (by decide) q551 (C.kt.2.2.2.2.2.2 2 0 (by decide) (by decide) (by decide)) (by decide) (by decide) q599 (lw_n q614 rfl) ?_
      refine r_astore C [(6, vO e2.2.1), (0, vO a0), (1, vI x1), (2, vI x2), (3, vI x3), (4, vI x4), (5, vO a5)] dX0_table_21 (by decide) rfl ?_
      refine r_iconst C dX0_table_23 ?_
      cases h
      exact r_xiret C hK dX0_table_24
    have h := ie_ h c4
    cases h
  · refine r_xV C (As := [vI x1, vI x2, vI x3, vI x4]) (b := a0) (rest := [vI 0, vO a5]) (st1 := [vI q1.1, vI 0, vO a5]) (v := some (vI q1.1)) (μ1 := q1.2) (r := (RX1, TX1, 19)) (ci := 0) rfl eu5 (m_X1_table C.tr eq1) (lw_V q638 q639 q640 q120 q641) rfl hdX1_table rfl rfl (Nat.le_of_ble_eq_true rfl) ⟨by decide, by decide⟩ dX0_table_9 rfl ?_
    refine r_i2l C dX0_table_12 ?_
    obtain ⟨m6, em6, h⟩ := bs h
    refine r_last C em6 dX0_table_13 ?_
    refine r_goto C dX0_table_14 (tgt := 25) (by decide) ?_
    refine r_iconst C dX0_table_25 ?_
    cases h
    exact r_xiret C hK dX0_table_26
theorem hdX0_table : zhd yX0_table 6 := by decide +kernel
theorem m_X0_table {l : Launch} {D : va_G} {b0 : Nat} (hl : l.stackTraces = false) {a0 : Nat} {x1 : Int} {x2 : Int} {x3 : Int} {x4 : Int} {a5 : Nat} {μ : Me} {w : Ex ⊕ (Int × Me)} (h : s_X0_table a0 x1 x2 x3 x4 a5 μ = some w) : XN l D b0 yX0_table (wsW_ yX0_table cX0_table 7 (some .int) [((0 : Nat), (14 : Nat), (17 : Nat), (13 : Nat)), ((0 : Nat), (14 : Nat), (21 : Nat), (21 : Nat))]) 8 [vO a0, vI x1, vI x2, vI x3, vI x4, vO a5] μ (zoI w) (zmI w) :=
  XN.ofH hl (by decide +kernel) (Nat.le_of_ble_eq_true rfl) (fun Z C X _ _ => w_X0_table C X h rfl)
noncomputable def s_X0_signs (a0 : Nat) (a1 : Nat) (μ : Me) : Option (Ex ⊕ (Int × Me)) :=
  (ck μ 0 a0).bind fun _ =>
  xb (s_X1_signs a0 μ) (fun e2 => (if e2.1 = 0 then
  some (.inr (1, e2.2.2))
  else
  if e2.1 = 2 then
  some (.inr (2, e2.2.2))
  else
  none)) fun q1 =>
  (uJ q1.2 a1 0 (w32 q1.1)).bind fun m6 =>
  some (.inr (0, m6))
theorem w_X0_signs {Z : Zt} {fin : Ex ⊕ (Int × Me)} {w : Ex ⊕ (Int × Me)} (C : CX Z yX0_signs cX0_signs (some .int) 59 3) (X : XT Z [((0 : Nat), (8 : Nat), (11 : Nat), (13 : Nat)), ((0 : Nat), (8 : Nat), (14 : Nat), (21 : Nat))]) {a0 : Nat} {a1 : Nat} {μ : Me} (h : s_X0_signs a0 a1 μ = some w) (hK : w = fin) : WL Z (XQ Z (zoI fin) (zmI fin)) μ 0 [(0, vO a0), (1, vO a1)] [] := by
  unfold s_X0_signs at h
  refine r_aload_n C 1 dX0_signs_0 rfl rfl ?_
  refine r_iconst C dX0_signs_1 ?_
  refine r_aload_n C 0 dX0_signs_2 rfl rfl ?_
  obtain ⟨u5, eu5, h⟩ := bs h
  rcases xbs h with ⟨e2, eq1, h⟩ | ⟨q1, eq1, h⟩
  · refine r_xVHx C (As := []) (b := a0) (rest := [vI 0, vO a1]) (μ1 := e2.2.2) (r := (RX1, TX1, 19)) (ci := 0) rfl eu5 (m_X1_signs C.tr eq1) (lw_VW q650 q651 q652 q120 q653) rfl hdX1_signs rfl rfl (Nat.le_of_ble_eq_true rfl) ⟨by decide, by decide⟩ dX0_signs_3 ?_
    by_cases c3 : e2.1 = 0
    · have h := it_ h c3
      rw [c3]
      refine r_catch0 C X (by decide) (by decide) q551 (lw_n q562 rfl) ?_
      refine r_astore_n C [(2, vO e2.2.1), (0, vO a0), (1, vO a1)] dX0_signs_11 rfl (by decide) rfl ?_
      refine r_iconst C dX0_signs_12 ?_
      cases h
      exact r_xiret C hK dX0_signs_13
    have h := ie_ h c3
    by_cases c4 : e2.1 = 2
    · have h := it_ h c4
      rw [c4]
      refine r_catch1 C X (by decide) q551 (C.kt.2.2.2.2.2.2 2 0 (by decide) (by decide) (by decide)) (by decide) (by decide) q599 (lw_n q614 rfl) ?_
      refine r_astore_n C [(2, vO e2.2.1), (0, vO a0), (1, vO a1)] dX0_signs_14 rfl (by decide) rfl ?_
      refine r_iconst C dX0_signs_15 ?_
      cases h
      exact r_xiret C hK dX0_signs_16
    have h := ie_ h c4
    cases h
  · refine r_xVH C (As := []) (b := a0) (rest := [vI 0, vO a1]) (st1 := [vI q1.1, vI 0, vO a1]) (v := some (vI q1.1)) (μ1 := q1.2) (r := (RX1, TX1, 19)) (ci := 0) rfl eu5 (m_X1_signs C.tr eq1) (lw_VW q650 q651 q652 q120 q653) rfl hdX1_signs rfl rfl (Nat.le_of_ble_eq_true rfl) ⟨by decide, by decide⟩ dX0_signs_3 rfl ?_
    refine r_i2l C dX0_signs_6 ?_
    obtain ⟨m6, em6, h⟩ := bs h
    refine r_last C em6 dX0_signs_7 ?_
    refine r_goto C dX0_signs_8 (tgt := 17) (by decide) ?_
    refine r_iconst C dX0_signs_17 ?_
    cases h
    exact r_xiret C hK dX0_signs_18
theorem hdX0_signs : zhd yX0_signs 2 := by decide +kernel
theorem m_X0_signs {l : Launch} {D : va_G} {b0 : Nat} (hl : l.stackTraces = false) {a0 : Nat} {a1 : Nat} {μ : Me} {w : Ex ⊕ (Int × Me)} (h : s_X0_signs a0 a1 μ = some w) : XN l D b0 yX0_signs (wsW_ yX0_signs cX0_signs 3 (some .int) [((0 : Nat), (8 : Nat), (11 : Nat), (13 : Nat)), ((0 : Nat), (8 : Nat), (14 : Nat), (21 : Nat))]) 59 [vO a0, vO a1] μ (zoI w) (zmI w) :=
  XN.ofH hl (by decide +kernel) (Nat.le_of_ble_eq_true rfl) (fun Z C X _ _ => w_X0_signs C X h rfl)
noncomputable def s_X0_look (a0 : Nat) (x1 : Int) (x2 : Int) (a3 : Nat) (μ : Me) : Option (Ex ⊕ (Int × Me)) :=
  (ck μ 0 a0).bind fun _ =>
  xb (s_X1_look a0 x1 x2 μ) (fun e2 => (if e2.1 = 3 then
  some (.inr (1, e2.2.2))
  else
  none)) fun q1 =>
  (uJ q1.2 a3 0 (w32 q1.1)).bind fun m5 =>
  some (.inr (0, m5))
theorem w_X0_look {Z : Zt} {fin : Ex ⊕ (Int × Me)} {w : Ex ⊕ (Int × Me)} (C : CX Z yX0_look cX0_look (some .int) 9 5) (X : XT Z [((0 : Nat), (10 : Nat), (13 : Nat), (34 : Nat))]) {a0 : Nat} {x1 : Int} {x2 : Int} {a3 : Nat} {μ : Me} (h : s_X0_look a0 x1 x2 a3 μ = some w) (hK : w = fin) : WL Z (XQ Z (zoI fin) (zmI fin)) μ 0 [(0, vO a0), (1, vI x1), (2, vI x2), (3, vO a3)] [] := by
  unfold s_X0_look at h
  refine r_aload_n C 3 dX0_look_0 rfl rfl ?_
  refine r_iconst C dX0_look_1 ?_
  refine r_aload_n C 0 dX0_look_2 rfl rfl ?_
  refine r_iload_n C 1 dX0_look_3 rfl rfl ?_
  refine r_iload_n C 2 dX0_look_4 rfl rfl ?_
  obtain ⟨u4, eu4, h⟩ := bs h
  rcases xbs h with ⟨e2, eq1, h⟩ | ⟨q1, eq1, h⟩
  · refine r_xVx C (As := [vI x1, vI x2]) (b := a0) (rest := [vI 0, vO a3]) (μ1 := e2.2.2) (r := (RX1, TX1, 19)) (ci := 0) rfl eu4 (m_X1_look C.tr eq1) (lw_V q795 q796 q797 q120 q798) rfl hdX1_look rfl rfl (Nat.le_of_ble_eq_true rfl) ⟨by decide, by decide⟩ dX0_look_5 ?_
    by_cases c3 : e2.1 = 3
    · have h := it_ h c3
      rw [c3]
      refine r_catch0 C X (by decide) (by decide) q763 (lw_n q808 rfl) ?_
      refine r_astore C [(4, vO e2.2.1), (0, vO a0), (1, vI x1), (2, vI x2), (3, vO a3)] dX0_look_13 (by decide) rfl ?_
      refine r_iconst C dX0_look_15 ?_
      cases h
      exact r_xiret C hK dX0_look_16
    have h := ie_ h c3
    cases h
  · refine r_xV C (As := [vI x1, vI x2]) (b := a0) (rest := [vI 0, vO a3]) (st1 := [vI q1.1, vI 0, vO a3]) (v := some (vI q1.1)) (μ1 := q1.2) (r := (RX1, TX1, 19)) (ci := 0) rfl eu4 (m_X1_look C.tr eq1) (lw_V q795 q796 q797 q120 q798) rfl hdX1_look rfl rfl (Nat.le_of_ble_eq_true rfl) ⟨by decide, by decide⟩ dX0_look_5 rfl ?_
    refine r_i2l C dX0_look_8 ?_
    obtain ⟨m5, em5, h⟩ := bs h
    refine r_last C em5 dX0_look_9 ?_
    refine r_goto C dX0_look_10 (tgt := 17) (by decide) ?_
    refine r_iconst C dX0_look_17 ?_
    cases h
    exact r_xiret C hK dX0_look_18
theorem hdX0_look : zhd yX0_look 4 := by decide +kernel
theorem m_X0_look {l : Launch} {D : va_G} {b0 : Nat} (hl : l.stackTraces = false) {a0 : Nat} {x1 : Int} {x2 : Int} {a3 : Nat} {μ : Me} {w : Ex ⊕ (Int × Me)} (h : s_X0_look a0 x1 x2 a3 μ = some w) : XN l D b0 yX0_look (wsW_ yX0_look cX0_look 5 (some .int) [((0 : Nat), (10 : Nat), (13 : Nat), (34 : Nat))]) 9 [vO a0, vI x1, vI x2, vO a3] μ (zoI w) (zmI w) :=
  XN.ofH hl (by decide +kernel) (Nat.le_of_ble_eq_true rfl) (fun Z C X _ _ => w_X0_look C X h rfl)
noncomputable def s_X0_at (a0 : Nat) (x1 : Int) (x2 : Int) (x3 : Int) (a4 : Nat) (μ : Me) : Option (Ex ⊕ (Int × Me)) :=
  (ck μ 0 a0).bind fun _ =>
  xb (s_X1_at a0 x1 x2 x3 μ) (fun e2 => (if e2.1 = 3 then
  some (.inr (1, e2.2.2))
  else
  none)) fun q1 =>
  (uJ q1.2 a4 0 (w32 q1.1)).bind fun m5 =>
  some (.inr (0, m5))
theorem w_X0_at {Z : Zt} {fin : Ex ⊕ (Int × Me)} {w : Ex ⊕ (Int × Me)} (C : CX Z yX0_at cX0_at (some .int) 9 6) (X : XT Z [((0 : Nat), (12 : Nat), (15 : Nat), (34 : Nat))]) {a0 : Nat} {x1 : Int} {x2 : Int} {x3 : Int} {a4 : Nat} {μ : Me} (h : s_X0_at a0 x1 x2 x3 a4 μ = some w) (hK : w = fin) : WL Z (XQ Z (zoI fin) (zmI fin)) μ 0 [(0, vO a0), (1, vI x1), (2, vI x2), (3, vI x3), (4, vO a4)] [] := by
  unfold s_X0_at at h
  refine r_aload C 4 dX0_at_0 rfl ?_
  refine r_iconst C dX0_at_2 ?_
  refine r_aload_n C 0 dX0_at_3 rfl rfl ?_
  refine r_iload_n C 1 dX0_at_4 rfl rfl ?_
  refine r_iload_n C 2 dX0_at_5 rfl rfl ?_
  refine r_iload_n C 3 dX0_at_6 rfl rfl ?_
  obtain ⟨u4, eu4, h⟩ := bs h
  rcases xbs h with ⟨e2, eq1, h⟩ | ⟨q1, eq1, h⟩
  · refine r_xVx C (As := [vI x1, vI x2, vI x3]) (b := a0) (rest := [vI 0, vO a4]) (μ1 := e2.2.2) (r := (RX1, TX1, 19)) (ci := 0) rfl eu4 (m_X1_at C.tr eq1) (lw_V q827 q828 q829 q120 q830) rfl hdX1_at rfl rfl (Nat.le_of_ble_eq_true rfl) ⟨by decide, by decide⟩ dX0_at_7 ?_
    by_cases c3 : e2.1 = 3
    · have h := it_ h c3
      rw [c3]
      refine r_catch0 C X (by decide) (by decide) q763 (lw_n q808 rfl) ?_
      refine r_astore C [(5, vO e2.2.1), (0, vO a0), (1, vI x1), (2, vI x2), (3, vI x3), (4, vO a4)] dX0_at_15 (by decide) rfl ?_
      refine r_iconst C dX0_at_17 ?_
      cases h
      exact r_xiret C hK dX0_at_18
    have h := ie_ h c3
    cases h
  · refine r_xV C (As := [vI x1, vI x2, vI x3]) (b := a0) (rest := [vI 0, vO a4]) (st1 := [vI q1.1, vI 0, vO a4]) (v := some (vI q1.1)) (μ1 := q1.2) (r := (RX1, TX1, 19)) (ci := 0) rfl eu4 (m_X1_at C.tr eq1) (lw_V q827 q828 q829 q120 q830) rfl hdX1_at rfl rfl (Nat.le_of_ble_eq_true rfl) ⟨by decide, by decide⟩ dX0_at_7 rfl ?_
    refine r_i2l C dX0_at_10 ?_
    obtain ⟨m5, em5, h⟩ := bs h
    refine r_last C em5 dX0_at_11 ?_
    refine r_goto C dX0_at_12 (tgt := 19) (by decide) ?_
    refine r_iconst C dX0_at_19 ?_
    cases h
    exact r_xiret C hK dX0_at_20
theorem hdX0_at : zhd yX0_at 5 := by decide +kernel
theorem m_X0_at {l : Launch} {D : va_G} {b0 : Nat} (hl : l.stackTraces = false) {a0 : Nat} {x1 : Int} {x2 : Int} {x3 : Int} {a4 : Nat} {μ : Me} {w : Ex ⊕ (Int × Me)} (h : s_X0_at a0 x1 x2 x3 a4 μ = some w) : XN l D b0 yX0_at (wsW_ yX0_at cX0_at 6 (some .int) [((0 : Nat), (12 : Nat), (15 : Nat), (34 : Nat))]) 9 [vO a0, vI x1, vI x2, vI x3, vO a4] μ (zoI w) (zmI w) :=
  XN.ofH hl (by decide +kernel) (Nat.le_of_ble_eq_true rfl) (fun Z C X _ _ => w_X0_at C X h rfl)
noncomputable def s_X0_det (a0 : Nat) (x1 : Int) (a2 : Nat) (μ : Me) : Option (Ex ⊕ (Int × Me)) :=
  (ck μ 0 a0).bind fun _ =>
  xb (s_X1_det a0 x1 μ) (fun e2 => (if e2.1 = 3 then
  some (.inr (1, e2.2.2))
  else
  none)) fun q1 =>
  (uJ q1.2 a2 0 (w32 q1.1)).bind fun m5 =>
  some (.inr (0, m5))
theorem w_X0_det {Z : Zt} {fin : Ex ⊕ (Int × Me)} {w : Ex ⊕ (Int × Me)} (C : CX Z yX0_det cX0_det (some .int) 9 4) (X : XT Z [((0 : Nat), (9 : Nat), (12 : Nat), (34 : Nat))]) {a0 : Nat} {x1 : Int} {a2 : Nat} {μ : Me} (h : s_X0_det a0 x1 a2 μ = some w) (hK : w = fin) : WL Z (XQ Z (zoI fin) (zmI fin)) μ 0 [(0, vO a0), (1, vI x1), (2, vO a2)] [] := by
  unfold s_X0_det at h
  refine r_aload_n C 2 dX0_det_0 rfl rfl ?_
  refine r_iconst C dX0_det_1 ?_
  refine r_aload_n C 0 dX0_det_2 rfl rfl ?_
  refine r_iload_n C 1 dX0_det_3 rfl rfl ?_
  obtain ⟨u4, eu4, h⟩ := bs h
  rcases xbs h with ⟨e2, eq1, h⟩ | ⟨q1, eq1, h⟩
  · refine r_xVx C (As := [vI x1]) (b := a0) (rest := [vI 0, vO a2]) (μ1 := e2.2.2) (r := (RX1, TX1, 19)) (ci := 0) rfl eu4 (m_X1_det C.tr eq1) (lw_V q844 q845 q846 q120 q847) rfl hdX1_det rfl rfl (Nat.le_of_ble_eq_true rfl) ⟨by decide, by decide⟩ dX0_det_4 ?_
    by_cases c3 : e2.1 = 3
    · have h := it_ h c3
      rw [c3]
      refine r_catch0 C X (by decide) (by decide) q763 (lw_n q808 rfl) ?_
      refine r_astore_n C [(3, vO e2.2.1), (0, vO a0), (1, vI x1), (2, vO a2)] dX0_det_12 rfl (by decide) rfl ?_
      refine r_iconst C dX0_det_13 ?_
      cases h
      exact r_xiret C hK dX0_det_14
    have h := ie_ h c3
    cases h
  · refine r_xV C (As := [vI x1]) (b := a0) (rest := [vI 0, vO a2]) (st1 := [vI q1.1, vI 0, vO a2]) (v := some (vI q1.1)) (μ1 := q1.2) (r := (RX1, TX1, 19)) (ci := 0) rfl eu4 (m_X1_det C.tr eq1) (lw_V q844 q845 q846 q120 q847) rfl hdX1_det rfl rfl (Nat.le_of_ble_eq_true rfl) ⟨by decide, by decide⟩ dX0_det_4 rfl ?_
    refine r_i2l C dX0_det_7 ?_
    obtain ⟨m5, em5, h⟩ := bs h
    refine r_last C em5 dX0_det_8 ?_
    refine r_goto C dX0_det_9 (tgt := 15) (by decide) ?_
    refine r_iconst C dX0_det_15 ?_
    cases h
    exact r_xiret C hK dX0_det_16
theorem hdX0_det : zhd yX0_det 3 := by decide +kernel
theorem m_X0_det {l : Launch} {D : va_G} {b0 : Nat} (hl : l.stackTraces = false) {a0 : Nat} {x1 : Int} {a2 : Nat} {μ : Me} {w : Ex ⊕ (Int × Me)} (h : s_X0_det a0 x1 a2 μ = some w) : XN l D b0 yX0_det (wsW_ yX0_det cX0_det 4 (some .int) [((0 : Nat), (9 : Nat), (12 : Nat), (34 : Nat))]) 9 [vO a0, vI x1, vO a2] μ (zoI w) (zmI w) :=
  XN.ofH hl (by decide +kernel) (Nat.le_of_ble_eq_true rfl) (fun Z C X _ _ => w_X0_det C X h rfl)
noncomputable def s_X0_mix (a0 : Nat) (x1 : Int) (x2 : Int) (a3 : Nat) (μ : Me) : Option (Ex ⊕ (Int × Me)) :=
  (ck μ 0 a0).bind fun _ =>
  xb (s_X1_mix a0 x1 x2 μ) (fun e2 => (if e2.1 = 3 then
  some (.inr (1, e2.2.2))
  else
  none)) fun q1 =>
  (if w32 q1.1 = 0 then
  (uJ q1.2 a3 0 0).bind fun m6 =>
  some (.inr (0, m6))
  else
  (uJ q1.2 a3 0 1).bind fun m7 =>
  some (.inr (0, m7)))
theorem w_X0_mix {Z : Zt} {fin : Ex ⊕ (Int × Me)} {w : Ex ⊕ (Int × Me)} (C : CX Z yX0_mix cX0_mix (some .int) 9 5) (X : XT Z [((0 : Nat), (17 : Nat), (20 : Nat), (34 : Nat))]) {a0 : Nat} {x1 : Int} {x2 : Int} {a3 : Nat} {μ : Me} (h : s_X0_mix a0 x1 x2 a3 μ = some w) (hK : w = fin) : WL Z (XQ Z (zoI fin) (zmI fin)) μ 0 [(0, vO a0), (1, vI x1), (2, vI x2), (3, vO a3)] [] := by
  unfold s_X0_mix at h
  refine r_aload_n C 3 dX0_mix_0 rfl rfl ?_
  refine r_iconst C dX0_mix_1 ?_
  refine r_aload_n C 0 dX0_mix_2 rfl rfl ?_
  refine r_iload_n C 1 dX0_mix_3 rfl rfl ?_
  refine r_iload_n C 2 dX0_mix_4 rfl rfl ?_
  obtain ⟨u4, eu4, h⟩ := bs h
  rcases xbs h with ⟨e2, eq1, h⟩ | ⟨q1, eq1, h⟩
  · refine r_xVx C (As := [vI x1, vI x2]) (b := a0) (rest := [vI 0, vO a3]) (μ1 := e2.2.2) (r := (RX1, TX1, 19)) (ci := 0) rfl eu4 (m_X1_mix C.tr eq1) (lw_V q855 q856 q857 q120 q858) rfl hdX1_mix rfl rfl (Nat.le_of_ble_eq_true rfl) ⟨by decide, by decide⟩ dX0_mix_5 ?_
    by_cases c3 : e2.1 = 3
    · have h := it_ h c3
      rw [c3]
      refine r_catch0 C X (by decide) (by decide) q763 (lw_n q808 rfl) ?_
      refine r_astore C [(4, vO e2.2.1), (0, vO a0), (1, vI x1), (2, vI x2), (3, vO a3)] dX0_mix_20 (by decide) rfl ?_
      refine r_iconst C dX0_mix_22 ?_
      cases h
      exact r_xiret C hK dX0_mix_23
    have h := ie_ h c3
    cases h
  · refine r_xV C (As := [vI x1, vI x2]) (b := a0) (rest := [vI 0, vO a3]) (st1 := [vI q1.1, vI 0, vO a3]) (v := some (vI q1.1)) (μ1 := q1.2) (r := (RX1, TX1, 19)) (ci := 0) rfl eu4 (m_X1_mix C.tr eq1) (lw_V q855 q856 q857 q120 q858) rfl hdX1_mix rfl rfl (Nat.le_of_ble_eq_true rfl) ⟨by decide, by decide⟩ dX0_mix_5 rfl ?_
    refine r_if_eq C dX0_mix_8 (tgt := 15) (by decide) (fun c5 => ?_) (fun c5 => ?_)
    · have h := it_ h c5
      refine r_lconst (v := 0) C dX0_mix_15 (by decide) ?_
      obtain ⟨m6, em6, h⟩ := bs h
      refine r_last C em6 dX0_mix_16 ?_
      refine r_goto C dX0_mix_17 (tgt := 24) (by decide) ?_
      refine r_iconst C dX0_mix_24 ?_
      cases h
      exact r_xiret C hK dX0_mix_25
    · have h := ie_ h c5
      refine r_lconst (v := 1) C dX0_mix_11 (by decide) ?_
      refine r_goto C dX0_mix_12 (tgt := 16) (by decide) ?_
      obtain ⟨m7, em7, h⟩ := bs h
      refine r_last C em7 dX0_mix_16 ?_
      refine r_goto C dX0_mix_17 (tgt := 24) (by decide) ?_
      refine r_iconst C dX0_mix_24 ?_
      cases h
      exact r_xiret C hK dX0_mix_25
theorem hdX0_mix : zhd yX0_mix 4 := by decide +kernel
theorem m_X0_mix {l : Launch} {D : va_G} {b0 : Nat} (hl : l.stackTraces = false) {a0 : Nat} {x1 : Int} {x2 : Int} {a3 : Nat} {μ : Me} {w : Ex ⊕ (Int × Me)} (h : s_X0_mix a0 x1 x2 a3 μ = some w) : XN l D b0 yX0_mix (wsW_ yX0_mix cX0_mix 5 (some .int) [((0 : Nat), (17 : Nat), (20 : Nat), (34 : Nat))]) 9 [vO a0, vI x1, vI x2, vO a3] μ (zoI w) (zmI w) :=
  XN.ofH hl (by decide +kernel) (Nat.le_of_ble_eq_true rfl) (fun Z C X _ _ => w_X0_mix C X h rfl)
noncomputable def s_X0_value (a0 : Nat) (x1 : Int) (x2 : Int) (x3 : Int) (a4 : Nat) (μ : Me) : Option (Ex ⊕ (Int × Me)) :=
  (ck μ 0 a0).bind fun _ =>
  xb (s_X1_value a0 x1 x2 x3 μ) (fun e2 => (if e2.1 = 3 then
  some (.inr (1, e2.2.2))
  else
  none)) fun q1 =>
  (uJ q1.2 a4 0 (w32 q1.1)).bind fun m5 =>
  some (.inr (0, m5))
theorem w_X0_value {Z : Zt} {fin : Ex ⊕ (Int × Me)} {w : Ex ⊕ (Int × Me)} (C : CX Z yX0_value cX0_value (some .int) 211 6) (X : XT Z [((0 : Nat), (12 : Nat), (15 : Nat), (34 : Nat))]) {a0 : Nat} {x1 : Int} {x2 : Int} {x3 : Int} {a4 : Nat} {μ : Me} (h : s_X0_value a0 x1 x2 x3 a4 μ = some w) (hK : w = fin) : WL Z (XQ Z (zoI fin) (zmI fin)) μ 0 [(0, vO a0), (1, vI x1), (2, vI x2), (3, vI x3), (4, vO a4)] [] := by
  unfold s_X0_value at h
  refine r_aload C 4 dX0_value_0 rfl ?_
  refine r_iconst C dX0_value_2 ?_
  refine r_aload_n C 0 dX0_value_3 rfl rfl ?_
  refine r_iload_n C 1 dX0_value_4 rfl rfl ?_
  refine r_iload_n C 2 dX0_value_5 rfl rfl ?_
  refine r_iload_n C 3 dX0_value_6 rfl rfl ?_
  obtain ⟨u4, eu4, h⟩ := bs h
  rcases xbs h with ⟨e2, eq1, h⟩ | ⟨q1, eq1, h⟩
  · refine r_xVx C (As := [vI x1, vI x2, vI x3]) (b := a0) (rest := [vI 0, vO a4]) (μ1 := e2.2.2) (r := (RX1, TX1, 19)) (ci := 0) rfl eu4 (m_X1_value C.tr eq1) (lw_V q880 q881 q882 q120 q883) rfl hdX1_value rfl rfl (Nat.le_of_ble_eq_true rfl) ⟨by decide, by decide⟩ dX0_value_7 ?_
    by_cases c3 : e2.1 = 3
    · have h := it_ h c3
      rw [c3]
      refine r_catch0 C X (by decide) (by decide) q763 (lw_n q808 rfl) ?_
      refine r_astore C [(5, vO e2.2.1), (0, vO a0), (1, vI x1), (2, vI x2), (3, vI x3), (4, vO a4)] dX0_value_15 (by decide) rfl ?_
      refine r_iconst C dX0_value_17 ?_
      cases h
      exact r_xiret C hK dX0_value_18
    have h := ie_ h c3
    cases h
  · refine r_xV C (As := [vI x1, vI x2, vI x3]) (b := a0) (rest := [vI 0, vO a4]) (st1 := [vI q1.1, vI 0, vO a4]) (v := some (vI q1.1)) (μ1 := q1.2) (r := (RX1, TX1, 19)) (ci := 0) rfl eu4 (m_X1_value C.tr eq1) (lw_V q880 q881 q882 q120 q883) rfl hdX1_value rfl rfl (Nat.le_of_ble_eq_true rfl) ⟨by decide, by decide⟩ dX0_value_7 rfl ?_
    refine r_i2l C dX0_value_10 ?_
    obtain ⟨m5, em5, h⟩ := bs h
    refine r_last C em5 dX0_value_11 ?_
    refine r_goto C dX0_value_12 (tgt := 19) (by decide) ?_
    refine r_iconst C dX0_value_19 ?_
    cases h
    exact r_xiret C hK dX0_value_20
theorem hdX0_value : zhd yX0_value 5 := by decide +kernel
theorem m_X0_value {l : Launch} {D : va_G} {b0 : Nat} (hl : l.stackTraces = false) {a0 : Nat} {x1 : Int} {x2 : Int} {x3 : Int} {a4 : Nat} {μ : Me} {w : Ex ⊕ (Int × Me)} (h : s_X0_value a0 x1 x2 x3 a4 μ = some w) : XN l D b0 yX0_value (wsW_ yX0_value cX0_value 6 (some .int) [((0 : Nat), (12 : Nat), (15 : Nat), (34 : Nat))]) 211 [vO a0, vI x1, vI x2, vI x3, vO a4] μ (zoI w) (zmI w) :=
  XN.ofH hl (by decide +kernel) (Nat.le_of_ble_eq_true rfl) (fun Z C X _ _ => w_X0_value C X h rfl)
noncomputable def s_X0_rank (a0 : Nat) (x1 : Int) (x2 : Int) (a3 : Nat) (μ : Me) : Option (Ex ⊕ (Int × Me)) :=
  (ck μ 0 a0).bind fun _ =>
  xb (s_X1_rank a0 x1 x2 μ) (fun e2 => (if e2.1 = 3 then
  some (.inr (1, e2.2.2))
  else
  none)) fun q1 =>
  (uJ q1.2 a3 0 (w32 q1.1)).bind fun m5 =>
  some (.inr (0, m5))
theorem w_X0_rank {Z : Zt} {fin : Ex ⊕ (Int × Me)} {w : Ex ⊕ (Int × Me)} (C : CX Z yX0_rank cX0_rank (some .int) 205 5) (X : XT Z [((0 : Nat), (10 : Nat), (13 : Nat), (34 : Nat))]) {a0 : Nat} {x1 : Int} {x2 : Int} {a3 : Nat} {μ : Me} (h : s_X0_rank a0 x1 x2 a3 μ = some w) (hK : w = fin) : WL Z (XQ Z (zoI fin) (zmI fin)) μ 0 [(0, vO a0), (1, vI x1), (2, vI x2), (3, vO a3)] [] := by
  unfold s_X0_rank at h
  refine r_aload_n C 3 dX0_rank_0 rfl rfl ?_
  refine r_iconst C dX0_rank_1 ?_
  refine r_aload_n C 0 dX0_rank_2 rfl rfl ?_
  refine r_iload_n C 1 dX0_rank_3 rfl rfl ?_
  refine r_iload_n C 2 dX0_rank_4 rfl rfl ?_
  obtain ⟨u4, eu4, h⟩ := bs h
  rcases xbs h with ⟨e2, eq1, h⟩ | ⟨q1, eq1, h⟩
  · refine r_xVx C (As := [vI x1, vI x2]) (b := a0) (rest := [vI 0, vO a3]) (μ1 := e2.2.2) (r := (RX1, TX1, 19)) (ci := 0) rfl eu4 (m_X1_rank C.tr eq1) (lw_V q959 q960 q961 q120 q962) rfl hdX1_rank rfl rfl (Nat.le_of_ble_eq_true rfl) ⟨by decide, by decide⟩ dX0_rank_5 ?_
    by_cases c3 : e2.1 = 3
    · have h := it_ h c3
      rw [c3]
      refine r_catch0 C X (by decide) (by decide) q763 (lw_n q808 rfl) ?_
      refine r_astore C [(4, vO e2.2.1), (0, vO a0), (1, vI x1), (2, vI x2), (3, vO a3)] dX0_rank_13 (by decide) rfl ?_
      refine r_iconst C dX0_rank_15 ?_
      cases h
      exact r_xiret C hK dX0_rank_16
    have h := ie_ h c3
    cases h
  · refine r_xV C (As := [vI x1, vI x2]) (b := a0) (rest := [vI 0, vO a3]) (st1 := [vI q1.1, vI 0, vO a3]) (v := some (vI q1.1)) (μ1 := q1.2) (r := (RX1, TX1, 19)) (ci := 0) rfl eu4 (m_X1_rank C.tr eq1) (lw_V q959 q960 q961 q120 q962) rfl hdX1_rank rfl rfl (Nat.le_of_ble_eq_true rfl) ⟨by decide, by decide⟩ dX0_rank_5 rfl ?_
    refine r_i2l C dX0_rank_8 ?_
    obtain ⟨m5, em5, h⟩ := bs h
    refine r_last C em5 dX0_rank_9 ?_
    refine r_goto C dX0_rank_10 (tgt := 17) (by decide) ?_
    refine r_iconst C dX0_rank_17 ?_
    cases h
    exact r_xiret C hK dX0_rank_18
theorem hdX0_rank : zhd yX0_rank 4 := by decide +kernel
theorem m_X0_rank {l : Launch} {D : va_G} {b0 : Nat} (hl : l.stackTraces = false) {a0 : Nat} {x1 : Int} {x2 : Int} {a3 : Nat} {μ : Me} {w : Ex ⊕ (Int × Me)} (h : s_X0_rank a0 x1 x2 a3 μ = some w) : XN l D b0 yX0_rank (wsW_ yX0_rank cX0_rank 5 (some .int) [((0 : Nat), (10 : Nat), (13 : Nat), (34 : Nat))]) 205 [vO a0, vI x1, vI x2, vO a3] μ (zoI w) (zmI w) :=
  XN.ofH hl (by decide +kernel) (Nat.le_of_ble_eq_true rfl) (fun Z C X _ _ => w_X0_rank C X h rfl)
noncomputable def s_X0_stays (a0 : Nat) (x1 : Int) (x2 : Int) (x3 : Int) (a4 : Nat) (μ : Me) : Option (Ex ⊕ (Int × Me)) :=
  (ck μ 0 a0).bind fun _ =>
  xb (s_X1_stays a0 x1 x2 x3 μ) (fun e2 => (if e2.1 = 3 then
  some (.inr (1, e2.2.2))
  else
  none)) fun q1 =>
  (if w32 q1.1 = 0 then
  (uJ q1.2 a4 0 0).bind fun m6 =>
  some (.inr (0, m6))
  else
  (uJ q1.2 a4 0 1).bind fun m7 =>
  some (.inr (0, m7)))
theorem w_X0_stays {Z : Zt} {fin : Ex ⊕ (Int × Me)} {w : Ex ⊕ (Int × Me)} (C : CX Z yX0_stays cX0_stays (some .int) 211 6) (X : XT Z [((0 : Nat), (19 : Nat), (22 : Nat), (34 : Nat))]) {a0 : Nat} {x1 : Int} {x2 : Int} {x3 : Int} {a4 : Nat} {μ : Me} (h : s_X0_stays a0 x1 x2 x3 a4 μ = some w) (hK : w = fin) : WL Z (XQ Z (zoI fin) (zmI fin)) μ 0 [(0, vO a0), (1, vI x1), (2, vI x2), (3, vI x3), (4, vO a4)] [] := by
  unfold s_X0_stays at h
  refine r_aload C 4 dX0_stays_0 rfl ?_
  refine r_iconst C dX0_stays_2 ?_
  refine r_aload_n C 0 dX0_stays_3 rfl rfl ?_
  refine r_iload_n C 1 dX0_stays_4 rfl rfl ?_
  refine r_iload_n C 2 dX0_stays_5 rfl rfl ?_
  refine r_iload_n C 3 dX0_stays_6 rfl rfl ?_
  obtain ⟨u4, eu4, h⟩ := bs h
  rcases xbs h with ⟨e2, eq1, h⟩ | ⟨q1, eq1, h⟩
  · refine r_xVx C (As := [vI x1, vI x2, vI x3]) (b := a0) (rest := [vI 0, vO a4]) (μ1 := e2.2.2) (r := (RX1, TX1, 19)) (ci := 0) rfl eu4 (m_X1_stays C.tr eq1) (lw_V q997 q998 q999 q120 q1000) rfl hdX1_stays rfl rfl (Nat.le_of_ble_eq_true rfl) ⟨by decide, by decide⟩ dX0_stays_7 ?_
    by_cases c3 : e2.1 = 3
    · have h := it_ h c3
      rw [c3]
      refine r_catch0 C X (by decide) (by decide) q763 (lw_n q808 rfl) ?_
      refine r_astore C [(5, vO e2.2.1), (0, vO a0), (1, vI x1), (2, vI x2), (3, vI x3), (4, vO a4)] dX0_stays_22 (by decide) rfl ?_
      refine r_iconst C dX0_stays_24 ?_
      cases h
      exact r_xiret C hK dX0_stays_25
    have h := ie_ h c3
    cases h
  · refine r_xV C (As := [vI x1, vI x2, vI x3]) (b := a0) (rest := [vI 0, vO a4]) (st1 := [vI q1.1, vI 0, vO a4]) (v := some (vI q1.1)) (μ1 := q1.2) (r := (RX1, TX1, 19)) (ci := 0) rfl eu4 (m_X1_stays C.tr eq1) (lw_V q997 q998 q999 q120 q1000) rfl hdX1_stays rfl rfl (Nat.le_of_ble_eq_true rfl) ⟨by decide, by decide⟩ dX0_stays_7 rfl ?_
    refine r_if_eq C dX0_stays_10 (tgt := 17) (by decide) (fun c5 => ?_) (fun c5 => ?_)
    · have h := it_ h c5
      refine r_lconst (v := 0) C dX0_stays_17 (by decide) ?_
      obtain ⟨m6, em6, h⟩ := bs h
      refine r_last C em6 dX0_stays_18 ?_
      refine r_goto C dX0_stays_19 (tgt := 26) (by decide) ?_
      refine r_iconst C dX0_stays_26 ?_
      cases h
      exact r_xiret C hK dX0_stays_27
    · have h := ie_ h c5
      refine r_lconst (v := 1) C dX0_stays_13 (by decide) ?_
      refine r_goto C dX0_stays_14 (tgt := 18) (by decide) ?_
      obtain ⟨m7, em7, h⟩ := bs h
      refine r_last C em7 dX0_stays_18 ?_
      refine r_goto C dX0_stays_19 (tgt := 26) (by decide) ?_
      refine r_iconst C dX0_stays_26 ?_
      cases h
      exact r_xiret C hK dX0_stays_27
theorem hdX0_stays : zhd yX0_stays 5 := by decide +kernel
theorem m_X0_stays {l : Launch} {D : va_G} {b0 : Nat} (hl : l.stackTraces = false) {a0 : Nat} {x1 : Int} {x2 : Int} {x3 : Int} {a4 : Nat} {μ : Me} {w : Ex ⊕ (Int × Me)} (h : s_X0_stays a0 x1 x2 x3 a4 μ = some w) : XN l D b0 yX0_stays (wsW_ yX0_stays cX0_stays 6 (some .int) [((0 : Nat), (19 : Nat), (22 : Nat), (34 : Nat))]) 211 [vO a0, vI x1, vI x2, vI x3, vO a4] μ (zoI w) (zmI w) :=
  XN.ofH hl (by decide +kernel) (Nat.le_of_ble_eq_true rfl) (fun Z C X _ _ => w_X0_stays C X h rfl)
noncomputable def s_X0_agree (a0 : Nat) (x1 : Int) (x2 : Int) (x3 : Int) (a4 : Nat) (μ : Me) : Option (Ex ⊕ (Int × Me)) :=
  (ck μ 0 a0).bind fun _ =>
  xb (s_X1_agree a0 x1 x2 x3 μ) (fun e2 => (if e2.1 = 3 then
  some (.inr (1, e2.2.2))
  else
  if e2.1 = 0 then
  some (.inr (2, e2.2.2))
  else
  none)) fun q1 =>
  (uJ q1.2 a4 0 (w32 q1.1)).bind fun m6 =>
  some (.inr (0, m6))
theorem w_X0_agree {Z : Zt} {fin : Ex ⊕ (Int × Me)} {w : Ex ⊕ (Int × Me)} (C : CX Z yX0_agree cX0_agree (some .int) 211 6) (X : XT Z [((0 : Nat), (12 : Nat), (15 : Nat), (34 : Nat)), ((0 : Nat), (12 : Nat), (19 : Nat), (13 : Nat))]) {a0 : Nat} {x1 : Int} {x2 : Int} {x3 : Int} {a4 : Nat} {μ : Me} (h : s_X0_agree a0 x1 x2 x3 a4 μ = some w) (hK : w = fin) : WL Z (XQ Z (zoI fin) (zmI fin)) μ 0 [(0, vO a0), (1, vI x1), (2, vI x2), (3, vI x3), (4, vO a4)] [] := by
  unfold s_X0_agree at h
  refine r_aload C 4 dX0_agree_0 rfl ?_
  refine r_iconst C dX0_agree_2 ?_
  refine r_aload_n C 0 dX0_agree_3 rfl rfl ?_
  refine r_iload_n C 1 dX0_agree_4 rfl rfl ?_
  refine r_iload_n C 2 dX0_agree_5 rfl rfl ?_
  refine r_iload_n C 3 dX0_agree_6 rfl rfl ?_
  obtain ⟨u5, eu5, h⟩ := bs h
  rcases xbs h with ⟨e2, eq1, h⟩ | ⟨q1, eq1, h⟩
  · refine r_xVx C (As := [vI x1, vI x2, vI x3]) (b := a0) (rest := [vI 0, vO a4]) (μ1 := e2.2.2) (r := (RX1, TX1, 19)) (ci := 0) rfl eu5 (m_X1_agree C.tr eq1) (lw_V q1005 q1006 q1007 q120 q1008) rfl hdX1_agree rfl rfl (Nat.le_of_ble_eq_true rfl) ⟨by decide, by decide⟩ dX0_agree_7 ?_
    by_cases c3 : e2.1 = 3
    · have h := it_ h c3
      rw [c3]
      refine r_catch0 C X (by decide) (by decide) q763 (lw_n q808 rfl) ?_
      refine r_astore C [(5, vO e2.2.1), (0, vO a0), (1, vI x1), (2, vI x2), (3, vI x3), (4, vO a4)] dX0_agree_15 (by decide) rfl ?_
      refine r_iconst C dX0_agree_17 ?_
      cases h
      exact r_xiret C hK dX0_agree_18
    have h := ie_ h c3
    by_cases c4 : e2.1 = 0
    · have h := it_ h c4
      rw [c4]
      refine r_catch1 C X (by decide) q763 (C.kt.2.2.2.2.2.2 0 3 (by decide) (by decide) (by decide)) (by decide) (by decide) q551 (lw_n q562 rfl) ?_
      refine r_astore C [(5, vO e2.2.1), (0, vO a0), (1, vI x1), (2, vI x2), (3, vI x3), (4, vO a4)] dX0_agree_19 (by decide) rfl ?_
      refine r_iconst C dX0_agree_21 ?_
      cases h
      exact r_xiret C hK dX0_agree_22
    have h := ie_ h c4
    cases h
  · refine r_xV C (As := [vI x1, vI x2, vI x3]) (b := a0) (rest := [vI 0, vO a4]) (st1 := [vI q1.1, vI 0, vO a4]) (v := some (vI q1.1)) (μ1 := q1.2) (r := (RX1, TX1, 19)) (ci := 0) rfl eu5 (m_X1_agree C.tr eq1) (lw_V q1005 q1006 q1007 q120 q1008) rfl hdX1_agree rfl rfl (Nat.le_of_ble_eq_true rfl) ⟨by decide, by decide⟩ dX0_agree_7 rfl ?_
    refine r_i2l C dX0_agree_10 ?_
    obtain ⟨m6, em6, h⟩ := bs h
    refine r_last C em6 dX0_agree_11 ?_
    refine r_goto C dX0_agree_12 (tgt := 23) (by decide) ?_
    refine r_iconst C dX0_agree_23 ?_
    cases h
    exact r_xiret C hK dX0_agree_24
theorem hdX0_agree : zhd yX0_agree 5 := by decide +kernel
theorem m_X0_agree {l : Launch} {D : va_G} {b0 : Nat} (hl : l.stackTraces = false) {a0 : Nat} {x1 : Int} {x2 : Int} {x3 : Int} {a4 : Nat} {μ : Me} {w : Ex ⊕ (Int × Me)} (h : s_X0_agree a0 x1 x2 x3 a4 μ = some w) : XN l D b0 yX0_agree (wsW_ yX0_agree cX0_agree 6 (some .int) [((0 : Nat), (12 : Nat), (15 : Nat), (34 : Nat)), ((0 : Nat), (12 : Nat), (19 : Nat), (13 : Nat))]) 211 [vO a0, vI x1, vI x2, vI x3, vO a4] μ (zoI w) (zmI w) :=
  XN.ofH hl (by decide +kernel) (Nat.le_of_ble_eq_true rfl) (fun Z C X _ _ => w_X0_agree C X h rfl)
noncomputable def s_X0_count (a0 : Nat) (x1 : Int) (x2 : Int) (x3 : Int) (a4 : Nat) (μ : Me) : Option (Ex ⊕ (Int × Me)) :=
  (ck μ 0 a0).bind fun _ =>
  xb (s_X1_count a0 x1 x2 x3 μ) (fun e2 => (if e2.1 = 0 then
  some (.inr (1, e2.2.2))
  else
  none)) fun q1 =>
  (uJ q1.2 a4 0 q1.1).bind fun m5 =>
  some (.inr (0, m5))
theorem w_X0_count {Z : Zt} {fin : Ex ⊕ (Int × Me)} {w : Ex ⊕ (Int × Me)} (C : CX Z yX0_count cX0_count (some .int) 35 6) (X : XT Z [((0 : Nat), (11 : Nat), (14 : Nat), (13 : Nat))]) {a0 : Nat} {x1 : Int} {x2 : Int} {x3 : Int} {a4 : Nat} {μ : Me} (h : s_X0_count a0 x1 x2 x3 a4 μ = some w) (hK : w = fin) : WL Z (XQ Z (zoI fin) (zmI fin)) μ 0 [(0, vO a0), (1, vI x1), (2, vI x2), (3, vI x3), (4, vO a4)] [] := by
  unfold s_X0_count at h
  refine r_aload C 4 dX0_count_0 rfl ?_
  refine r_iconst C dX0_count_2 ?_
  refine r_aload_n C 0 dX0_count_3 rfl rfl ?_
  refine r_iload_n C 1 dX0_count_4 rfl rfl ?_
  refine r_iload_n C 2 dX0_count_5 rfl rfl ?_
  refine r_iload_n C 3 dX0_count_6 rfl rfl ?_
  obtain ⟨u4, eu4, h⟩ := bs h
  rcases xbs h with ⟨e2, eq1, h⟩ | ⟨q1, eq1, h⟩
  · refine r_xVx C (As := [vI x1, vI x2, vI x3]) (b := a0) (rest := [vI 0, vO a4]) (μ1 := e2.2.2) (r := (RX1, TX1, 19)) (ci := 0) rfl eu4 (m_X1_count C.tr eq1) (lw_V q1013 q1014 q1015 q120 q1016) rfl hdX1_count rfl rfl (Nat.le_of_ble_eq_true rfl) ⟨by decide, by decide⟩ dX0_count_7 ?_
    by_cases c3 : e2.1 = 0
    · have h := it_ h c3
      rw [c3]
      refine r_catch0 C X (by decide) (by decide) q551 (lw_n q562 rfl) ?_
      refine r_astore C [(5, vO e2.2.1), (0, vO a0), (1, vI x1), (2, vI x2), (3, vI x3), (4, vO a4)] dX0_count_14 (by decide) rfl ?_
      refine r_iconst C dX0_count_16 ?_
      cases h
      exact r_xiret C hK dX0_count_17
    have h := ie_ h c3
    cases h
  · refine r_xV C (As := [vI x1, vI x2, vI x3]) (b := a0) (rest := [vI 0, vO a4]) (st1 := [vJ q1.1, vI 0, vO a4]) (v := some (vJ q1.1)) (μ1 := q1.2) (r := (RX1, TX1, 19)) (ci := 0) rfl eu4 (m_X1_count C.tr eq1) (lw_V q1013 q1014 q1015 q120 q1016) rfl hdX1_count rfl rfl (Nat.le_of_ble_eq_true rfl) ⟨by decide, by decide⟩ dX0_count_7 rfl ?_
    obtain ⟨m5, em5, h⟩ := bs h
    refine r_last C em5 dX0_count_10 ?_
    refine r_goto C dX0_count_11 (tgt := 18) (by decide) ?_
    refine r_iconst C dX0_count_18 ?_
    cases h
    exact r_xiret C hK dX0_count_19
theorem hdX0_count : zhd yX0_count 5 := by decide +kernel
theorem m_X0_count {l : Launch} {D : va_G} {b0 : Nat} (hl : l.stackTraces = false) {a0 : Nat} {x1 : Int} {x2 : Int} {x3 : Int} {a4 : Nat} {μ : Me} {w : Ex ⊕ (Int × Me)} (h : s_X0_count a0 x1 x2 x3 a4 μ = some w) : XN l D b0 yX0_count (wsW_ yX0_count cX0_count 6 (some .int) [((0 : Nat), (11 : Nat), (14 : Nat), (13 : Nat))]) 35 [vO a0, vI x1, vI x2, vI x3, vO a4] μ (zoI w) (zmI w) :=
  XN.ofH hl (by decide +kernel) (Nat.le_of_ble_eq_true rfl) (fun Z C X _ _ => w_X0_count C X h rfl)
noncomputable def s_X0_span (a0 : Nat) (x1 : Int) (x2 : Int) (x3 : Int) (a4 : Nat) (μ : Me) : Option (Ex ⊕ (Int × Me)) :=
  (ck μ 0 a0).bind fun _ =>
  xb (s_X1_span a0 x1 x2 x3 μ) (fun e2 => (if e2.1 = 0 then
  some (.inr (1, e2.2.2))
  else
  none)) fun q1 =>
  (uJ q1.2 a4 0 (w32 q1.1)).bind fun m5 =>
  some (.inr (0, m5))
theorem w_X0_span {Z : Zt} {fin : Ex ⊕ (Int × Me)} {w : Ex ⊕ (Int × Me)} (C : CX Z yX0_span cX0_span (some .int) 212 6) (X : XT Z [((0 : Nat), (12 : Nat), (15 : Nat), (13 : Nat))]) {a0 : Nat} {x1 : Int} {x2 : Int} {x3 : Int} {a4 : Nat} {μ : Me} (h : s_X0_span a0 x1 x2 x3 a4 μ = some w) (hK : w = fin) : WL Z (XQ Z (zoI fin) (zmI fin)) μ 0 [(0, vO a0), (1, vI x1), (2, vI x2), (3, vI x3), (4, vO a4)] [] := by
  unfold s_X0_span at h
  refine r_aload C 4 dX0_span_0 rfl ?_
  refine r_iconst C dX0_span_2 ?_
  refine r_aload_n C 0 dX0_span_3 rfl rfl ?_
  refine r_iload_n C 1 dX0_span_4 rfl rfl ?_
  refine r_iload_n C 2 dX0_span_5 rfl rfl ?_
  refine r_iload_n C 3 dX0_span_6 rfl rfl ?_
  obtain ⟨u4, eu4, h⟩ := bs h
  rcases xbs h with ⟨e2, eq1, h⟩ | ⟨q1, eq1, h⟩
  · refine r_xVx C (As := [vI x1, vI x2, vI x3]) (b := a0) (rest := [vI 0, vO a4]) (μ1 := e2.2.2) (r := (RX1, TX1, 19)) (ci := 0) rfl eu4 (m_X1_span C.tr eq1) (lw_V q1026 q1027 q1028 q120 q1029) rfl hdX1_span rfl rfl (Nat.le_of_ble_eq_true rfl) ⟨by decide, by decide⟩ dX0_span_7 ?_
    by_cases c3 : e2.1 = 0
    · have h := it_ h c3
      rw [c3]
      refine r_catch0 C X (by decide) (by decide) q551 (lw_n q562 rfl) ?_
      refine r_astore C [(5, vO e2.2.1), (0, vO a0), (1, vI x1), (2, vI x2), (3, vI x3), (4, vO a4)] dX0_span_15 (by decide) rfl ?_
      refine r_iconst C dX0_span_17 ?_
      cases h
      exact r_xiret C hK dX0_span_18
    have h := ie_ h c3
    cases h
  · refine r_xV C (As := [vI x1, vI x2, vI x3]) (b := a0) (rest := [vI 0, vO a4]) (st1 := [vI q1.1, vI 0, vO a4]) (v := some (vI q1.1)) (μ1 := q1.2) (r := (RX1, TX1, 19)) (ci := 0) rfl eu4 (m_X1_span C.tr eq1) (lw_V q1026 q1027 q1028 q120 q1029) rfl hdX1_span rfl rfl (Nat.le_of_ble_eq_true rfl) ⟨by decide, by decide⟩ dX0_span_7 rfl ?_
    refine r_i2l C dX0_span_10 ?_
    obtain ⟨m5, em5, h⟩ := bs h
    refine r_last C em5 dX0_span_11 ?_
    refine r_goto C dX0_span_12 (tgt := 19) (by decide) ?_
    refine r_iconst C dX0_span_19 ?_
    cases h
    exact r_xiret C hK dX0_span_20
theorem hdX0_span : zhd yX0_span 5 := by decide +kernel
theorem m_X0_span {l : Launch} {D : va_G} {b0 : Nat} (hl : l.stackTraces = false) {a0 : Nat} {x1 : Int} {x2 : Int} {x3 : Int} {a4 : Nat} {μ : Me} {w : Ex ⊕ (Int × Me)} (h : s_X0_span a0 x1 x2 x3 a4 μ = some w) : XN l D b0 yX0_span (wsW_ yX0_span cX0_span 6 (some .int) [((0 : Nat), (12 : Nat), (15 : Nat), (13 : Nat))]) 212 [vO a0, vI x1, vI x2, vI x3, vO a4] μ (zoI w) (zmI w) :=
  XN.ofH hl (by decide +kernel) (Nat.le_of_ble_eq_true rfl) (fun Z C X _ _ => w_X0_span C X h rfl)
noncomputable def s_X0_basis (a0 : Nat) (x1 : Int) (x2 : Int) (x3 : Int) (a4 : Nat) (μ : Me) : Option (Ex ⊕ (Int × Me)) :=
  (ck μ 0 a0).bind fun _ =>
  xb (s_X1_basis a0 x1 x2 x3 μ) (fun e2 => (if e2.1 = 0 then
  some (.inr (1, e2.2.2))
  else
  none)) fun q1 =>
  (uJ q1.2 a4 0 (w32 q1.1)).bind fun m5 =>
  some (.inr (0, m5))
theorem w_X0_basis {Z : Zt} {fin : Ex ⊕ (Int × Me)} {w : Ex ⊕ (Int × Me)} (C : CX Z yX0_basis cX0_basis (some .int) 212 6) (X : XT Z [((0 : Nat), (12 : Nat), (15 : Nat), (13 : Nat))]) {a0 : Nat} {x1 : Int} {x2 : Int} {x3 : Int} {a4 : Nat} {μ : Me} (h : s_X0_basis a0 x1 x2 x3 a4 μ = some w) (hK : w = fin) : WL Z (XQ Z (zoI fin) (zmI fin)) μ 0 [(0, vO a0), (1, vI x1), (2, vI x2), (3, vI x3), (4, vO a4)] [] := by
  unfold s_X0_basis at h
  refine r_aload C 4 dX0_basis_0 rfl ?_
  refine r_iconst C dX0_basis_2 ?_
  refine r_aload_n C 0 dX0_basis_3 rfl rfl ?_
  refine r_iload_n C 1 dX0_basis_4 rfl rfl ?_
  refine r_iload_n C 2 dX0_basis_5 rfl rfl ?_
  refine r_iload_n C 3 dX0_basis_6 rfl rfl ?_
  obtain ⟨u4, eu4, h⟩ := bs h
  rcases xbs h with ⟨e2, eq1, h⟩ | ⟨q1, eq1, h⟩
  · refine r_xVx C (As := [vI x1, vI x2, vI x3]) (b := a0) (rest := [vI 0, vO a4]) (μ1 := e2.2.2) (r := (RX1, TX1, 19)) (ci := 0) rfl eu4 (m_X1_basis C.tr eq1) (lw_V q1047 q1048 q1049 q120 q1050) rfl hdX1_basis rfl rfl (Nat.le_of_ble_eq_true rfl) ⟨by decide, by decide⟩ dX0_basis_7 ?_
    by_cases c3 : e2.1 = 0
    · have h := it_ h c3
      rw [c3]
      refine r_catch0 C X (by decide) (by decide) q551 (lw_n q562 rfl) ?_
      refine r_astore C [(5, vO e2.2.1), (0, vO a0), (1, vI x1), (2, vI x2), (3, vI x3), (4, vO a4)] dX0_basis_15 (by decide) rfl ?_
      refine r_iconst C dX0_basis_17 ?_
      cases h
      exact r_xiret C hK dX0_basis_18
    have h := ie_ h c3
    cases h
  · refine r_xV C (As := [vI x1, vI x2, vI x3]) (b := a0) (rest := [vI 0, vO a4]) (st1 := [vI q1.1, vI 0, vO a4]) (v := some (vI q1.1)) (μ1 := q1.2) (r := (RX1, TX1, 19)) (ci := 0) rfl eu4 (m_X1_basis C.tr eq1) (lw_V q1047 q1048 q1049 q120 q1050) rfl hdX1_basis rfl rfl (Nat.le_of_ble_eq_true rfl) ⟨by decide, by decide⟩ dX0_basis_7 rfl ?_
    refine r_i2l C dX0_basis_10 ?_
    obtain ⟨m5, em5, h⟩ := bs h
    refine r_last C em5 dX0_basis_11 ?_
    refine r_goto C dX0_basis_12 (tgt := 19) (by decide) ?_
    refine r_iconst C dX0_basis_19 ?_
    cases h
    exact r_xiret C hK dX0_basis_20
theorem hdX0_basis : zhd yX0_basis 5 := by decide +kernel
theorem m_X0_basis {l : Launch} {D : va_G} {b0 : Nat} (hl : l.stackTraces = false) {a0 : Nat} {x1 : Int} {x2 : Int} {x3 : Int} {a4 : Nat} {μ : Me} {w : Ex ⊕ (Int × Me)} (h : s_X0_basis a0 x1 x2 x3 a4 μ = some w) : XN l D b0 yX0_basis (wsW_ yX0_basis cX0_basis 6 (some .int) [((0 : Nat), (12 : Nat), (15 : Nat), (13 : Nat))]) 212 [vO a0, vI x1, vI x2, vI x3, vO a4] μ (zoI w) (zmI w) :=
  XN.ofH hl (by decide +kernel) (Nat.le_of_ble_eq_true rfl) (fun Z C X _ _ => w_X0_basis C X h rfl)
noncomputable def s_X0_kind (a0 : Nat) (x1 : Int) (a2 : Nat) (μ : Me) : Option (Ex ⊕ (Int × Me)) :=
  (ck μ 0 a0).bind fun _ =>
  xb (s_X1_kind a0 x1 μ) (fun e2 => (if e2.1 = 3 then
  some (.inr (1, e2.2.2))
  else
  none)) fun q1 =>
  (uJ q1.2 a2 0 (w32 q1.1)).bind fun m5 =>
  some (.inr (0, m5))
theorem w_X0_kind {Z : Zt} {fin : Ex ⊕ (Int × Me)} {w : Ex ⊕ (Int × Me)} (C : CX Z yX0_kind cX0_kind (some .int) 9 4) (X : XT Z [((0 : Nat), (9 : Nat), (12 : Nat), (34 : Nat))]) {a0 : Nat} {x1 : Int} {a2 : Nat} {μ : Me} (h : s_X0_kind a0 x1 a2 μ = some w) (hK : w = fin) : WL Z (XQ Z (zoI fin) (zmI fin)) μ 0 [(0, vO a0), (1, vI x1), (2, vO a2)] [] := by
  unfold s_X0_kind at h
  refine r_aload_n C 2 dX0_kind_0 rfl rfl ?_
  refine r_iconst C dX0_kind_1 ?_
  refine r_aload_n C 0 dX0_kind_2 rfl rfl ?_
  refine r_iload_n C 1 dX0_kind_3 rfl rfl ?_
  obtain ⟨u4, eu4, h⟩ := bs h
  rcases xbs h with ⟨e2, eq1, h⟩ | ⟨q1, eq1, h⟩
  · refine r_xVx C (As := [vI x1]) (b := a0) (rest := [vI 0, vO a2]) (μ1 := e2.2.2) (r := (RX1, TX1, 19)) (ci := 0) rfl eu4 (m_X1_kind C.tr eq1) (lw_V q1054 q1055 q1056 q120 q1057) rfl hdX1_kind rfl rfl (Nat.le_of_ble_eq_true rfl) ⟨by decide, by decide⟩ dX0_kind_4 ?_
    by_cases c3 : e2.1 = 3
    · have h := it_ h c3
      rw [c3]
      refine r_catch0 C X (by decide) (by decide) q763 (lw_n q808 rfl) ?_
      refine r_astore_n C [(3, vO e2.2.1), (0, vO a0), (1, vI x1), (2, vO a2)] dX0_kind_12 rfl (by decide) rfl ?_
      refine r_iconst C dX0_kind_13 ?_
      cases h
      exact r_xiret C hK dX0_kind_14
    have h := ie_ h c3
    cases h
  · refine r_xV C (As := [vI x1]) (b := a0) (rest := [vI 0, vO a2]) (st1 := [vI q1.1, vI 0, vO a2]) (v := some (vI q1.1)) (μ1 := q1.2) (r := (RX1, TX1, 19)) (ci := 0) rfl eu4 (m_X1_kind C.tr eq1) (lw_V q1054 q1055 q1056 q120 q1057) rfl hdX1_kind rfl rfl (Nat.le_of_ble_eq_true rfl) ⟨by decide, by decide⟩ dX0_kind_4 rfl ?_
    refine r_i2l C dX0_kind_7 ?_
    obtain ⟨m5, em5, h⟩ := bs h
    refine r_last C em5 dX0_kind_8 ?_
    refine r_goto C dX0_kind_9 (tgt := 15) (by decide) ?_
    refine r_iconst C dX0_kind_15 ?_
    cases h
    exact r_xiret C hK dX0_kind_16
theorem hdX0_kind : zhd yX0_kind 3 := by decide +kernel
theorem m_X0_kind {l : Launch} {D : va_G} {b0 : Nat} (hl : l.stackTraces = false) {a0 : Nat} {x1 : Int} {a2 : Nat} {μ : Me} {w : Ex ⊕ (Int × Me)} (h : s_X0_kind a0 x1 a2 μ = some w) : XN l D b0 yX0_kind (wsW_ yX0_kind cX0_kind 4 (some .int) [((0 : Nat), (9 : Nat), (12 : Nat), (34 : Nat))]) 9 [vO a0, vI x1, vO a2] μ (zoI w) (zmI w) :=
  XN.ofH hl (by decide +kernel) (Nat.le_of_ble_eq_true rfl) (fun Z C X _ _ => w_X0_kind C X h rfl)
noncomputable def s_X0_orbit (a0 : Nat) (x1 : Int) (a2 : Nat) (μ : Me) : Option (Ex ⊕ (Int × Me)) :=
  (ck μ 0 a0).bind fun _ =>
  xb (s_X1_orbit a0 x1 μ) (fun e2 => (if e2.1 = 3 then
  some (.inr (1, e2.2.2))
  else
  none)) fun q1 =>
  (uJ q1.2 a2 0 (w32 q1.1)).bind fun m5 =>
  some (.inr (0, m5))
theorem w_X0_orbit {Z : Zt} {fin : Ex ⊕ (Int × Me)} {w : Ex ⊕ (Int × Me)} (C : CX Z yX0_orbit cX0_orbit (some .int) 9 4) (X : XT Z [((0 : Nat), (9 : Nat), (12 : Nat), (34 : Nat))]) {a0 : Nat} {x1 : Int} {a2 : Nat} {μ : Me} (h : s_X0_orbit a0 x1 a2 μ = some w) (hK : w = fin) : WL Z (XQ Z (zoI fin) (zmI fin)) μ 0 [(0, vO a0), (1, vI x1), (2, vO a2)] [] := by
  unfold s_X0_orbit at h
  refine r_aload_n C 2 dX0_orbit_0 rfl rfl ?_
  refine r_iconst C dX0_orbit_1 ?_
  refine r_aload_n C 0 dX0_orbit_2 rfl rfl ?_
  refine r_iload_n C 1 dX0_orbit_3 rfl rfl ?_
  obtain ⟨u4, eu4, h⟩ := bs h
  rcases xbs h with ⟨e2, eq1, h⟩ | ⟨q1, eq1, h⟩
  · refine r_xVx C (As := [vI x1]) (b := a0) (rest := [vI 0, vO a2]) (μ1 := e2.2.2) (r := (RX1, TX1, 19)) (ci := 0) rfl eu4 (m_X1_orbit C.tr eq1) (lw_V q1065 q1066 q1067 q120 q1068) rfl hdX1_orbit rfl rfl (Nat.le_of_ble_eq_true rfl) ⟨by decide, by decide⟩ dX0_orbit_4 ?_
    by_cases c3 : e2.1 = 3
    · have h := it_ h c3
      rw [c3]
      refine r_catch0 C X (by decide) (by decide) q763 (lw_n q808 rfl) ?_
      refine r_astore_n C [(3, vO e2.2.1), (0, vO a0), (1, vI x1), (2, vO a2)] dX0_orbit_12 rfl (by decide) rfl ?_
      refine r_iconst C dX0_orbit_13 ?_
      cases h
      exact r_xiret C hK dX0_orbit_14
    have h := ie_ h c3
    cases h
  · refine r_xV C (As := [vI x1]) (b := a0) (rest := [vI 0, vO a2]) (st1 := [vI q1.1, vI 0, vO a2]) (v := some (vI q1.1)) (μ1 := q1.2) (r := (RX1, TX1, 19)) (ci := 0) rfl eu4 (m_X1_orbit C.tr eq1) (lw_V q1065 q1066 q1067 q120 q1068) rfl hdX1_orbit rfl rfl (Nat.le_of_ble_eq_true rfl) ⟨by decide, by decide⟩ dX0_orbit_4 rfl ?_
    refine r_i2l C dX0_orbit_7 ?_
    obtain ⟨m5, em5, h⟩ := bs h
    refine r_last C em5 dX0_orbit_8 ?_
    refine r_goto C dX0_orbit_9 (tgt := 15) (by decide) ?_
    refine r_iconst C dX0_orbit_15 ?_
    cases h
    exact r_xiret C hK dX0_orbit_16
theorem hdX0_orbit : zhd yX0_orbit 3 := by decide +kernel
theorem m_X0_orbit {l : Launch} {D : va_G} {b0 : Nat} (hl : l.stackTraces = false) {a0 : Nat} {x1 : Int} {a2 : Nat} {μ : Me} {w : Ex ⊕ (Int × Me)} (h : s_X0_orbit a0 x1 a2 μ = some w) : XN l D b0 yX0_orbit (wsW_ yX0_orbit cX0_orbit 4 (some .int) [((0 : Nat), (9 : Nat), (12 : Nat), (34 : Nat))]) 9 [vO a0, vI x1, vO a2] μ (zoI w) (zmI w) :=
  XN.ofH hl (by decide +kernel) (Nat.le_of_ble_eq_true rfl) (fun Z C X _ _ => w_X0_orbit C X h rfl)
noncomputable def s_X0_join (a0 : Nat) (x1 : Int) (x2 : Int) (a3 : Nat) (μ : Me) : Option (Ex ⊕ (Int × Me)) :=
  (ck μ 0 a0).bind fun _ =>
  xb (s_X1_join a0 x1 x2 μ) (fun e2 => (if e2.1 = 3 then
  some (.inr (1, e2.2.2))
  else
  if e2.1 = 2 then
  some (.inr (2, e2.2.2))
  else
  none)) fun q1 =>
  (uJ q1.2 a3 0 (w32 q1.1)).bind fun m6 =>
  some (.inr (0, m6))
theorem w_X0_join {Z : Zt} {fin : Ex ⊕ (Int × Me)} {w : Ex ⊕ (Int × Me)} (C : CX Z yX0_join cX0_join (some .int) 9 5) (X : XT Z [((0 : Nat), (10 : Nat), (13 : Nat), (34 : Nat)), ((0 : Nat), (10 : Nat), (17 : Nat), (21 : Nat))]) {a0 : Nat} {x1 : Int} {x2 : Int} {a3 : Nat} {μ : Me} (h : s_X0_join a0 x1 x2 a3 μ = some w) (hK : w = fin) : WL Z (XQ Z (zoI fin) (zmI fin)) μ 0 [(0, vO a0), (1, vI x1), (2, vI x2), (3, vO a3)] [] := by
  unfold s_X0_join at h
  refine r_aload_n C 3 dX0_join_0 rfl rfl ?_
  refine r_iconst C dX0_join_1 ?_
  refine r_aload_n C 0 dX0_join_2 rfl rfl ?_
  refine r_iload_n C 1 dX0_join_3 rfl rfl ?_
  refine r_iload_n C 2 dX0_join_4 rfl rfl ?_
  obtain ⟨u5, eu5, h⟩ := bs h
  rcases xbs h with ⟨e2, eq1, h⟩ | ⟨q1, eq1, h⟩
  · refine r_xVx C (As := [vI x1, vI x2]) (b := a0) (rest := [vI 0, vO a3]) (μ1 := e2.2.2) (r := (RX1, TX1, 19)) (ci := 0) rfl eu5 (m_X1_join C.tr eq1) (lw_V q1072 q1073 q1074 q120 q1075) rfl hdX1_join rfl rfl (Nat.le_of_ble_eq_true rfl) ⟨by decide, by decide⟩ dX0_join_5 ?_
    by_cases c3 : e2.1 = 3
    · have h := it_ h c3
      rw [c3]
      refine r_catch0 C X (by decide) (by decide) q763 (lw_n q808 rfl) ?_
      refine r_astore C [(4, vO e2.2.1), (0, vO a0), (1, vI x1), (2, vI x2), (3, vO a3)] dX0_join_13 (by decide) rfl ?_
      refine r_iconst C dX0_join_15 ?_
      cases h
      exact r_xiret C hK dX0_join_16
    have h := ie_ h c3
    by_cases c4 : e2.1 = 2
    · have h := it_ h c4
      rw [c4]
      refine r_catch1 C X (by decide) q763 (C.kt.2.2.2.2.2.2 2 3 (by decide) (by decide) (by decide)) (by decide) (by decide) q599 (lw_n q614 rfl) ?_
      refine r_astore C [(4, vO e2.2.1), (0, vO a0), (1, vI x1), (2, vI x2), (3, vO a3)] dX0_join_17 (by decide) rfl ?_
      refine r_iconst C dX0_join_19 ?_
      cases h
      exact r_xiret C hK dX0_join_20
    have h := ie_ h c4
    cases h
  · refine r_xV C (As := [vI x1, vI x2]) (b := a0) (rest := [vI 0, vO a3]) (st1 := [vI q1.1, vI 0, vO a3]) (v := some (vI q1.1)) (μ1 := q1.2) (r := (RX1, TX1, 19)) (ci := 0) rfl eu5 (m_X1_join C.tr eq1) (lw_V q1072 q1073 q1074 q120 q1075) rfl hdX1_join rfl rfl (Nat.le_of_ble_eq_true rfl) ⟨by decide, by decide⟩ dX0_join_5 rfl ?_
    refine r_i2l C dX0_join_8 ?_
    obtain ⟨m6, em6, h⟩ := bs h
    refine r_last C em6 dX0_join_9 ?_
    refine r_goto C dX0_join_10 (tgt := 21) (by decide) ?_
    refine r_iconst C dX0_join_21 ?_
    cases h
    exact r_xiret C hK dX0_join_22
theorem hdX0_join : zhd yX0_join 4 := by decide +kernel
theorem m_X0_join {l : Launch} {D : va_G} {b0 : Nat} (hl : l.stackTraces = false) {a0 : Nat} {x1 : Int} {x2 : Int} {a3 : Nat} {μ : Me} {w : Ex ⊕ (Int × Me)} (h : s_X0_join a0 x1 x2 a3 μ = some w) : XN l D b0 yX0_join (wsW_ yX0_join cX0_join 5 (some .int) [((0 : Nat), (10 : Nat), (13 : Nat), (34 : Nat)), ((0 : Nat), (10 : Nat), (17 : Nat), (21 : Nat))]) 9 [vO a0, vI x1, vI x2, vO a3] μ (zoI w) (zmI w) :=
  XN.ofH hl (by decide +kernel) (Nat.le_of_ble_eq_true rfl) (fun Z C X _ _ => w_X0_join C X h rfl)
noncomputable def s_X0_turn (a0 : Nat) (x1 : Int) (a2 : Nat) (μ : Me) : Option (Ex ⊕ (Int × Me)) :=
  (ck μ 0 a0).bind fun _ =>
  xb (s_X1_turn a0 x1 μ) (fun e2 => (if e2.1 = 3 then
  some (.inr (1, e2.2.2))
  else
  if e2.1 = 2 then
  some (.inr (2, e2.2.2))
  else
  none)) fun q1 =>
  (uJ q1.2 a2 0 (w32 q1.1)).bind fun m6 =>
  some (.inr (0, m6))
theorem w_X0_turn {Z : Zt} {fin : Ex ⊕ (Int × Me)} {w : Ex ⊕ (Int × Me)} (C : CX Z yX0_turn cX0_turn (some .int) 9 4) (X : XT Z [((0 : Nat), (9 : Nat), (12 : Nat), (34 : Nat)), ((0 : Nat), (9 : Nat), (15 : Nat), (21 : Nat))]) {a0 : Nat} {x1 : Int} {a2 : Nat} {μ : Me} (h : s_X0_turn a0 x1 a2 μ = some w) (hK : w = fin) : WL Z (XQ Z (zoI fin) (zmI fin)) μ 0 [(0, vO a0), (1, vI x1), (2, vO a2)] [] := by
  unfold s_X0_turn at h
  refine r_aload_n C 2 dX0_turn_0 rfl rfl ?_
  refine r_iconst C dX0_turn_1 ?_
  refine r_aload_n C 0 dX0_turn_2 rfl rfl ?_
  refine r_iload_n C 1 dX0_turn_3 rfl rfl ?_
  obtain ⟨u5, eu5, h⟩ := bs h
  rcases xbs h with ⟨e2, eq1, h⟩ | ⟨q1, eq1, h⟩
  · refine r_xVx C (As := [vI x1]) (b := a0) (rest := [vI 0, vO a2]) (μ1 := e2.2.2) (r := (RX1, TX1, 19)) (ci := 0) rfl eu5 (m_X1_turn C.tr eq1) (lw_V q1087 q1088 q1089 q120 q1090) rfl hdX1_turn rfl rfl (Nat.le_of_ble_eq_true rfl) ⟨by decide, by decide⟩ dX0_turn_4 ?_
    by_cases c3 : e2.1 = 3
    · have h := it_ h c3
      rw [c3]
      refine r_catch0 C X (by decide) (by decide) q763 (lw_n q808 rfl) ?_
      refine r_astore_n C [(3, vO e2.2.1), (0, vO a0), (1, vI x1), (2, vO a2)] dX0_turn_12 rfl (by decide) rfl ?_
      refine r_iconst C dX0_turn_13 ?_
      cases h
      exact r_xiret C hK dX0_turn_14
    have h := ie_ h c3
    by_cases c4 : e2.1 = 2
    · have h := it_ h c4
      rw [c4]
      refine r_catch1 C X (by decide) q763 (C.kt.2.2.2.2.2.2 2 3 (by decide) (by decide) (by decide)) (by decide) (by decide) q599 (lw_n q614 rfl) ?_
      refine r_astore_n C [(3, vO e2.2.1), (0, vO a0), (1, vI x1), (2, vO a2)] dX0_turn_15 rfl (by decide) rfl ?_
      refine r_iconst C dX0_turn_16 ?_
      cases h
      exact r_xiret C hK dX0_turn_17
    have h := ie_ h c4
    cases h
  · refine r_xV C (As := [vI x1]) (b := a0) (rest := [vI 0, vO a2]) (st1 := [vI q1.1, vI 0, vO a2]) (v := some (vI q1.1)) (μ1 := q1.2) (r := (RX1, TX1, 19)) (ci := 0) rfl eu5 (m_X1_turn C.tr eq1) (lw_V q1087 q1088 q1089 q120 q1090) rfl hdX1_turn rfl rfl (Nat.le_of_ble_eq_true rfl) ⟨by decide, by decide⟩ dX0_turn_4 rfl ?_
    refine r_i2l C dX0_turn_7 ?_
    obtain ⟨m6, em6, h⟩ := bs h
    refine r_last C em6 dX0_turn_8 ?_
    refine r_goto C dX0_turn_9 (tgt := 18) (by decide) ?_
    refine r_iconst C dX0_turn_18 ?_
    cases h
    exact r_xiret C hK dX0_turn_19
theorem hdX0_turn : zhd yX0_turn 3 := by decide +kernel
theorem m_X0_turn {l : Launch} {D : va_G} {b0 : Nat} (hl : l.stackTraces = false) {a0 : Nat} {x1 : Int} {a2 : Nat} {μ : Me} {w : Ex ⊕ (Int × Me)} (h : s_X0_turn a0 x1 a2 μ = some w) : XN l D b0 yX0_turn (wsW_ yX0_turn cX0_turn 4 (some .int) [((0 : Nat), (9 : Nat), (12 : Nat), (34 : Nat)), ((0 : Nat), (9 : Nat), (15 : Nat), (21 : Nat))]) 9 [vO a0, vI x1, vO a2] μ (zoI w) (zmI w) :=
  XN.ofH hl (by decide +kernel) (Nat.le_of_ble_eq_true rfl) (fun Z C X _ _ => w_X0_turn C X h rfl)
noncomputable def s_X0_told (a0 : Nat) (x1 : Int) (x2 : Int) (a3 : Nat) (μ : Me) : Option (Ex ⊕ (Int × Me)) :=
  (ck μ 0 a0).bind fun _ =>
  xb (s_X1_told a0 x1 x2 μ) (fun e2 => (if e2.1 = 3 then
  some (.inr (1, e2.2.2))
  else
  none)) fun q1 =>
  (uJ q1.2 a3 0 (w32 q1.1)).bind fun m5 =>
  some (.inr (0, m5))
theorem w_X0_told {Z : Zt} {fin : Ex ⊕ (Int × Me)} {w : Ex ⊕ (Int × Me)} (C : CX Z yX0_told cX0_told (some .int) 9 5) (X : XT Z [((0 : Nat), (10 : Nat), (13 : Nat), (34 : Nat))]) {a0 : Nat} {x1 : Int} {x2 : Int} {a3 : Nat} {μ : Me} (h : s_X0_told a0 x1 x2 a3 μ = some w) (hK : w = fin) : WL Z (XQ Z (zoI fin) (zmI fin)) μ 0 [(0, vO a0), (1, vI x1), (2, vI x2), (3, vO a3)] [] := by
  unfold s_X0_told at h
  refine r_aload_n C 3 dX0_told_0 rfl rfl ?_
  refine r_iconst C dX0_told_1 ?_
  refine r_aload_n C 0 dX0_told_2 rfl rfl ?_
  refine r_iload_n C 1 dX0_told_3 rfl rfl ?_
  refine r_iload_n C 2 dX0_told_4 rfl rfl ?_
  obtain ⟨u4, eu4, h⟩ := bs h
  rcases xbs h with ⟨e2, eq1, h⟩ | ⟨q1, eq1, h⟩
  · refine r_xVx C (As := [vI x1, vI x2]) (b := a0) (rest := [vI 0, vO a3]) (μ1 := e2.2.2) (r := (RX1, TX1, 19)) (ci := 0) rfl eu4 (m_X1_told C.tr eq1) (lw_V q1094 q1095 q1096 q120 q1097) rfl hdX1_told rfl rfl (Nat.le_of_ble_eq_true rfl) ⟨by decide, by decide⟩ dX0_told_5 ?_
    by_cases c3 : e2.1 = 3
    · have h := it_ h c3
      rw [c3]
      refine r_catch0 C X (by decide) (by decide) q763 (lw_n q808 rfl) ?_
      refine r_astore C [(4, vO e2.2.1), (0, vO a0), (1, vI x1), (2, vI x2), (3, vO a3)] dX0_told_13 (by decide) rfl ?_
      refine r_iconst C dX0_told_15 ?_
      cases h
      exact r_xiret C hK dX0_told_16
    have h := ie_ h c3
    cases h
  · refine r_xV C (As := [vI x1, vI x2]) (b := a0) (rest := [vI 0, vO a3]) (st1 := [vI q1.1, vI 0, vO a3]) (v := some (vI q1.1)) (μ1 := q1.2) (r := (RX1, TX1, 19)) (ci := 0) rfl eu4 (m_X1_told C.tr eq1) (lw_V q1094 q1095 q1096 q120 q1097) rfl hdX1_told rfl rfl (Nat.le_of_ble_eq_true rfl) ⟨by decide, by decide⟩ dX0_told_5 rfl ?_
    refine r_i2l C dX0_told_8 ?_
    obtain ⟨m5, em5, h⟩ := bs h
    refine r_last C em5 dX0_told_9 ?_
    refine r_goto C dX0_told_10 (tgt := 17) (by decide) ?_
    refine r_iconst C dX0_told_17 ?_
    cases h
    exact r_xiret C hK dX0_told_18
theorem hdX0_told : zhd yX0_told 4 := by decide +kernel
theorem m_X0_told {l : Launch} {D : va_G} {b0 : Nat} (hl : l.stackTraces = false) {a0 : Nat} {x1 : Int} {x2 : Int} {a3 : Nat} {μ : Me} {w : Ex ⊕ (Int × Me)} (h : s_X0_told a0 x1 x2 a3 μ = some w) : XN l D b0 yX0_told (wsW_ yX0_told cX0_told 5 (some .int) [((0 : Nat), (10 : Nat), (13 : Nat), (34 : Nat))]) 9 [vO a0, vI x1, vI x2, vO a3] μ (zoI w) (zmI w) :=
  XN.ofH hl (by decide +kernel) (Nat.le_of_ble_eq_true rfl) (fun Z C X _ _ => w_X0_told C X h rfl)
noncomputable def s_X0_quotient (a0 : Nat) (x1 : Int) (x2 : Int) (x3 : Int) (a4 : Nat) (μ : Me) : Option (Ex ⊕ (Int × Me)) :=
  (ck μ 0 a0).bind fun _ =>
  xb (s_X1_quotient a0 x1 x2 x3 μ) (fun e2 => (if e2.1 = 3 then
  some (.inr (1, e2.2.2))
  else
  none)) fun q1 =>
  (uJ q1.2 a4 0 (w32 q1.1)).bind fun m5 =>
  some (.inr (0, m5))
theorem w_X0_quotient {Z : Zt} {fin : Ex ⊕ (Int × Me)} {w : Ex ⊕ (Int × Me)} (C : CX Z yX0_quotient cX0_quotient (some .int) 9 6) (X : XT Z [((0 : Nat), (12 : Nat), (15 : Nat), (34 : Nat))]) {a0 : Nat} {x1 : Int} {x2 : Int} {x3 : Int} {a4 : Nat} {μ : Me} (h : s_X0_quotient a0 x1 x2 x3 a4 μ = some w) (hK : w = fin) : WL Z (XQ Z (zoI fin) (zmI fin)) μ 0 [(0, vO a0), (1, vI x1), (2, vI x2), (3, vI x3), (4, vO a4)] [] := by
  unfold s_X0_quotient at h
  refine r_aload C 4 dX0_quotient_0 rfl ?_
  refine r_iconst C dX0_quotient_2 ?_
  refine r_aload_n C 0 dX0_quotient_3 rfl rfl ?_
  refine r_iload_n C 1 dX0_quotient_4 rfl rfl ?_
  refine r_iload_n C 2 dX0_quotient_5 rfl rfl ?_
  refine r_iload_n C 3 dX0_quotient_6 rfl rfl ?_
  obtain ⟨u4, eu4, h⟩ := bs h
  rcases xbs h with ⟨e2, eq1, h⟩ | ⟨q1, eq1, h⟩
  · refine r_xVx C (As := [vI x1, vI x2, vI x3]) (b := a0) (rest := [vI 0, vO a4]) (μ1 := e2.2.2) (r := (RX1, TX1, 19)) (ci := 0) rfl eu4 (m_X1_quotient C.tr eq1) (lw_V q1102 q1103 q1104 q120 q1105) rfl hdX1_quotient rfl rfl (Nat.le_of_ble_eq_true rfl) ⟨by decide, by decide⟩ dX0_quotient_7 ?_
    by_cases c3 : e2.1 = 3
    · have h := it_ h c3
      rw [c3]
      refine r_catch0 C X (by decide) (by decide) q763 (lw_n q808 rfl) ?_
      refine r_astore C [(5, vO e2.2.1), (0, vO a0), (1, vI x1), (2, vI x2), (3, vI x3), (4, vO a4)] dX0_quotient_15 (by decide) rfl ?_
      refine r_iconst C dX0_quotient_17 ?_
      cases h
      exact r_xiret C hK dX0_quotient_18
    have h := ie_ h c3
    cases h
  · refine r_xV C (As := [vI x1, vI x2, vI x3]) (b := a0) (rest := [vI 0, vO a4]) (st1 := [vI q1.1, vI 0, vO a4]) (v := some (vI q1.1)) (μ1 := q1.2) (r := (RX1, TX1, 19)) (ci := 0) rfl eu4 (m_X1_quotient C.tr eq1) (lw_V q1102 q1103 q1104 q120 q1105) rfl hdX1_quotient rfl rfl (Nat.le_of_ble_eq_true rfl) ⟨by decide, by decide⟩ dX0_quotient_7 rfl ?_
    refine r_i2l C dX0_quotient_10 ?_
    obtain ⟨m5, em5, h⟩ := bs h
    refine r_last C em5 dX0_quotient_11 ?_
    refine r_goto C dX0_quotient_12 (tgt := 19) (by decide) ?_
    refine r_iconst C dX0_quotient_19 ?_
    cases h
    exact r_xiret C hK dX0_quotient_20
theorem hdX0_quotient : zhd yX0_quotient 5 := by decide +kernel
theorem m_X0_quotient {l : Launch} {D : va_G} {b0 : Nat} (hl : l.stackTraces = false) {a0 : Nat} {x1 : Int} {x2 : Int} {x3 : Int} {a4 : Nat} {μ : Me} {w : Ex ⊕ (Int × Me)} (h : s_X0_quotient a0 x1 x2 x3 a4 μ = some w) : XN l D b0 yX0_quotient (wsW_ yX0_quotient cX0_quotient 6 (some .int) [((0 : Nat), (12 : Nat), (15 : Nat), (34 : Nat))]) 9 [vO a0, vI x1, vI x2, vI x3, vO a4] μ (zoI w) (zmI w) :=
  XN.ofH hl (by decide +kernel) (Nat.le_of_ble_eq_true rfl) (fun Z C X _ _ => w_X0_quotient C X h rfl)
noncomputable def s_X0_plain (a0 : Nat) (x1 : Int) (a2 : Nat) (μ : Me) : Option (Ex ⊕ (Int × Me)) :=
  (ck μ 0 a0).bind fun _ =>
  xb (s_X1_plain a0 x1 μ) (fun e2 => (if e2.1 = 3 then
  some (.inr (1, e2.2.2))
  else
  none)) fun q1 =>
  (if w32 q1.1 = 0 then
  (uJ q1.2 a2 0 0).bind fun m6 =>
  some (.inr (0, m6))
  else
  (uJ q1.2 a2 0 1).bind fun m7 =>
  some (.inr (0, m7)))
theorem w_X0_plain {Z : Zt} {fin : Ex ⊕ (Int × Me)} {w : Ex ⊕ (Int × Me)} (C : CX Z yX0_plain cX0_plain (some .int) 9 4) (X : XT Z [((0 : Nat), (16 : Nat), (19 : Nat), (34 : Nat))]) {a0 : Nat} {x1 : Int} {a2 : Nat} {μ : Me} (h : s_X0_plain a0 x1 a2 μ = some w) (hK : w = fin) : WL Z (XQ Z (zoI fin) (zmI fin)) μ 0 [(0, vO a0), (1, vI x1), (2, vO a2)] [] := by
  unfold s_X0_plain at h
  refine r_aload_n C 2 dX0_plain_0 rfl rfl ?_
  refine r_iconst C dX0_plain_1 ?_
  refine r_aload_n C 0 dX0_plain_2 rfl rfl ?_
  refine r_iload_n C 1 dX0_plain_3 rfl rfl ?_
  obtain ⟨u4, eu4, h⟩ := bs h
  rcases xbs h with ⟨e2, eq1, h⟩ | ⟨q1, eq1, h⟩
  · refine r_xVx C (As := [vI x1]) (b := a0) (rest := [vI 0, vO a2]) (μ1 := e2.2.2) (r := (RX1, TX1, 19)) (ci := 0) rfl eu4 (m_X1_plain C.tr eq1) (lw_V q1113 q1114 q1115 q120 q1116) rfl hdX1_plain rfl rfl (Nat.le_of_ble_eq_true rfl) ⟨by decide, by decide⟩ dX0_plain_4 ?_
    by_cases c3 : e2.1 = 3
    · have h := it_ h c3
      rw [c3]
      refine r_catch0 C X (by decide) (by decide) q763 (lw_n q808 rfl) ?_
      refine r_astore_n C [(3, vO e2.2.1), (0, vO a0), (1, vI x1), (2, vO a2)] dX0_plain_19 rfl (by decide) rfl ?_
      refine r_iconst C dX0_plain_20 ?_
      cases h
      exact r_xiret C hK dX0_plain_21
    have h := ie_ h c3
    cases h
  · refine r_xV C (As := [vI x1]) (b := a0) (rest := [vI 0, vO a2]) (st1 := [vI q1.1, vI 0, vO a2]) (v := some (vI q1.1)) (μ1 := q1.2) (r := (RX1, TX1, 19)) (ci := 0) rfl eu4 (m_X1_plain C.tr eq1) (lw_V q1113 q1114 q1115 q120 q1116) rfl hdX1_plain rfl rfl (Nat.le_of_ble_eq_true rfl) ⟨by decide, by decide⟩ dX0_plain_4 rfl ?_
    refine r_if_eq C dX0_plain_7 (tgt := 14) (by decide) (fun c5 => ?_) (fun c5 => ?_)
    · have h := it_ h c5
      refine r_lconst (v := 0) C dX0_plain_14 (by decide) ?_
      obtain ⟨m6, em6, h⟩ := bs h
      refine r_last C em6 dX0_plain_15 ?_
      refine r_goto C dX0_plain_16 (tgt := 22) (by decide) ?_
      refine r_iconst C dX0_plain_22 ?_
      cases h
      exact r_xiret C hK dX0_plain_23
    · have h := ie_ h c5
      refine r_lconst (v := 1) C dX0_plain_10 (by decide) ?_
      refine r_goto C dX0_plain_11 (tgt := 15) (by decide) ?_
      obtain ⟨m7, em7, h⟩ := bs h
      refine r_last C em7 dX0_plain_15 ?_
      refine r_goto C dX0_plain_16 (tgt := 22) (by decide) ?_
      refine r_iconst C dX0_plain_22 ?_
      cases h
      exact r_xiret C hK dX0_plain_23
theorem hdX0_plain : zhd yX0_plain 3 := by decide +kernel
theorem m_X0_plain {l : Launch} {D : va_G} {b0 : Nat} (hl : l.stackTraces = false) {a0 : Nat} {x1 : Int} {a2 : Nat} {μ : Me} {w : Ex ⊕ (Int × Me)} (h : s_X0_plain a0 x1 a2 μ = some w) : XN l D b0 yX0_plain (wsW_ yX0_plain cX0_plain 4 (some .int) [((0 : Nat), (16 : Nat), (19 : Nat), (34 : Nat))]) 9 [vO a0, vI x1, vO a2] μ (zoI w) (zmI w) :=
  XN.ofH hl (by decide +kernel) (Nat.le_of_ble_eq_true rfl) (fun Z C X _ _ => w_X0_plain C X h rfl)
noncomputable def s_X0_root (a0 : Nat) (x1 : Int) (x2 : Int) (a3 : Nat) (μ : Me) : Option (Ex ⊕ (Int × Me)) :=
  (ck μ 0 a0).bind fun _ =>
  xb (s_X1_root a0 x1 x2 μ) (fun e2 => (if e2.1 = 3 then
  some (.inr (1, e2.2.2))
  else
  if e2.1 = 0 then
  some (.inr (2, e2.2.2))
  else
  none)) fun q1 =>
  (uJ q1.2 a3 0 (w32 q1.1)).bind fun m6 =>
  some (.inr (0, m6))
theorem w_X0_root {Z : Zt} {fin : Ex ⊕ (Int × Me)} {w : Ex ⊕ (Int × Me)} (C : CX Z yX0_root cX0_root (some .int) 9 5) (X : XT Z [((0 : Nat), (10 : Nat), (13 : Nat), (34 : Nat)), ((0 : Nat), (10 : Nat), (17 : Nat), (13 : Nat))]) {a0 : Nat} {x1 : Int} {x2 : Int} {a3 : Nat} {μ : Me} (h : s_X0_root a0 x1 x2 a3 μ = some w) (hK : w = fin) : WL Z (XQ Z (zoI fin) (zmI fin)) μ 0 [(0, vO a0), (1, vI x1), (2, vI x2), (3, vO a3)] [] := by
  unfold s_X0_root at h
  refine r_aload_n C 3 dX0_root_0 rfl rfl ?_
  refine r_iconst C dX0_root_1 ?_
  refine r_aload_n C 0 dX0_root_2 rfl rfl ?_
  refine r_iload_n C 1 dX0_root_3 rfl rfl ?_
  refine r_iload_n C 2 dX0_root_4 rfl rfl ?_
  obtain ⟨u5, eu5, h⟩ := bs h
  rcases xbs h with ⟨e2, eq1, h⟩ | ⟨q1, eq1, h⟩
  · refine r_xVx C (As := [vI x1, vI x2]) (b := a0) (rest := [vI 0, vO a3]) (μ1 := e2.2.2) (r := (RX1, TX1, 19)) (ci := 0) rfl eu5 (m_X1_root C.tr eq1) (lw_V q1130 q1131 q1132 q120 q1133) rfl hdX1_root rfl rfl (Nat.le_of_ble_eq_true rfl) ⟨by decide, by decide⟩ dX0_root_5 ?_
    by_cases c3 : e2.1 = 3
    · have h := it_ h c3
      rw [c3]
      refine r_catch0 C X (by decide) (by decide) q763 (lw_n q808 rfl) ?_
      refine r_astore C [(4, vO e2.2.1), (0, vO a0), (1, vI x1), (2, vI x2), (3, vO a3)] dX0_root_13 (by decide) rfl ?_
      refine r_iconst C dX0_root_15 ?_
      cases h
      exact r_xiret C hK dX0_root_16
    have h := ie_ h c3
    by_cases c4 : e2.1 = 0
    · have h := it_ h c4
      rw [c4]
      refine r_catch1 C X (by decide) q763 (C.kt.2.2.2.2.2.2 0 3 (by decide) (by decide) (by decide)) (by decide) (by decide) q551 (lw_n q562 rfl) ?_
      refine r_astore C [(4, vO e2.2.1), (0, vO a0), (1, vI x1), (2, vI x2), (3, vO a3)] dX0_root_17 (by decide) rfl ?_
      refine r_iconst C dX0_root_19 ?_
      cases h
      exact r_xiret C hK dX0_root_20
    have h := ie_ h c4
    cases h
  · refine r_xV C (As := [vI x1, vI x2]) (b := a0) (rest := [vI 0, vO a3]) (st1 := [vI q1.1, vI 0, vO a3]) (v := some (vI q1.1)) (μ1 := q1.2) (r := (RX1, TX1, 19)) (ci := 0) rfl eu5 (m_X1_root C.tr eq1) (lw_V q1130 q1131 q1132 q120 q1133) rfl hdX1_root rfl rfl (Nat.le_of_ble_eq_true rfl) ⟨by decide, by decide⟩ dX0_root_5 rfl ?_
    refine r_i2l C dX0_root_8 ?_
    obtain ⟨m6, em6, h⟩ := bs h
    refine r_last C em6 dX0_root_9 ?_
    refine r_goto C dX0_root_10 (tgt := 21) (by decide) ?_
    refine r_iconst C dX0_root_21 ?_
    cases h
    exact r_xiret C hK dX0_root_22
theorem hdX0_root : zhd yX0_root 4 := by decide +kernel
theorem m_X0_root {l : Launch} {D : va_G} {b0 : Nat} (hl : l.stackTraces = false) {a0 : Nat} {x1 : Int} {x2 : Int} {a3 : Nat} {μ : Me} {w : Ex ⊕ (Int × Me)} (h : s_X0_root a0 x1 x2 a3 μ = some w) : XN l D b0 yX0_root (wsW_ yX0_root cX0_root 5 (some .int) [((0 : Nat), (10 : Nat), (13 : Nat), (34 : Nat)), ((0 : Nat), (10 : Nat), (17 : Nat), (13 : Nat))]) 9 [vO a0, vI x1, vI x2, vO a3] μ (zoI w) (zmI w) :=
  XN.ofH hl (by decide +kernel) (Nat.le_of_ble_eq_true rfl) (fun Z C X _ _ => w_X0_root C X h rfl)
noncomputable def s_X0_roots (a0 : Nat) (x1 : Int) (a2 : Nat) (μ : Me) : Option (Ex ⊕ (Int × Me)) :=
  (ck μ 0 a0).bind fun _ =>
  xb (s_X1_roots a0 x1 μ) (fun e2 => (if e2.1 = 3 then
  some (.inr (1, e2.2.2))
  else
  none)) fun q1 =>
  (uJ q1.2 a2 0 (w32 q1.1)).bind fun m5 =>
  some (.inr (0, m5))
theorem w_X0_roots {Z : Zt} {fin : Ex ⊕ (Int × Me)} {w : Ex ⊕ (Int × Me)} (C : CX Z yX0_roots cX0_roots (some .int) 9 4) (X : XT Z [((0 : Nat), (9 : Nat), (12 : Nat), (34 : Nat))]) {a0 : Nat} {x1 : Int} {a2 : Nat} {μ : Me} (h : s_X0_roots a0 x1 a2 μ = some w) (hK : w = fin) : WL Z (XQ Z (zoI fin) (zmI fin)) μ 0 [(0, vO a0), (1, vI x1), (2, vO a2)] [] := by
  unfold s_X0_roots at h
  refine r_aload_n C 2 dX0_roots_0 rfl rfl ?_
  refine r_iconst C dX0_roots_1 ?_
  refine r_aload_n C 0 dX0_roots_2 rfl rfl ?_
  refine r_iload_n C 1 dX0_roots_3 rfl rfl ?_
  obtain ⟨u4, eu4, h⟩ := bs h
  rcases xbs h with ⟨e2, eq1, h⟩ | ⟨q1, eq1, h⟩
  · refine r_xVx C (As := [vI x1]) (b := a0) (rest := [vI 0, vO a2]) (μ1 := e2.2.2) (r := (RX1, TX1, 19)) (ci := 0) rfl eu4 (m_X1_roots C.tr eq1) (lw_V q1146 q1147 q1148 q120 q1149) rfl hdX1_roots rfl rfl (Nat.le_of_ble_eq_true rfl) ⟨by decide, by decide⟩ dX0_roots_4 ?_
    by_cases c3 : e2.1 = 3
    · have h := it_ h c3
      rw [c3]
      refine r_catch0 C X (by decide) (by decide) q763 (lw_n q808 rfl) ?_
      refine r_astore_n C [(3, vO e2.2.1), (0, vO a0), (1, vI x1), (2, vO a2)] dX0_roots_12 rfl (by decide) rfl ?_
      refine r_iconst C dX0_roots_13 ?_
      cases h
      exact r_xiret C hK dX0_roots_14
    have h := ie_ h c3
    cases h
  · refine r_xV C (As := [vI x1]) (b := a0) (rest := [vI 0, vO a2]) (st1 := [vI q1.1, vI 0, vO a2]) (v := some (vI q1.1)) (μ1 := q1.2) (r := (RX1, TX1, 19)) (ci := 0) rfl eu4 (m_X1_roots C.tr eq1) (lw_V q1146 q1147 q1148 q120 q1149) rfl hdX1_roots rfl rfl (Nat.le_of_ble_eq_true rfl) ⟨by decide, by decide⟩ dX0_roots_4 rfl ?_
    refine r_i2l C dX0_roots_7 ?_
    obtain ⟨m5, em5, h⟩ := bs h
    refine r_last C em5 dX0_roots_8 ?_
    refine r_goto C dX0_roots_9 (tgt := 15) (by decide) ?_
    refine r_iconst C dX0_roots_15 ?_
    cases h
    exact r_xiret C hK dX0_roots_16
theorem hdX0_roots : zhd yX0_roots 3 := by decide +kernel
theorem m_X0_roots {l : Launch} {D : va_G} {b0 : Nat} (hl : l.stackTraces = false) {a0 : Nat} {x1 : Int} {a2 : Nat} {μ : Me} {w : Ex ⊕ (Int × Me)} (h : s_X0_roots a0 x1 a2 μ = some w) : XN l D b0 yX0_roots (wsW_ yX0_roots cX0_roots 4 (some .int) [((0 : Nat), (9 : Nat), (12 : Nat), (34 : Nat))]) 9 [vO a0, vI x1, vO a2] μ (zoI w) (zmI w) :=
  XN.ofH hl (by decide +kernel) (Nat.le_of_ble_eq_true rfl) (fun Z C X _ _ => w_X0_roots C X h rfl)
noncomputable def s_X0_empty (a0 : Nat) (x1 : Int) (a2 : Nat) (μ : Me) : Option (Ex ⊕ (Int × Me)) :=
  (ck μ 0 a0).bind fun _ =>
  xb (s_X1_empty a0 x1 μ) (fun e2 => (if e2.1 = 3 then
  some (.inr (1, e2.2.2))
  else
  none)) fun q1 =>
  (if w32 q1.1 = 0 then
  (uJ q1.2 a2 0 0).bind fun m6 =>
  some (.inr (0, m6))
  else
  (uJ q1.2 a2 0 1).bind fun m7 =>
  some (.inr (0, m7)))
theorem w_X0_empty {Z : Zt} {fin : Ex ⊕ (Int × Me)} {w : Ex ⊕ (Int × Me)} (C : CX Z yX0_empty cX0_empty (some .int) 9 4) (X : XT Z [((0 : Nat), (16 : Nat), (19 : Nat), (34 : Nat))]) {a0 : Nat} {x1 : Int} {a2 : Nat} {μ : Me} (h : s_X0_empty a0 x1 a2 μ = some w) (hK : w = fin) : WL Z (XQ Z (zoI fin) (zmI fin)) μ 0 [(0, vO a0), (1, vI x1), (2, vO a2)] [] := by
  unfold s_X0_empty at h
  refine r_aload_n C 2 dX0_empty_0 rfl rfl ?_
  refine r_iconst C dX0_empty_1 ?_
  refine r_aload_n C 0 dX0_empty_2 rfl rfl ?_
  refine r_iload_n C 1 dX0_empty_3 rfl rfl ?_
  obtain ⟨u4, eu4, h⟩ := bs h
  rcases xbs h with ⟨e2, eq1, h⟩ | ⟨q1, eq1, h⟩
  · refine r_xVx C (As := [vI x1]) (b := a0) (rest := [vI 0, vO a2]) (μ1 := e2.2.2) (r := (RX1, TX1, 19)) (ci := 0) rfl eu4 (m_X1_empty C.tr eq1) (lw_V q1153 q1154 q1155 q120 q1156) rfl hdX1_empty rfl rfl (Nat.le_of_ble_eq_true rfl) ⟨by decide, by decide⟩ dX0_empty_4 ?_
    by_cases c3 : e2.1 = 3
    · have h := it_ h c3
      rw [c3]
      refine r_catch0 C X (by decide) (by decide) q763 (lw_n q808 rfl) ?_
      refine r_astore_n C [(3, vO e2.2.1), (0, vO a0), (1, vI x1), (2, vO a2)] dX0_empty_19 rfl (by decide) rfl ?_
      refine r_iconst C dX0_empty_20 ?_
      cases h
      exact r_xiret C hK dX0_empty_21
    have h := ie_ h c3
    cases h
  · refine r_xV C (As := [vI x1]) (b := a0) (rest := [vI 0, vO a2]) (st1 := [vI q1.1, vI 0, vO a2]) (v := some (vI q1.1)) (μ1 := q1.2) (r := (RX1, TX1, 19)) (ci := 0) rfl eu4 (m_X1_empty C.tr eq1) (lw_V q1153 q1154 q1155 q120 q1156) rfl hdX1_empty rfl rfl (Nat.le_of_ble_eq_true rfl) ⟨by decide, by decide⟩ dX0_empty_4 rfl ?_
    refine r_if_eq C dX0_empty_7 (tgt := 14) (by decide) (fun c5 => ?_) (fun c5 => ?_)
    · have h := it_ h c5
      refine r_lconst (v := 0) C dX0_empty_14 (by decide) ?_
      obtain ⟨m6, em6, h⟩ := bs h
      refine r_last C em6 dX0_empty_15 ?_
      refine r_goto C dX0_empty_16 (tgt := 22) (by decide) ?_
      refine r_iconst C dX0_empty_22 ?_
      cases h
      exact r_xiret C hK dX0_empty_23
    · have h := ie_ h c5
      refine r_lconst (v := 1) C dX0_empty_10 (by decide) ?_
      refine r_goto C dX0_empty_11 (tgt := 15) (by decide) ?_
      obtain ⟨m7, em7, h⟩ := bs h
      refine r_last C em7 dX0_empty_15 ?_
      refine r_goto C dX0_empty_16 (tgt := 22) (by decide) ?_
      refine r_iconst C dX0_empty_22 ?_
      cases h
      exact r_xiret C hK dX0_empty_23
theorem hdX0_empty : zhd yX0_empty 3 := by decide +kernel
theorem m_X0_empty {l : Launch} {D : va_G} {b0 : Nat} (hl : l.stackTraces = false) {a0 : Nat} {x1 : Int} {a2 : Nat} {μ : Me} {w : Ex ⊕ (Int × Me)} (h : s_X0_empty a0 x1 a2 μ = some w) : XN l D b0 yX0_empty (wsW_ yX0_empty cX0_empty 4 (some .int) [((0 : Nat), (16 : Nat), (19 : Nat), (34 : Nat))]) 9 [vO a0, vI x1, vO a2] μ (zoI w) (zmI w) :=
  XN.ofH hl (by decide +kernel) (Nat.le_of_ble_eq_true rfl) (fun Z C X _ _ => w_X0_empty C X h rfl)
noncomputable def s_X0_same (a0 : Nat) (x1 : Int) (x2 : Int) (a3 : Nat) (μ : Me) : Option (Ex ⊕ (Int × Me)) :=
  (ck μ 0 a0).bind fun _ =>
  xb (s_X1_same a0 x1 x2 μ) (fun e2 => (if e2.1 = 3 then
  some (.inr (1, e2.2.2))
  else
  none)) fun q1 =>
  (uJ q1.2 a3 0 (w32 q1.1)).bind fun m5 =>
  some (.inr (0, m5))
theorem w_X0_same {Z : Zt} {fin : Ex ⊕ (Int × Me)} {w : Ex ⊕ (Int × Me)} (C : CX Z yX0_same cX0_same (some .int) 9 5) (X : XT Z [((0 : Nat), (10 : Nat), (13 : Nat), (34 : Nat))]) {a0 : Nat} {x1 : Int} {x2 : Int} {a3 : Nat} {μ : Me} (h : s_X0_same a0 x1 x2 a3 μ = some w) (hK : w = fin) : WL Z (XQ Z (zoI fin) (zmI fin)) μ 0 [(0, vO a0), (1, vI x1), (2, vI x2), (3, vO a3)] [] := by
  unfold s_X0_same at h
  refine r_aload_n C 3 dX0_same_0 rfl rfl ?_
  refine r_iconst C dX0_same_1 ?_
  refine r_aload_n C 0 dX0_same_2 rfl rfl ?_
  refine r_iload_n C 1 dX0_same_3 rfl rfl ?_
  refine r_iload_n C 2 dX0_same_4 rfl rfl ?_
  obtain ⟨u4, eu4, h⟩ := bs h
  rcases xbs h with ⟨e2, eq1, h⟩ | ⟨q1, eq1, h⟩
  · refine r_xVx C (As := [vI x1, vI x2]) (b := a0) (rest := [vI 0, vO a3]) (μ1 := e2.2.2) (r := (RX1, TX1, 19)) (ci := 0) rfl eu4 (m_X1_same C.tr eq1) (lw_V q1160 q1161 q1162 q120 q1163) rfl hdX1_same rfl rfl (Nat.le_of_ble_eq_true rfl) ⟨by decide, by decide⟩ dX0_same_5 ?_
    by_cases c3 : e2.1 = 3
    · have h := it_ h c3
      rw [c3]
      refine r_catch0 C X (by decide) (by decide) q763 (lw_n q808 rfl) ?_
      refine r_astore C [(4, vO e2.2.1), (0, vO a0), (1, vI x1), (2, vI x2), (3, vO a3)] dX0_same_13 (by decide) rfl ?_
      refine r_iconst C dX0_same_15 ?_
      cases h
      exact r_xiret C hK dX0_same_16
    have h := ie_ h c3
    cases h
  · refine r_xV C (As := [vI x1, vI x2]) (b := a0) (rest := [vI 0, vO a3]) (st1 := [vI q1.1, vI 0, vO a3]) (v := some (vI q1.1)) (μ1 := q1.2) (r := (RX1, TX1, 19)) (ci := 0) rfl eu4 (m_X1_same C.tr eq1) (lw_V q1160 q1161 q1162 q120 q1163) rfl hdX1_same rfl rfl (Nat.le_of_ble_eq_true rfl) ⟨by decide, by decide⟩ dX0_same_5 rfl ?_
    refine r_i2l C dX0_same_8 ?_
    obtain ⟨m5, em5, h⟩ := bs h
    refine r_last C em5 dX0_same_9 ?_
    refine r_goto C dX0_same_10 (tgt := 17) (by decide) ?_
    refine r_iconst C dX0_same_17 ?_
    cases h
    exact r_xiret C hK dX0_same_18
theorem hdX0_same : zhd yX0_same 4 := by decide +kernel
theorem m_X0_same {l : Launch} {D : va_G} {b0 : Nat} (hl : l.stackTraces = false) {a0 : Nat} {x1 : Int} {x2 : Int} {a3 : Nat} {μ : Me} {w : Ex ⊕ (Int × Me)} (h : s_X0_same a0 x1 x2 a3 μ = some w) : XN l D b0 yX0_same (wsW_ yX0_same cX0_same 5 (some .int) [((0 : Nat), (10 : Nat), (13 : Nat), (34 : Nat))]) 9 [vO a0, vI x1, vI x2, vO a3] μ (zoI w) (zmI w) :=
  XN.ofH hl (by decide +kernel) (Nat.le_of_ble_eq_true rfl) (fun Z C X _ _ => w_X0_same C X h rfl)
noncomputable def s_X0_keep (a0 : Nat) (x1 : Int) (a2 : Nat) (μ : Me) : Option (Ex ⊕ (Int × Me)) :=
  (ck μ 0 a0).bind fun _ =>
  xb (s_X1_keep a0 x1 μ) (fun e2 => (if e2.1 = 3 then
  some (.inr (1, e2.2.2))
  else
  none)) fun q1 =>
  (uJ q1.2 a2 0 (w32 q1.1)).bind fun m5 =>
  some (.inr (0, m5))
theorem w_X0_keep {Z : Zt} {fin : Ex ⊕ (Int × Me)} {w : Ex ⊕ (Int × Me)} (C : CX Z yX0_keep cX0_keep (some .int) 9 4) (X : XT Z [((0 : Nat), (9 : Nat), (12 : Nat), (34 : Nat))]) {a0 : Nat} {x1 : Int} {a2 : Nat} {μ : Me} (h : s_X0_keep a0 x1 a2 μ = some w) (hK : w = fin) : WL Z (XQ Z (zoI fin) (zmI fin)) μ 0 [(0, vO a0), (1, vI x1), (2, vO a2)] [] := by
  unfold s_X0_keep at h
  refine r_aload_n C 2 dX0_keep_0 rfl rfl ?_
  refine r_iconst C dX0_keep_1 ?_
  refine r_aload_n C 0 dX0_keep_2 rfl rfl ?_
  refine r_iload_n C 1 dX0_keep_3 rfl rfl ?_
  obtain ⟨u4, eu4, h⟩ := bs h
  rcases xbs h with ⟨e2, eq1, h⟩ | ⟨q1, eq1, h⟩
  · refine r_xVx C (As := [vI x1]) (b := a0) (rest := [vI 0, vO a2]) (μ1 := e2.2.2) (r := (RX1, TX1, 19)) (ci := 0) rfl eu4 (m_X1_keep C.tr eq1) (lw_V q1167 q1168 q1169 q120 q1170) rfl hdX1_keep rfl rfl (Nat.le_of_ble_eq_true rfl) ⟨by decide, by decide⟩ dX0_keep_4 ?_
    by_cases c3 : e2.1 = 3
    · have h := it_ h c3
      rw [c3]
      refine r_catch0 C X (by decide) (by decide) q763 (lw_n q808 rfl) ?_
      refine r_astore_n C [(3, vO e2.2.1), (0, vO a0), (1, vI x1), (2, vO a2)] dX0_keep_12 rfl (by decide) rfl ?_
      refine r_iconst C dX0_keep_13 ?_
      cases h
      exact r_xiret C hK dX0_keep_14
    have h := ie_ h c3
    cases h
  · refine r_xV C (As := [vI x1]) (b := a0) (rest := [vI 0, vO a2]) (st1 := [vI q1.1, vI 0, vO a2]) (v := some (vI q1.1)) (μ1 := q1.2) (r := (RX1, TX1, 19)) (ci := 0) rfl eu4 (m_X1_keep C.tr eq1) (lw_V q1167 q1168 q1169 q120 q1170) rfl hdX1_keep rfl rfl (Nat.le_of_ble_eq_true rfl) ⟨by decide, by decide⟩ dX0_keep_4 rfl ?_
    refine r_i2l C dX0_keep_7 ?_
    obtain ⟨m5, em5, h⟩ := bs h
    refine r_last C em5 dX0_keep_8 ?_
    refine r_goto C dX0_keep_9 (tgt := 15) (by decide) ?_
    refine r_iconst C dX0_keep_15 ?_
    cases h
    exact r_xiret C hK dX0_keep_16
theorem hdX0_keep : zhd yX0_keep 3 := by decide +kernel
theorem m_X0_keep {l : Launch} {D : va_G} {b0 : Nat} (hl : l.stackTraces = false) {a0 : Nat} {x1 : Int} {a2 : Nat} {μ : Me} {w : Ex ⊕ (Int × Me)} (h : s_X0_keep a0 x1 a2 μ = some w) : XN l D b0 yX0_keep (wsW_ yX0_keep cX0_keep 4 (some .int) [((0 : Nat), (9 : Nat), (12 : Nat), (34 : Nat))]) 9 [vO a0, vI x1, vO a2] μ (zoI w) (zmI w) :=
  XN.ofH hl (by decide +kernel) (Nat.le_of_ble_eq_true rfl) (fun Z C X _ _ => w_X0_keep C X h rfl)
noncomputable def s_X0_powers (a0 : Nat) (x1 : Int) (x2 : Int) (a3 : Nat) (μ : Me) : Option (Ex ⊕ (Int × Me)) :=
  (ck μ 0 a0).bind fun _ =>
  xb (s_X1_powers a0 x1 x2 μ) (fun e2 => (if e2.1 = 3 then
  some (.inr (1, e2.2.2))
  else
  if e2.1 = 0 then
  some (.inr (2, e2.2.2))
  else
  none)) fun q1 =>
  (uJ q1.2 a3 0 (w32 q1.1)).bind fun m6 =>
  some (.inr (0, m6))
theorem w_X0_powers {Z : Zt} {fin : Ex ⊕ (Int × Me)} {w : Ex ⊕ (Int × Me)} (C : CX Z yX0_powers cX0_powers (some .int) 22 5) (X : XT Z [((0 : Nat), (10 : Nat), (13 : Nat), (34 : Nat)), ((0 : Nat), (10 : Nat), (17 : Nat), (13 : Nat))]) {a0 : Nat} {x1 : Int} {x2 : Int} {a3 : Nat} {μ : Me} (h : s_X0_powers a0 x1 x2 a3 μ = some w) (hK : w = fin) : WL Z (XQ Z (zoI fin) (zmI fin)) μ 0 [(0, vO a0), (1, vI x1), (2, vI x2), (3, vO a3)] [] := by
  unfold s_X0_powers at h
  refine r_aload_n C 3 dX0_powers_0 rfl rfl ?_
  refine r_iconst C dX0_powers_1 ?_
  refine r_aload_n C 0 dX0_powers_2 rfl rfl ?_
  refine r_iload_n C 1 dX0_powers_3 rfl rfl ?_
  refine r_iload_n C 2 dX0_powers_4 rfl rfl ?_
  obtain ⟨u5, eu5, h⟩ := bs h
  rcases xbs h with ⟨e2, eq1, h⟩ | ⟨q1, eq1, h⟩
  · refine r_xVx C (As := [vI x1, vI x2]) (b := a0) (rest := [vI 0, vO a3]) (μ1 := e2.2.2) (r := (RX1, TX1, 19)) (ci := 0) rfl eu5 (m_X1_powers C.tr eq1) (lw_V q1174 q1175 q1176 q120 q1177) rfl hdX1_powers rfl rfl (Nat.le_of_ble_eq_true rfl) ⟨by decide, by decide⟩ dX0_powers_5 ?_
    by_cases c3 : e2.1 = 3
    · have h := it_ h c3
      rw [c3]
      refine r_catch0 C X (by decide) (by decide) q763 (lw_n q808 rfl) ?_
      refine r_astore C [(4, vO e2.2.1), (0, vO a0), (1, vI x1), (2, vI x2), (3, vO a3)] dX0_powers_13 (by decide) rfl ?_
      refine r_iconst C dX0_powers_15 ?_
      cases h
      exact r_xiret C hK dX0_powers_16
    have h := ie_ h c3
    by_cases c4 : e2.1 = 0
    · have h := it_ h c4
      rw [c4]
      refine r_catch1 C X (by decide) q763 (C.kt.2.2.2.2.2.2 0 3 (by decide) (by decide) (by decide)) (by decide) (by decide) q551 (lw_n q562 rfl) ?_
      refine r_astore C [(4, vO e2.2.1), (0, vO a0), (1, vI x1), (2, vI x2), (3, vO a3)] dX0_powers_17 (by decide) rfl ?_
      refine r_iconst C dX0_powers_19 ?_
      cases h
      exact r_xiret C hK dX0_powers_20
    have h := ie_ h c4
    cases h
  · refine r_xV C (As := [vI x1, vI x2]) (b := a0) (rest := [vI 0, vO a3]) (st1 := [vI q1.1, vI 0, vO a3]) (v := some (vI q1.1)) (μ1 := q1.2) (r := (RX1, TX1, 19)) (ci := 0) rfl eu5 (m_X1_powers C.tr eq1) (lw_V q1174 q1175 q1176 q120 q1177) rfl hdX1_powers rfl rfl (Nat.le_of_ble_eq_true rfl) ⟨by decide, by decide⟩ dX0_powers_5 rfl ?_
    refine r_i2l C dX0_powers_8 ?_
    obtain ⟨m6, em6, h⟩ := bs h
    refine r_last C em6 dX0_powers_9 ?_
    refine r_goto C dX0_powers_10 (tgt := 21) (by decide) ?_
    refine r_iconst C dX0_powers_21 ?_
    cases h
    exact r_xiret C hK dX0_powers_22
theorem hdX0_powers : zhd yX0_powers 4 := by decide +kernel
theorem m_X0_powers {l : Launch} {D : va_G} {b0 : Nat} (hl : l.stackTraces = false) {a0 : Nat} {x1 : Int} {x2 : Int} {a3 : Nat} {μ : Me} {w : Ex ⊕ (Int × Me)} (h : s_X0_powers a0 x1 x2 a3 μ = some w) : XN l D b0 yX0_powers (wsW_ yX0_powers cX0_powers 5 (some .int) [((0 : Nat), (10 : Nat), (13 : Nat), (34 : Nat)), ((0 : Nat), (10 : Nat), (17 : Nat), (13 : Nat))]) 22 [vO a0, vI x1, vI x2, vO a3] μ (zoI w) (zmI w) :=
  XN.ofH hl (by decide +kernel) (Nat.le_of_ble_eq_true rfl) (fun Z C X _ _ => w_X0_powers C X h rfl)
noncomputable def s_X0_common (a0 : Nat) (x1 : Int) (x2 : Int) (x3 : Int) (a4 : Nat) (μ : Me) : Option (Ex ⊕ (Int × Me)) :=
  (ck μ 0 a0).bind fun _ =>
  xb (s_X1_common a0 x1 x2 x3 μ) (fun e2 => (if e2.1 = 3 then
  some (.inr (1, e2.2.2))
  else
  none)) fun q1 =>
  (uJ q1.2 a4 0 (w32 q1.1)).bind fun m5 =>
  some (.inr (0, m5))
theorem w_X0_common {Z : Zt} {fin : Ex ⊕ (Int × Me)} {w : Ex ⊕ (Int × Me)} (C : CX Z yX0_common cX0_common (some .int) 9 6) (X : XT Z [((0 : Nat), (12 : Nat), (15 : Nat), (34 : Nat))]) {a0 : Nat} {x1 : Int} {x2 : Int} {x3 : Int} {a4 : Nat} {μ : Me} (h : s_X0_common a0 x1 x2 x3 a4 μ = some w) (hK : w = fin) : WL Z (XQ Z (zoI fin) (zmI fin)) μ 0 [(0, vO a0), (1, vI x1), (2, vI x2), (3, vI x3), (4, vO a4)] [] := by
  unfold s_X0_common at h
  refine r_aload C 4 dX0_common_0 rfl ?_
  refine r_iconst C dX0_common_2 ?_
  refine r_aload_n C 0 dX0_common_3 rfl rfl ?_
  refine r_iload_n C 1 dX0_common_4 rfl rfl ?_
  refine r_iload_n C 2 dX0_common_5 rfl rfl ?_
  refine r_iload_n C 3 dX0_common_6 rfl rfl ?_
  obtain ⟨u4, eu4, h⟩ := bs h
  rcases xbs h with ⟨e2, eq1, h⟩ | ⟨q1, eq1, h⟩
  · refine r_xVx C (As := [vI x1, vI x2, vI x3]) (b := a0) (rest := [vI 0, vO a4]) (μ1 := e2.2.2) (r := (RX1, TX1, 19)) (ci := 0) rfl eu4 (m_X1_common C.tr eq1) (lw_V q1198 q1199 q1200 q120 q1201) rfl hdX1_common rfl rfl (Nat.le_of_ble_eq_true rfl) ⟨by decide, by decide⟩ dX0_common_7 ?_
    by_cases c3 : e2.1 = 3
    · have h := it_ h c3
      rw [c3]
      refine r_catch0 C X (by decide) (by decide) q763 (lw_n q808 rfl) ?_
      refine r_astore C [(5, vO e2.2.1), (0, vO a0), (1, vI x1), (2, vI x2), (3, vI x3), (4, vO a4)] dX0_common_15 (by decide) rfl ?_
      refine r_iconst C dX0_common_17 ?_
      cases h
      exact r_xiret C hK dX0_common_18
    have h := ie_ h c3
    cases h
  · refine r_xV C (As := [vI x1, vI x2, vI x3]) (b := a0) (rest := [vI 0, vO a4]) (st1 := [vI q1.1, vI 0, vO a4]) (v := some (vI q1.1)) (μ1 := q1.2) (r := (RX1, TX1, 19)) (ci := 0) rfl eu4 (m_X1_common C.tr eq1) (lw_V q1198 q1199 q1200 q120 q1201) rfl hdX1_common rfl rfl (Nat.le_of_ble_eq_true rfl) ⟨by decide, by decide⟩ dX0_common_7 rfl ?_
    refine r_i2l C dX0_common_10 ?_
    obtain ⟨m5, em5, h⟩ := bs h
    refine r_last C em5 dX0_common_11 ?_
    refine r_goto C dX0_common_12 (tgt := 19) (by decide) ?_
    refine r_iconst C dX0_common_19 ?_
    cases h
    exact r_xiret C hK dX0_common_20
theorem hdX0_common : zhd yX0_common 5 := by decide +kernel
theorem m_X0_common {l : Launch} {D : va_G} {b0 : Nat} (hl : l.stackTraces = false) {a0 : Nat} {x1 : Int} {x2 : Int} {x3 : Int} {a4 : Nat} {μ : Me} {w : Ex ⊕ (Int × Me)} (h : s_X0_common a0 x1 x2 x3 a4 μ = some w) : XN l D b0 yX0_common (wsW_ yX0_common cX0_common 6 (some .int) [((0 : Nat), (12 : Nat), (15 : Nat), (34 : Nat))]) 9 [vO a0, vI x1, vI x2, vI x3, vO a4] μ (zoI w) (zmI w) :=
  XN.ofH hl (by decide +kernel) (Nat.le_of_ble_eq_true rfl) (fun Z C X _ _ => w_X0_common C X h rfl)
noncomputable def s_X0_overlap (a0 : Nat) (x1 : Int) (x2 : Int) (x3 : Int) (x4 : Int) (a5 : Nat) (μ : Me) : Option (Ex ⊕ (Int × Me)) :=
  (ck μ 0 a0).bind fun _ =>
  xb (s_X1_overlap a0 x1 x2 x3 x4 μ) (fun e2 => (if e2.1 = 3 then
  some (.inr (1, e2.2.2))
  else
  if e2.1 = 0 then
  some (.inr (2, e2.2.2))
  else
  none)) fun q1 =>
  (uJ q1.2 a5 0 (w32 q1.1)).bind fun m6 =>
  some (.inr (0, m6))
theorem w_X0_overlap {Z : Zt} {fin : Ex ⊕ (Int × Me)} {w : Ex ⊕ (Int × Me)} (C : CX Z yX0_overlap cX0_overlap (some .int) 9 7) (X : XT Z [((0 : Nat), (14 : Nat), (17 : Nat), (34 : Nat)), ((0 : Nat), (14 : Nat), (21 : Nat), (13 : Nat))]) {a0 : Nat} {x1 : Int} {x2 : Int} {x3 : Int} {x4 : Int} {a5 : Nat} {μ : Me} (h : s_X0_overlap a0 x1 x2 x3 x4 a5 μ = some w) (hK : w = fin) : WL Z (XQ Z (zoI fin) (zmI fin)) μ 0 [(0, vO a0), (1, vI x1), (2, vI x2), (3, vI x3), (4, vI x4), (5, vO a5)] [] := by
  unfold s_X0_overlap at h
  refine r_aload C 5 dX0_overlap_0 rfl ?_
  refine r_iconst C dX0_overlap_2 ?_
  refine r_aload_n C 0 dX0_overlap_3 rfl rfl ?_
  refine r_iload_n C 1 dX0_overlap_4 rfl rfl ?_
  refine r_iload_n C 2 dX0_overlap_5 rfl rfl ?_
  refine r_iload_n C 3 dX0_overlap_6 rfl rfl ?_
  refine r_iload C 4 dX0_overlap_7 rfl ?_
  obtain ⟨u5, eu5, h⟩ := bs h
  rcases xbs h with ⟨e2, eq1, h⟩ | ⟨q1, eq1, h⟩
  · refine r_xVx C (As := [vI x1, vI x2, vI x3, vI x4]) (b := a0) (rest := [vI 0, vO a5]) (μ1 := e2.2.2) (r := (RX1, TX1, 19)) (ci := 0) rfl eu5 (m_X1_overlap C.tr eq1) (lw_V q1205 q1206 q1207 q120 q1208) rfl hdX1_overlap rfl rfl (Nat.le_of_ble_eq_true rfl) ⟨by decide, by decide⟩ dX0_overlap_9 ?_
    by_cases c3 : e2.1 = 3
    · have h := it_ h c3
      rw [c3]
      refine r_catch0 C X (by decide) (by decide) q763 (lw_n q808 rfl) ?_
      refine r_astore C [(6, vO e2.2.1), (0, vO a0), (1, vI x1), (2, vI x2), (3, vI x3), (4, vI x4), (5, vO a5)] dX0_overlap_17 (by decide) rfl ?_
      refine r_iconst C dX0_overlap_19 ?_
      cases h
      exact r_xiret C hK dX0_overlap_20
    have h := ie_ h c3
    by_cases c4 : e2.1 = 0
    · have h := it_ h c4
      rw [c4]
      refine r_catch1 C X (by decide) q763 (C.kt.2.2.2.2.2.2 0 3 (by decide) (by decide) (by decide)) (by decide) (by decide) q551 (lw_n q562 rfl) ?_
      refine r_astore C [(6, vO e2.2.1), (0, vO a0), (1, vI x1), (2, vI x2), (3, vI x3), (4, vI x4), (5, vO a5)] dX0_overlap_21 (by decide) rfl ?_
      refine r_iconst C dX0_overlap_23 ?_
      cases h
      exact r_xiret C hK dX0_overlap_24
    have h := ie_ h c4
    cases h
  · refine r_xV C (As := [vI x1, vI x2, vI x3, vI x4]) (b := a0) (rest := [vI 0, vO a5]) (st1 := [vI q1.1, vI 0, vO a5]) (v := some (vI q1.1)) (μ1 := q1.2) (r := (RX1, TX1, 19)) (ci := 0) rfl eu5 (m_X1_overlap C.tr eq1) (lw_V q1205 q1206 q1207 q120 q1208) rfl hdX1_overlap rfl rfl (Nat.le_of_ble_eq_true rfl) ⟨by decide, by decide⟩ dX0_overlap_9 rfl ?_
    refine r_i2l C dX0_overlap_12 ?_
    obtain ⟨m6, em6, h⟩ := bs h
    refine r_last C em6 dX0_overlap_13 ?_
    refine r_goto C dX0_overlap_14 (tgt := 25) (by decide) ?_
    refine r_iconst C dX0_overlap_25 ?_
    cases h
    exact r_xiret C hK dX0_overlap_26
theorem hdX0_overlap : zhd yX0_overlap 6 := by decide +kernel
theorem m_X0_overlap {l : Launch} {D : va_G} {b0 : Nat} (hl : l.stackTraces = false) {a0 : Nat} {x1 : Int} {x2 : Int} {x3 : Int} {x4 : Int} {a5 : Nat} {μ : Me} {w : Ex ⊕ (Int × Me)} (h : s_X0_overlap a0 x1 x2 x3 x4 a5 μ = some w) : XN l D b0 yX0_overlap (wsW_ yX0_overlap cX0_overlap 7 (some .int) [((0 : Nat), (14 : Nat), (17 : Nat), (34 : Nat)), ((0 : Nat), (14 : Nat), (21 : Nat), (13 : Nat))]) 9 [vO a0, vI x1, vI x2, vI x3, vI x4, vO a5] μ (zoI w) (zmI w) :=
  XN.ofH hl (by decide +kernel) (Nat.le_of_ble_eq_true rfl) (fun Z C X _ _ => w_X0_overlap C X h rfl)
noncomputable def s_X0_reduced (a0 : Nat) (x1 : Int) (x2 : Int) (x3 : Int) (x4 : Int) (a5 : Nat) (μ : Me) : Option (Ex ⊕ (Int × Me)) :=
  (ck μ 0 a0).bind fun _ =>
  xb (s_X1_reduced a0 x1 x2 x3 x4 μ) (fun e2 => (if e2.1 = 0 then
  some (.inr (1, e2.2.2))
  else
  if e2.1 = 4 then
  some (.inr (2, e2.2.2))
  else
  none)) fun q1 =>
  (uJ q1.2 a5 0 q1.1).bind fun m6 =>
  some (.inr (0, m6))
theorem w_X0_reduced {Z : Zt} {fin : Ex ⊕ (Int × Me)} {w : Ex ⊕ (Int × Me)} (C : CX Z yX0_reduced cX0_reduced (some .int) 8 7) (X : XT Z [((0 : Nat), (13 : Nat), (16 : Nat), (13 : Nat)), ((0 : Nat), (13 : Nat), (20 : Nat), (122 : Nat))]) {a0 : Nat} {x1 : Int} {x2 : Int} {x3 : Int} {x4 : Int} {a5 : Nat} {μ : Me} (h : s_X0_reduced a0 x1 x2 x3 x4 a5 μ = some w) (hK : w = fin) : WL Z (XQ Z (zoI fin) (zmI fin)) μ 0 [(0, vO a0), (1, vI x1), (2, vI x2), (3, vI x3), (4, vI x4), (5, vO a5)] [] := by
  unfold s_X0_reduced at h
  refine r_aload C 5 dX0_reduced_0 rfl ?_
  refine r_iconst C dX0_reduced_2 ?_
  refine r_aload_n C 0 dX0_reduced_3 rfl rfl ?_
  refine r_iload_n C 1 dX0_reduced_4 rfl rfl ?_
  refine r_iload_n C 2 dX0_reduced_5 rfl rfl ?_
  refine r_iload_n C 3 dX0_reduced_6 rfl rfl ?_
  refine r_iload C 4 dX0_reduced_7 rfl ?_
  obtain ⟨u5, eu5, h⟩ := bs h
  rcases xbs h with ⟨e2, eq1, h⟩ | ⟨q1, eq1, h⟩
  · refine r_xVx C (As := [vI x1, vI x2, vI x3, vI x4]) (b := a0) (rest := [vI 0, vO a5]) (μ1 := e2.2.2) (r := (RX1, TX1, 19)) (ci := 0) rfl eu5 (m_X1_reduced C.tr eq1) (lw_V q1214 q1215 q1216 q120 q1217) rfl hdX1_reduced rfl rfl (Nat.le_of_ble_eq_true rfl) ⟨by decide, by decide⟩ dX0_reduced_9 ?_
    by_cases c3 : e2.1 = 0
    · have h := it_ h c3
      rw [c3]
      refine r_catch0 C X (by decide) (by decide) q551 (lw_n q562 rfl) ?_
      refine r_astore C [(6, vO e2.2.1), (0, vO a0), (1, vI x1), (2, vI x2), (3, vI x3), (4, vI x4), (5, vO a5)] dX0_reduced_16 (by decide) rfl ?_
      refine r_iconst C dX0_reduced_18 ?_
      cases h
      exact r_xiret C hK dX0_reduced_19
    have h := ie_ h c3
    by_cases c4 : e2.1 = 4
    · have h := it_ h c4
      rw [c4]
      refine r_catch1 C X (by decide) q551 (C.kt.2.2.2.2.2.2 4 0 (by decide) (by decide) (by decide)) (by decide) (by decide) q1213 (lw_n q1226 rfl) ?_
      refine r_astore C [(6, vO e2.2.1), (0, vO a0), (1, vI x1), (2, vI x2), (3, vI x3), (4, vI x4), (5, vO a5)] dX0_reduced_20 (by decide) rfl ?_
      refine r_iconst C dX0_reduced_22 ?_
      cases h
      exact r_xiret C hK dX0_reduced_23
    have h := ie_ h c4
    cases h
  · refine r_xV C (As := [vI x1, vI x2, vI x3, vI x4]) (b := a0) (rest := [vI 0, vO a5]) (st1 := [vJ q1.1, vI 0, vO a5]) (v := some (vJ q1.1)) (μ1 := q1.2) (r := (RX1, TX1, 19)) (ci := 0) rfl eu5 (m_X1_reduced C.tr eq1) (lw_V q1214 q1215 q1216 q120 q1217) rfl hdX1_reduced rfl rfl (Nat.le_of_ble_eq_true rfl) ⟨by decide, by decide⟩ dX0_reduced_9 rfl ?_
    obtain ⟨m6, em6, h⟩ := bs h
    refine r_last C em6 dX0_reduced_12 ?_
    refine r_goto C dX0_reduced_13 (tgt := 24) (by decide) ?_
    refine r_iconst C dX0_reduced_24 ?_
    cases h
    exact r_xiret C hK dX0_reduced_25
theorem hdX0_reduced : zhd yX0_reduced 6 := by decide +kernel
theorem m_X0_reduced {l : Launch} {D : va_G} {b0 : Nat} (hl : l.stackTraces = false) {a0 : Nat} {x1 : Int} {x2 : Int} {x3 : Int} {x4 : Int} {a5 : Nat} {μ : Me} {w : Ex ⊕ (Int × Me)} (h : s_X0_reduced a0 x1 x2 x3 x4 a5 μ = some w) : XN l D b0 yX0_reduced (wsW_ yX0_reduced cX0_reduced 7 (some .int) [((0 : Nat), (13 : Nat), (16 : Nat), (13 : Nat)), ((0 : Nat), (13 : Nat), (20 : Nat), (122 : Nat))]) 8 [vO a0, vI x1, vI x2, vI x3, vI x4, vO a5] μ (zoI w) (zmI w) :=
  XN.ofH hl (by decide +kernel) (Nat.le_of_ble_eq_true rfl) (fun Z C X _ _ => w_X0_reduced C X h rfl)
noncomputable def s_X0_classes (a0 : Nat) (x1 : Int) (x2 : Int) (a3 : Nat) (μ : Me) : Option (Ex ⊕ (Int × Me)) :=
  (ck μ 0 a0).bind fun _ =>
  xb (s_X1_classes a0 x1 x2 μ) (fun e2 => (if e2.1 = 0 then
  some (.inr (1, e2.2.2))
  else
  none)) fun q1 =>
  (uJ q1.2 a3 0 (w32 q1.1)).bind fun m5 =>
  some (.inr (0, m5))
theorem w_X0_classes {Z : Zt} {fin : Ex ⊕ (Int × Me)} {w : Ex ⊕ (Int × Me)} (C : CX Z yX0_classes cX0_classes (some .int) 9 5) (X : XT Z [((0 : Nat), (10 : Nat), (13 : Nat), (13 : Nat))]) {a0 : Nat} {x1 : Int} {x2 : Int} {a3 : Nat} {μ : Me} (h : s_X0_classes a0 x1 x2 a3 μ = some w) (hK : w = fin) : WL Z (XQ Z (zoI fin) (zmI fin)) μ 0 [(0, vO a0), (1, vI x1), (2, vI x2), (3, vO a3)] [] := by
  unfold s_X0_classes at h
  refine r_aload_n C 3 dX0_classes_0 rfl rfl ?_
  refine r_iconst C dX0_classes_1 ?_
  refine r_aload_n C 0 dX0_classes_2 rfl rfl ?_
  refine r_iload_n C 1 dX0_classes_3 rfl rfl ?_
  refine r_iload_n C 2 dX0_classes_4 rfl rfl ?_
  obtain ⟨u4, eu4, h⟩ := bs h
  rcases xbs h with ⟨e2, eq1, h⟩ | ⟨q1, eq1, h⟩
  · refine r_xVx C (As := [vI x1, vI x2]) (b := a0) (rest := [vI 0, vO a3]) (μ1 := e2.2.2) (r := (RX1, TX1, 19)) (ci := 0) rfl eu4 (m_X1_classes C.tr eq1) (lw_V q1254 q1255 q1256 q120 q1257) rfl hdX1_classes rfl rfl (Nat.le_of_ble_eq_true rfl) ⟨by decide, by decide⟩ dX0_classes_5 ?_
    by_cases c3 : e2.1 = 0
    · have h := it_ h c3
      rw [c3]
      refine r_catch0 C X (by decide) (by decide) q551 (lw_n q562 rfl) ?_
      refine r_astore C [(4, vO e2.2.1), (0, vO a0), (1, vI x1), (2, vI x2), (3, vO a3)] dX0_classes_13 (by decide) rfl ?_
      refine r_iconst C dX0_classes_15 ?_
      cases h
      exact r_xiret C hK dX0_classes_16
    have h := ie_ h c3
    cases h
  · refine r_xV C (As := [vI x1, vI x2]) (b := a0) (rest := [vI 0, vO a3]) (st1 := [vI q1.1, vI 0, vO a3]) (v := some (vI q1.1)) (μ1 := q1.2) (r := (RX1, TX1, 19)) (ci := 0) rfl eu4 (m_X1_classes C.tr eq1) (lw_V q1254 q1255 q1256 q120 q1257) rfl hdX1_classes rfl rfl (Nat.le_of_ble_eq_true rfl) ⟨by decide, by decide⟩ dX0_classes_5 rfl ?_
    refine r_i2l C dX0_classes_8 ?_
    obtain ⟨m5, em5, h⟩ := bs h
    refine r_last C em5 dX0_classes_9 ?_
    refine r_goto C dX0_classes_10 (tgt := 17) (by decide) ?_
    refine r_iconst C dX0_classes_17 ?_
    cases h
    exact r_xiret C hK dX0_classes_18
theorem hdX0_classes : zhd yX0_classes 4 := by decide +kernel
theorem m_X0_classes {l : Launch} {D : va_G} {b0 : Nat} (hl : l.stackTraces = false) {a0 : Nat} {x1 : Int} {x2 : Int} {a3 : Nat} {μ : Me} {w : Ex ⊕ (Int × Me)} (h : s_X0_classes a0 x1 x2 a3 μ = some w) : XN l D b0 yX0_classes (wsW_ yX0_classes cX0_classes 5 (some .int) [((0 : Nat), (10 : Nat), (13 : Nat), (13 : Nat))]) 9 [vO a0, vI x1, vI x2, vO a3] μ (zoI w) (zmI w) :=
  XN.ofH hl (by decide +kernel) (Nat.le_of_ble_eq_true rfl) (fun Z C X _ _ => w_X0_classes C X h rfl)
noncomputable def s_X0_reducedAt (a0 : Nat) (x1 : Int) (x2 : Int) (x3 : Int) (a4 : Nat) (μ : Me) : Option (Ex ⊕ (Int × Me)) :=
  (ck μ 0 a0).bind fun _ =>
  xb (s_X1_reducedAt a0 x1 x2 x3 μ) (fun e2 => (if e2.1 = 0 then
  some (.inr (1, e2.2.2))
  else
  if e2.1 = 4 then
  some (.inr (2, e2.2.2))
  else
  none)) fun q1 =>
  (uJ q1.2 a4 0 (w32 q1.1)).bind fun m6 =>
  some (.inr (0, m6))
theorem w_X0_reducedAt {Z : Zt} {fin : Ex ⊕ (Int × Me)} {w : Ex ⊕ (Int × Me)} (C : CX Z yX0_reducedAt cX0_reducedAt (some .int) 9 6) (X : XT Z [((0 : Nat), (12 : Nat), (15 : Nat), (13 : Nat)), ((0 : Nat), (12 : Nat), (19 : Nat), (122 : Nat))]) {a0 : Nat} {x1 : Int} {x2 : Int} {x3 : Int} {a4 : Nat} {μ : Me} (h : s_X0_reducedAt a0 x1 x2 x3 a4 μ = some w) (hK : w = fin) : WL Z (XQ Z (zoI fin) (zmI fin)) μ 0 [(0, vO a0), (1, vI x1), (2, vI x2), (3, vI x3), (4, vO a4)] [] := by
  unfold s_X0_reducedAt at h
  refine r_aload C 4 dX0_reducedAt_0 rfl ?_
  refine r_iconst C dX0_reducedAt_2 ?_
  refine r_aload_n C 0 dX0_reducedAt_3 rfl rfl ?_
  refine r_iload_n C 1 dX0_reducedAt_4 rfl rfl ?_
  refine r_iload_n C 2 dX0_reducedAt_5 rfl rfl ?_
  refine r_iload_n C 3 dX0_reducedAt_6 rfl rfl ?_
  obtain ⟨u5, eu5, h⟩ := bs h
  rcases xbs h with ⟨e2, eq1, h⟩ | ⟨q1, eq1, h⟩
  · refine r_xVx C (As := [vI x1, vI x2, vI x3]) (b := a0) (rest := [vI 0, vO a4]) (μ1 := e2.2.2) (r := (RX1, TX1, 19)) (ci := 0) rfl eu5 (m_X1_reducedAt C.tr eq1) (lw_V q1279 q1280 q1281 q120 q1282) rfl hdX1_reducedAt rfl rfl (Nat.le_of_ble_eq_true rfl) ⟨by decide, by decide⟩ dX0_reducedAt_7 ?_
    by_cases c3 : e2.1 = 0
    · have h := it_ h c3
      rw [c3]
      refine r_catch0 C X (by decide) (by decide) q551 (lw_n q562 rfl) ?_
      refine r_astore C [(5, vO e2.2.1), (0, vO a0), (1, vI x1), (2, vI x2), (3, vI x3), (4, vO a4)] dX0_reducedAt_15 (by decide) rfl ?_
      refine r_iconst C dX0_reducedAt_17 ?_
      cases h
      exact r_xiret C hK dX0_reducedAt_18
    have h := ie_ h c3
    by_cases c4 : e2.1 = 4
    · have h := it_ h c4
      rw [c4]
      refine r_catch1 C X (by decide) q551 (C.kt.2.2.2.2.2.2 4 0 (by decide) (by decide) (by decide)) (by decide) (by decide) q1213 (lw_n q1226 rfl) ?_
      refine r_astore C [(5, vO e2.2.1), (0, vO a0), (1, vI x1), (2, vI x2), (3, vI x3), (4, vO a4)] dX0_reducedAt_19 (by decide) rfl ?_
      refine r_iconst C dX0_reducedAt_21 ?_
      cases h
      exact r_xiret C hK dX0_reducedAt_22
    have h := ie_ h c4
    cases h
  · refine r_xV C (As := [vI x1, vI x2, vI x3]) (b := a0) (rest := [vI 0, vO a4]) (st1 := [vI q1.1, vI 0, vO a4]) (v := some (vI q1.1)) (μ1 := q1.2) (r := (RX1, TX1, 19)) (ci := 0) rfl eu5 (m_X1_reducedAt C.tr eq1) (lw_V q1279 q1280 q1281 q120 q1282) rfl hdX1_reducedAt rfl rfl (Nat.le_of_ble_eq_true rfl) ⟨by decide, by decide⟩ dX0_reducedAt_7 rfl ?_
    refine r_i2l C dX0_reducedAt_10 ?_
    obtain ⟨m6, em6, h⟩ := bs h
    refine r_last C em6 dX0_reducedAt_11 ?_
    refine r_goto C dX0_reducedAt_12 (tgt := 23) (by decide) ?_
    refine r_iconst C dX0_reducedAt_23 ?_
    cases h
    exact r_xiret C hK dX0_reducedAt_24
theorem hdX0_reducedAt : zhd yX0_reducedAt 5 := by decide +kernel
theorem m_X0_reducedAt {l : Launch} {D : va_G} {b0 : Nat} (hl : l.stackTraces = false) {a0 : Nat} {x1 : Int} {x2 : Int} {x3 : Int} {a4 : Nat} {μ : Me} {w : Ex ⊕ (Int × Me)} (h : s_X0_reducedAt a0 x1 x2 x3 a4 μ = some w) : XN l D b0 yX0_reducedAt (wsW_ yX0_reducedAt cX0_reducedAt 6 (some .int) [((0 : Nat), (12 : Nat), (15 : Nat), (13 : Nat)), ((0 : Nat), (12 : Nat), (19 : Nat), (122 : Nat))]) 9 [vO a0, vI x1, vI x2, vI x3, vO a4] μ (zoI w) (zmI w) :=
  XN.ofH hl (by decide +kernel) (Nat.le_of_ble_eq_true rfl) (fun Z C X _ _ => w_X0_reducedAt C X h rfl)
noncomputable def s_X0_real (a0 : Nat) (x1 : Int) (x2 : Int) (x3 : Int) (x4 : Int) (x5 : Int) (a6 : Nat) (μ : Me) : Option (Ex ⊕ (Int × Me)) :=
  (ck μ 0 a0).bind fun _ =>
  xb (s_X1_real a0 x1 x2 x3 x4 x5 μ) (fun e2 => (if e2.1 = 0 then
  some (.inr (1, e2.2.2))
  else
  none)) fun q1 =>
  (uJ q1.2 a6 0 (w32 q1.1)).bind fun m5 =>
  some (.inr (0, m5))
theorem w_X0_real {Z : Zt} {fin : Ex ⊕ (Int × Me)} {w : Ex ⊕ (Int × Me)} (C : CX Z yX0_real cX0_real (some .int) 8 8) (X : XT Z [((0 : Nat), (16 : Nat), (19 : Nat), (13 : Nat))]) {a0 : Nat} {x1 : Int} {x2 : Int} {x3 : Int} {x4 : Int} {x5 : Int} {a6 : Nat} {μ : Me} (h : s_X0_real a0 x1 x2 x3 x4 x5 a6 μ = some w) (hK : w = fin) : WL Z (XQ Z (zoI fin) (zmI fin)) μ 0 [(0, vO a0), (1, vI x1), (2, vI x2), (3, vI x3), (4, vI x4), (5, vI x5), (6, vO a6)] [] := by
  unfold s_X0_real at h
  refine r_aload C 6 dX0_real_0 rfl ?_
  refine r_iconst C dX0_real_2 ?_
  refine r_aload_n C 0 dX0_real_3 rfl rfl ?_
  refine r_iload_n C 1 dX0_real_4 rfl rfl ?_
  refine r_iload_n C 2 dX0_real_5 rfl rfl ?_
  refine r_iload_n C 3 dX0_real_6 rfl rfl ?_
  refine r_iload C 4 dX0_real_7 rfl ?_
  refine r_iload C 5 dX0_real_9 rfl ?_
  obtain ⟨u4, eu4, h⟩ := bs h
  rcases xbs h with ⟨e2, eq1, h⟩ | ⟨q1, eq1, h⟩
  · refine r_xVx C (As := [vI x1, vI x2, vI x3, vI x4, vI x5]) (b := a0) (rest := [vI 0, vO a6]) (μ1 := e2.2.2) (r := (RX1, TX1, 19)) (ci := 0) rfl eu4 (m_X1_real C.tr eq1) (lw_V q1286 q1287 q1288 q120 q1289) rfl hdX1_real rfl rfl (Nat.le_of_ble_eq_true rfl) ⟨by decide, by decide⟩ dX0_real_11 ?_
    by_cases c3 : e2.1 = 0
    · have h := it_ h c3
      rw [c3]
      refine r_catch0 C X (by decide) (by decide) q551 (lw_n q562 rfl) ?_
      refine r_astore C [(7, vO e2.2.1), (0, vO a0), (1, vI x1), (2, vI x2), (3, vI x3), (4, vI x4), (5, vI x5), (6, vO a6)] dX0_real_19 (by decide) rfl ?_
      refine r_iconst C dX0_real_21 ?_
      cases h
      exact r_xiret C hK dX0_real_22
    have h := ie_ h c3
    cases h
  · refine r_xV C (As := [vI x1, vI x2, vI x3, vI x4, vI x5]) (b := a0) (rest := [vI 0, vO a6]) (st1 := [vI q1.1, vI 0, vO a6]) (v := some (vI q1.1)) (μ1 := q1.2) (r := (RX1, TX1, 19)) (ci := 0) rfl eu4 (m_X1_real C.tr eq1) (lw_V q1286 q1287 q1288 q120 q1289) rfl hdX1_real rfl rfl (Nat.le_of_ble_eq_true rfl) ⟨by decide, by decide⟩ dX0_real_11 rfl ?_
    refine r_i2l C dX0_real_14 ?_
    obtain ⟨m5, em5, h⟩ := bs h
    refine r_last C em5 dX0_real_15 ?_
    refine r_goto C dX0_real_16 (tgt := 23) (by decide) ?_
    refine r_iconst C dX0_real_23 ?_
    cases h
    exact r_xiret C hK dX0_real_24
theorem hdX0_real : zhd yX0_real 7 := by decide +kernel
theorem m_X0_real {l : Launch} {D : va_G} {b0 : Nat} (hl : l.stackTraces = false) {a0 : Nat} {x1 : Int} {x2 : Int} {x3 : Int} {x4 : Int} {x5 : Int} {a6 : Nat} {μ : Me} {w : Ex ⊕ (Int × Me)} (h : s_X0_real a0 x1 x2 x3 x4 x5 a6 μ = some w) : XN l D b0 yX0_real (wsW_ yX0_real cX0_real 8 (some .int) [((0 : Nat), (16 : Nat), (19 : Nat), (13 : Nat))]) 8 [vO a0, vI x1, vI x2, vI x3, vI x4, vI x5, vO a6] μ (zoI w) (zmI w) :=
  XN.ofH hl (by decide +kernel) (Nat.le_of_ble_eq_true rfl) (fun Z C X _ _ => w_X0_real C X h rfl)
