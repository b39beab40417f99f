/-! printed by gen/walk.py -/
set_option maxRecDepth 100000
set_option maxHeartbeats 4000000

noncomputable def s_X7_of (a0 : Nat) (y1 : Int) (μ : Me) : Option (Int × Me) :=
  (gI μ 5 a0 0).bind fun v1 =>
  (rmJ y1 (w32 v1)).bind fun v2 =>
  (if 0 ≤ w32 v2 then
  some (v2, μ)
  else
  (gI μ 5 a0 0).bind fun v4 =>
  some ((v2 + v4), μ))
theorem w_X7_of {Z : Zt} {fin : Int × Me} {w : Int × Me} (C : CX Z yX7_of cX7_of (some .int) 1 4) {a0 : Nat} {y1 : Int} {μ : Me} (h : s_X7_of a0 y1 μ = some w) (hK : w = fin) : WL Z (QN Z (some (vI fin.1)) fin.2) μ 0 [(0, vO a0), (1, vJ y1)] [] := by
  unfold s_X7_of at h
  refine r_lload_n C 1 dX7_of_0 rfl rfl ?_
  refine r_aload_n C 0 dX7_of_1 rfl rfl ?_
  obtain ⟨v1, ev1, h⟩ := bs h
  refine r_getI C (c := 5) (r := (RX7, TX7, 1)) rfl 0 (by decide) rfl ev1 q287 dX7_of_2 ?_
  refine r_i2l C dX7_of_5 ?_
  obtain ⟨v2, ev2, h⟩ := bs h
  refine r_lrem C ev2 dX7_of_6 ?_
  refine r_l2i C dX7_of_7 ?_
  refine r_istore_n C [(3, vI v2), (0, vO a0), (1, vJ y1)] dX7_of_8 rfl (by decide) rfl ?_
  refine r_iload_n C 0 dX7_of_9 rfl rfl ?_
  refine r_if_ge C dX7_of_10 (tgt := 22) (by decide) (fun c3 => ?_) (fun c3 => ?_)
  · have h := it_ h c3
    refine r_iload_n C 0 dX7_of_22 rfl rfl ?_
    cases h
    exact r_iret C hK dX7_of_23
  · have h := ie_ h c3
    refine r_iload_n C 0 dX7_of_13 rfl rfl ?_
    refine r_aload_n C 1 dX7_of_14 rfl rfl ?_
    obtain ⟨v4, ev4, h⟩ := bs h
    refine r_getI C (c := 5) (r := (RX7, TX7, 1)) rfl 0 (by decide) rfl ev4 q287 dX7_of_15 ?_
    refine r_iadd C dX7_of_18 ?_
    refine r_goto C dX7_of_19 (tgt := 23) (by decide) ?_
    cases h
    exact r_iret C hK dX7_of_23
theorem hdX7_of : zhd yX7_of 1 := by decide +kernel
theorem m_X7_of {l : Launch} {D : va_G} {b0 : Nat} (hl : l.stackTraces = false) {a0 : Nat} {y1 : Int} {μ : Me} {w : Int × Me} (h : s_X7_of a0 y1 μ = some w) : MN l D b0 yX7_of (ws_ yX7_of cX7_of 4 (some .int)) 1 [vO a0, vJ y1] μ (some (vI w.1)) w.2 :=
  MN.of hl (by decide +kernel) (Nat.le_of_ble_eq_true rfl) (fun Z C _ _ => w_X7_of C h rfl)
noncomputable def s_X7_power_l5_st (a0 : Nat) (x1 : Int) (x2 : Int) (x3 : Int) (x4 : Int) (μ : Me) : Option ((Int × Int × Me) ⊕ (Int × Me)) :=
  (if w32 x2 ≤ w32 x4 then
  some (.inr (x3, μ))
  else
  (ck μ 5 a0).bind fun _ =>
  (s_X7_of a0 ((w32 x3) * (w32 x1)) μ).bind fun q2 =>
  some (.inl (q2.1, (x4 + 1), q2.2)))
theorem w_X7_power_l5_st {Z : Zt} {fin : Int × Me} {w : ((Int × Int × Me) ⊕ (Int × Me))} (C : CX Z yX7_power cX7_power (some .int) 2 5) {a0 : Nat} {x1 : Int} {x2 : Int} {x3 : Int} {x4 : Int} {μ : Me} (h : s_X7_power_l5_st a0 x1 x2 x3 x4 μ = some w) (hK : (Sum.elim (fun s : Int × Int × Me => WL Z (QN Z (some (vI fin.1)) fin.2) s.2.2 5 [(0, vO a0), (1, vI x1), (2, vI x2), (3, vI s.1), (4, vI s.2.1)] []) (fun r : Int × Me => r = fin)) w) : WL Z (QN Z (some (vI fin.1)) fin.2) μ 5 [(0, vO a0), (1, vI x1), (2, vI x2), (3, vI x3), (4, vI x4)] [] := by
  unfold s_X7_power_l5_st at h
  refine r_iload C 4 dX7_power_5 rfl ?_
  refine r_iload_n C 2 dX7_power_7 rfl rfl ?_
  refine r_icmp_ge C dX7_power_8 (tgt := 27) (by decide) (fun c1 => ?_) (fun c1 => ?_)
  · have h := it_ h c1
    refine r_iload_n C 3 dX7_power_27 rfl rfl ?_
    cases h
    exact r_iret C hK dX7_power_28
  · have h := ie_ h c1
    refine r_aload_n C 0 dX7_power_11 rfl rfl ?_
    refine r_iload_n C 3 dX7_power_12 rfl rfl ?_
    refine r_i2l C dX7_power_13 ?_
    refine r_iload_n C 1 dX7_power_14 rfl rfl ?_
    refine r_i2l C dX7_power_15 ?_
    refine r_lmul C dX7_power_16 ?_
    obtain ⟨u3, eu3, h⟩ := bs h
    obtain ⟨q2, eq2, h⟩ := bs h
    refine r_callV C (As := [vJ ((w32 x3) * (w32 x1))]) (b := a0) (rest := []) (st1 := [vI q2.1]) (v := some (vI q2.1)) (r := (RX7, TX7, 1)) (ci := 5) rfl eu3 (m_X7_of C.tr eq2) (lw_V q839 q632 q633 q129 q634) rfl hdX7_of rfl rfl (Nat.le_of_ble_eq_true rfl) ⟨by decide, by decide⟩ dX7_power_17 rfl ?_
    refine r_istore_n C [(3, vI q2.1), (0, vO a0), (1, vI x1), (2, vI x2), (4, vI x4)] dX7_power_20 rfl (by decide) rfl ?_
    refine r_iinc C 4 [(4, vI (x4 + 1)), (3, vI q2.1), (0, vO a0), (1, vI x1), (2, vI x2)] dX7_power_21 rfl (by decide) rfl ?_
    refine r_goto C dX7_power_24 (tgt := 5) (by decide) ?_
    cases h
    refine r_sub [2, 3, 4, 1, 0] rfl ?_
    exact hK
noncomputable def s_X7_power_l5 (a0 : Nat) (x1 : Int) (x2 : Int) (x3 : Int) (x4 : Int) (μ : Me) : Option (Int × Me) :=
  whileO (fun s : Int × Int × Me => s_X7_power_l5_st a0 x1 x2 s.1 s.2.1 s.2.2) (x3, x4, μ)
theorem e_X7_power_l5 (a0 : Nat) (x1 : Int) (x2 : Int) (x3 : Int) (x4 : Int) (μ : Me) : s_X7_power_l5 a0 x1 x2 x3 x4 μ = (s_X7_power_l5_st a0 x1 x2 x3 x4 μ).bind fun x => x.elim (fun s : Int × Int × Me => s_X7_power_l5 a0 x1 x2 s.1 s.2.1 s.2.2) some := whileO_eq _ _
theorem w_X7_power_l5 {Z : Zt} {fin : Int × Me} {w : (Int × Me)} (C : CX Z yX7_power cX7_power (some .int) 2 5) {a0 : Nat} {x1 : Int} {x2 : Int} {x3 : Int} {x4 : Int} {μ : Me} (h : s_X7_power_l5 a0 x1 x2 x3 x4 μ = some w) (hK : (fun r : Int × Me => r = fin) w) : WL Z (QN Z (some (vI fin.1)) fin.2) μ 5 [(0, vO a0), (1, vI x1), (2, vI x2), (3, vI x3), (4, vI x4)] [] := by
  refine whileO_walk (w := w) (fun s : Int × Int × Me => WL Z (QN Z (some (vI fin.1)) fin.2) s.2.2 5 [(0, vO a0), (1, vI x1), (2, vI x2), (3, vI s.1), (4, vI s.2.1)] []) (fun s v h2 hi hr => ?_) (x3, x4, μ) h
  refine w_X7_power_l5_st (fin := fin) C h2 ?_
  cases v with
  | inl s2 => exact hi s2 rfl
  | inr r => have e := hr r rfl; subst e; exact hK
noncomputable def s_X7_power (a0 : Nat) (x1 : Int) (x2 : Int) (μ : Me) : Option (Int × Me) :=
  s_X7_power_l5 a0 x1 x2 1 0 μ
theorem w_X7_power {Z : Zt} {fin : Int × Me} {w : Int × Me} (C : CX Z yX7_power cX7_power (some .int) 2 5) {a0 : Nat} {x1 : Int} {x2 : Int} {μ : Me} (h : s_X7_power a0 x1 x2 μ = some w) (hK : w = fin) : WL Z (QN Z (some (vI fin.1)) fin.2) μ 0 [(0, vO a0), (1, vI x1), (2, vI x2)] [] := by
  unfold s_X7_power at h
  refine r_iconst C dX7_power_0 ?_
  refine r_istore_n C [(3, vI 1), (0, vO a0), (1, vI x1), (2, vI x2)] dX7_power_1 rfl (by decide) rfl ?_
  refine r_iconst C dX7_power_2 ?_
  refine r_istore C [(4, vI 0), (3, vI 1), (0, vO a0), (1, vI x1), (2, vI x2)] dX7_power_3 (by decide) rfl ?_
  refine r_sub [2, 3, 4, 1, 0] rfl ?_
  exact w_X7_power_l5 (fin := fin) C h hK
theorem hdX7_power : zhd yX7_power 2 := by decide +kernel
theorem m_X7_power {l : Launch} {D : va_G} {b0 : Nat} (hl : l.stackTraces = false) {a0 : Nat} {x1 : Int} {x2 : Int} {μ : Me} {w : Int × Me} (h : s_X7_power a0 x1 x2 μ = some w) : MN l D b0 yX7_power (ws_ yX7_power cX7_power 5 (some .int)) 2 [vO a0, vI x1, vI x2] μ (some (vI w.1)) w.2 :=
  MN.of hl (by decide +kernel) (Nat.le_of_ble_eq_true rfl) (fun Z C _ _ => w_X7_power C h rfl)
noncomputable def s_X7_inverse (a0 : Nat) (x1 : Int) (μ : Me) : Option (Int × Me) :=
  (gI μ 5 a0 0).bind fun v1 =>
  (ck μ 5 a0).bind fun _ =>
  (s_X7_power a0 x1 (v1 - 2) μ).bind fun q2 =>
  some (q2.1, q2.2)
theorem w_X7_inverse {Z : Zt} {fin : Int × Me} {w : Int × Me} (C : CX Z yX7_inverse cX7_inverse (some .int) 3 2) {a0 : Nat} {x1 : Int} {μ : Me} (h : s_X7_inverse a0 x1 μ = some w) (hK : w = fin) : WL Z (QN Z (some (vI fin.1)) fin.2) μ 0 [(0, vO a0), (1, vI x1)] [] := by
  unfold s_X7_inverse at h
  refine r_aload_n C 0 dX7_inverse_0 rfl rfl ?_
  refine r_iload_n C 1 dX7_inverse_1 rfl rfl ?_
  refine r_aload_n C 0 dX7_inverse_2 rfl rfl ?_
  obtain ⟨v1, ev1, h⟩ := bs h
  refine r_getI C (c := 5) (r := (RX7, TX7, 1)) rfl 0 (by decide) rfl ev1 q287 dX7_inverse_3 ?_
  refine r_iconst C dX7_inverse_6 ?_
  refine r_isub C dX7_inverse_7 ?_
  obtain ⟨u3, eu3, h⟩ := bs h
  obtain ⟨q2, eq2, h⟩ := bs h
  refine r_callV C (As := [vI x1, vI (v1 - 2)]) (b := a0) (rest := []) (st1 := [vI q2.1]) (v := some (vI q2.1)) (r := (RX7, TX7, 1)) (ci := 5) rfl eu3 (m_X7_power C.tr eq2) (lw_V q1043 q836 q837 q129 q838) rfl hdX7_power rfl rfl (Nat.le_of_ble_eq_true rfl) ⟨by decide, by decide⟩ dX7_inverse_8 rfl ?_
  cases h
  exact r_iret C hK dX7_inverse_11
theorem hdX7_inverse : zhd yX7_inverse 1 := by decide +kernel
theorem m_X7_inverse {l : Launch} {D : va_G} {b0 : Nat} (hl : l.stackTraces = false) {a0 : Nat} {x1 : Int} {μ : Me} {w : Int × Me} (h : s_X7_inverse a0 x1 μ = some w) : MN l D b0 yX7_inverse (ws_ yX7_inverse cX7_inverse 2 (some .int)) 3 [vO a0, vI x1] μ (some (vI w.1)) w.2 :=
  MN.of hl (by decide +kernel) (Nat.le_of_ble_eq_true rfl) (fun Z C _ _ => w_X7_inverse C h rfl)
noncomputable def s_X8_nought_l7_st (a0 : Nat) (x2 : Int) (μ : Me) : Option ((Int × Me) ⊕ (Me)) :=
  (if w32 40 < w32 x2 then
  some (.inr μ)
  else
  (gR μ 6 a0 0).bind fun v3 =>
  (uI μ v3 x2 0).bind fun m4 =>
  some (.inl ((x2 + 1), m4)))
theorem w_X8_nought_l7_st {Z : Zt} {fin : Me} {w : ((Int × Me) ⊕ (Me))} (C : CX Z yX8_nought cX8_nought none 1 3) {a0 : Nat} {x2 : Int} {μ : Me} (h : s_X8_nought_l7_st a0 x2 μ = some w) (hK : (Sum.elim (fun s : Int × Me => WL Z (QN Z none fin) s.2 7 [(0, vO a0), (2, vI s.1)] []) (fun r : Me => r = fin)) w) : WL Z (QN Z none fin) μ 7 [(0, vO a0), (2, vI x2)] [] := by
  unfold s_X8_nought_l7_st at h
  refine r_iload_n C 1 dX8_nought_7 rfl rfl ?_
  refine r_bipush C dX8_nought_8 (by decide) ?_
  refine r_icmp_gt C dX8_nought_10 (tgt := 26) (by decide) (fun c2 => ?_) (fun c2 => ?_)
  · have h := it_ h c2
    cases h
    exact r_vret C hK dX8_nought_26
  · have h := ie_ h c2
    refine r_aload_n C 0 dX8_nought_13 rfl rfl ?_
    obtain ⟨v3, ev3, h⟩ := bs h
    refine r_getR C (c := 6) (r := (RX8, TX8, 2)) rfl 0 (by decide) rfl ev3 q299 dX8_nought_14 ?_
    refine r_iload_n C 1 dX8_nought_17 rfl rfl ?_
    refine r_iconst C dX8_nought_18 ?_
    obtain ⟨m4, em4, h⟩ := bs h
    refine r_iast C em4 dX8_nought_19 ?_
    refine r_iinc C 1 [(2, vI (x2 + 1)), (0, vO a0)] dX8_nought_20 rfl (by decide) rfl ?_
    refine r_goto C dX8_nought_23 (tgt := 7) (by decide) ?_
    cases h
    refine r_sub [1, 0] rfl ?_
    exact hK
noncomputable def s_X8_nought_l7 (a0 : Nat) (x2 : Int) (μ : Me) : Option (Me) :=
  whileO (fun s : Int × Me => s_X8_nought_l7_st a0 s.1 s.2) (x2, μ)
theorem e_X8_nought_l7 (a0 : Nat) (x2 : Int) (μ : Me) : s_X8_nought_l7 a0 x2 μ = (s_X8_nought_l7_st a0 x2 μ).bind fun x => x.elim (fun s : Int × Me => s_X8_nought_l7 a0 s.1 s.2) some := whileO_eq _ _
theorem w_X8_nought_l7 {Z : Zt} {fin : Me} {w : (Me)} (C : CX Z yX8_nought cX8_nought none 1 3) {a0 : Nat} {x2 : Int} {μ : Me} (h : s_X8_nought_l7 a0 x2 μ = some w) (hK : (fun r : Me => r = fin) w) : WL Z (QN Z none fin) μ 7 [(0, vO a0), (2, vI x2)] [] := by
  refine whileO_walk (w := w) (fun s : Int × Me => WL Z (QN Z none fin) s.2 7 [(0, vO a0), (2, vI s.1)] []) (fun s v h2 hi hr => ?_) (x2, μ) h
  refine w_X8_nought_l7_st (fin := fin) C h2 ?_
  cases v with
  | inl s2 => exact hi s2 rfl
  | inr r => have e := hr r rfl; subst e; exact hK
noncomputable def s_X8_nought (a0 : Nat) (x1 : Int) (μ : Me) : Option (Me) :=
  (pI μ 6 a0 1 x1).bind fun m1 =>
  s_X8_nought_l7 a0 0 m1
theorem w_X8_nought {Z : Zt} {fin : Me} {w : Me} (C : CX Z yX8_nought cX8_nought none 1 3) {a0 : Nat} {x1 : Int} {μ : Me} (h : s_X8_nought a0 x1 μ = some w) (hK : w = fin) : WL Z (QN Z none fin) μ 0 [(0, vO a0), (1, vI x1)] [] := by
  unfold s_X8_nought at h
  refine r_aload_n C 0 dX8_nought_0 rfl rfl ?_
  refine r_iload_n C 1 dX8_nought_1 rfl rfl ?_
  obtain ⟨m1, em1, h⟩ := bs h
  refine r_putI C (c := 6) (r := (RX8, TX8, 2)) rfl 1 (by decide) rfl ⟨rfl, rfl⟩ rfl em1 q306 dX8_nought_2 ?_
  refine r_iconst C dX8_nought_5 ?_
  refine r_istore_n C [(2, vI 0), (0, vO a0), (1, vI x1)] dX8_nought_6 rfl (by decide) rfl ?_
  refine r_sub [1, 0] rfl ?_
  exact w_X8_nought_l7 (fin := fin) C h hK
theorem hdX8_nought : zhd yX8_nought 1 := by decide +kernel
theorem m_X8_nought {l : Launch} {D : va_G} {b0 : Nat} (hl : l.stackTraces = false) {a0 : Nat} {x1 : Int} {μ : Me} {w : Me} (h : s_X8_nought a0 x1 μ = some w) : MN l D b0 yX8_nought (ws_ yX8_nought cX8_nought 3 none) 1 [vO a0, vI x1] μ none w :=
  MN.of hl (by decide +kernel) (Nat.le_of_ble_eq_true rfl) (fun Z C _ _ => w_X8_nought C h rfl)
noncomputable def s_X8_isValue (a0 : Nat) (μ : Me) : Option (Int × Me) :=
  (gI μ 6 a0 1).bind fun v1 =>
  (if w32 v1 = w32 (-1) then
  some (0, μ)
  else
  some (1, μ))
theorem w_X8_isValue {Z : Zt} {fin : Int × Me} {w : Int × Me} (C : CX Z yX8_isValue cX8_isValue (some .boolean) 1 1) {a0 : Nat} {μ : Me} (h : s_X8_isValue a0 μ = some w) (hK : w = fin) : WL Z (QN Z (some (vI fin.1)) fin.2) μ 0 [(0, vO a0)] [] := by
  unfold s_X8_isValue at h
  refine r_aload_n C 0 dX8_isValue_0 rfl rfl ?_
  obtain ⟨v1, ev1, h⟩ := bs h
  refine r_getI C (c := 6) (r := (RX8, TX8, 2)) rfl 1 (by decide) rfl ev1 q306 dX8_isValue_1 ?_
  refine r_iconst C dX8_isValue_4 ?_
  refine r_icmp_eq C dX8_isValue_5 (tgt := 12) (by decide) (fun c2 => ?_) (fun c2 => ?_)
  · have h := it_ h c2
    refine r_iconst C dX8_isValue_12 ?_
    cases h
    exact r_zret C (Or.inl rfl) hK dX8_isValue_13
  · have h := ie_ h c2
    refine r_iconst C dX8_isValue_8 ?_
    refine r_goto C dX8_isValue_9 (tgt := 13) (by decide) ?_
    cases h
    exact r_zret C (Or.inr rfl) hK dX8_isValue_13
theorem hdX8_isValue : zhd yX8_isValue 0 := by decide +kernel
theorem m_X8_isValue {l : Launch} {D : va_G} {b0 : Nat} (hl : l.stackTraces = false) {a0 : Nat} {μ : Me} {w : Int × Me} (h : s_X8_isValue a0 μ = some w) : MN l D b0 yX8_isValue (ws_ yX8_isValue cX8_isValue 1 (some .boolean)) 1 [vO a0] μ (some (vI w.1)) w.2 :=
  MN.of hl (by decide +kernel) (Nat.le_of_ble_eq_true rfl) (fun Z C _ _ => w_X8_isValue C h rfl)
noncomputable def s_X8_isNought_l4_st (a0 : Nat) (x1 : Int) (x2 : Int) (μ : Me) : Option ((Int × Int × Me) ⊕ (Int × Me)) :=
  (gI μ 6 a0 1).bind fun v1 =>
  (if w32 v1 < w32 x2 then
  (bz2 x1).bind fun _ =>
  some (.inr (x1, μ))
  else
  (if w32 x1 = 0 then
  some (.inl (0, (x2 + 1), μ))
  else
  (gR μ 6 a0 0).bind fun v5 =>
  (aI μ 101 v5 x2).bind fun v6 =>
  (if w32 v6 = 0 then
  some (.inl (1, (x2 + 1), μ))
  else
  some (.inl (0, (x2 + 1), μ)))))
theorem w_X8_isNought_l4_st {Z : Zt} {fin : Int × Me} {w : ((Int × Int × Me) ⊕ (Int × Me))} (C : CX Z yX8_isNought cX8_isNought (some .boolean) 1 3) {a0 : Nat} {x1 : Int} {x2 : Int} {μ : Me} (h : s_X8_isNought_l4_st a0 x1 x2 μ = some w) (hK : (Sum.elim (fun s : Int × Int × Me => WL Z (QN Z (some (vI fin.1)) fin.2) s.2.2 4 [(0, vO a0), (1, vI s.1), (2, vI s.2.1)] []) (fun r : Int × Me => r = fin)) w) : WL Z (QN Z (some (vI fin.1)) fin.2) μ 4 [(0, vO a0), (1, vI x1), (2, vI x2)] [] := by
  unfold s_X8_isNought_l4_st at h
  refine r_iload_n C 2 dX8_isNought_4 rfl rfl ?_
  refine r_aload_n C 0 dX8_isNought_5 rfl rfl ?_
  obtain ⟨v1, ev1, h⟩ := bs h
  refine r_getI C (c := 6) (r := (RX8, TX8, 2)) rfl 1 (by decide) rfl ev1 q306 dX8_isNought_6 ?_
  refine r_icmp_gt C dX8_isNought_9 (tgt := 37) (by decide) (fun c2 => ?_) (fun c2 => ?_)
  · have h := it_ h c2
    refine r_iload_n C 1 dX8_isNought_37 rfl rfl ?_
    obtain ⟨u3, eu3, h⟩ := bs h
    cases h
    exact r_zret C (bz2_ok eu3) hK dX8_isNought_38
  · have h := ie_ h c2
    refine r_iload_n C 1 dX8_isNought_12 rfl rfl ?_
    refine r_if_eq C dX8_isNought_13 (tgt := 29) (by decide) (fun c4 => ?_) (fun c4 => ?_)
    · have h := it_ h c4
      refine r_iconst C dX8_isNought_29 ?_
      refine r_istore_n C [(1, vI 0), (0, vO a0), (2, vI x2)] dX8_isNought_30 rfl (by decide) rfl ?_
      refine r_iinc C 2 [(2, vI (x2 + 1)), (1, vI 0), (0, vO a0)] dX8_isNought_31 rfl (by decide) rfl ?_
      refine r_goto C dX8_isNought_34 (tgt := 4) (by decide) ?_
      cases h
      refine r_sub [2, 1, 0] rfl ?_
      exact hK
    · have h := ie_ h c4
      refine r_aload_n C 0 dX8_isNought_16 rfl rfl ?_
      obtain ⟨v5, ev5, h⟩ := bs h
      refine r_getR C (c := 6) (r := (RX8, TX8, 2)) rfl 0 (by decide) rfl ev5 q299 dX8_isNought_17 ?_
      refine r_iload_n C 2 dX8_isNought_20 rfl rfl ?_
      obtain ⟨v6, ev6, h⟩ := bs h
      refine r_iald C ev6 dX8_isNought_21 ?_
      refine r_if_ne C dX8_isNought_22 (tgt := 29) (by decide) (fun c7 => ?_) (fun c7 => ?_)
      · have h := ie_ h c7
        refine r_iconst C dX8_isNought_29 ?_
        refine r_istore_n C [(1, vI 0), (0, vO a0), (2, vI x2)] dX8_isNought_30 rfl (by decide) rfl ?_
        refine r_iinc C 2 [(2, vI (x2 + 1)), (1, vI 0), (0, vO a0)] dX8_isNought_31 rfl (by decide) rfl ?_
        refine r_goto C dX8_isNought_34 (tgt := 4) (by decide) ?_
        cases h
        refine r_sub [2, 1, 0] rfl ?_
        exact hK
      · have h := it_ h c7
        refine r_iconst C dX8_isNought_25 ?_
        refine r_goto C dX8_isNought_26 (tgt := 30) (by decide) ?_
        refine r_istore_n C [(1, vI 1), (0, vO a0), (2, vI x2)] dX8_isNought_30 rfl (by decide) rfl ?_
        refine r_iinc C 2 [(2, vI (x2 + 1)), (1, vI 1), (0, vO a0)] dX8_isNought_31 rfl (by decide) rfl ?_
        refine r_goto C dX8_isNought_34 (tgt := 4) (by decide) ?_
        cases h
        refine r_sub [2, 1, 0] rfl ?_
        exact hK
noncomputable def s_X8_isNought_l4 (a0 : Nat) (x1 : Int) (x2 : Int) (μ : Me) : Option (Int × Me) :=
  whileO (fun s : Int × Int × Me => s_X8_isNought_l4_st a0 s.1 s.2.1 s.2.2) (x1, x2, μ)
theorem e_X8_isNought_l4 (a0 : Nat) (x1 : Int) (x2 : Int) (μ : Me) : s_X8_isNought_l4 a0 x1 x2 μ = (s_X8_isNought_l4_st a0 x1 x2 μ).bind fun x => x.elim (fun s : Int × Int × Me => s_X8_isNought_l4 a0 s.1 s.2.1 s.2.2) some := whileO_eq _ _
theorem w_X8_isNought_l4 {Z : Zt} {fin : Int × Me} {w : (Int × Me)} (C : CX Z yX8_isNought cX8_isNought (some .boolean) 1 3) {a0 : Nat} {x1 : Int} {x2 : Int} {μ : Me} (h : s_X8_isNought_l4 a0 x1 x2 μ = some w) (hK : (fun r : Int × Me => r = fin) w) : WL Z (QN Z (some (vI fin.1)) fin.2) μ 4 [(0, vO a0), (1, vI x1), (2, vI x2)] [] := by
  refine whileO_walk (w := w) (fun s : Int × Int × Me => WL Z (QN Z (some (vI fin.1)) fin.2) s.2.2 4 [(0, vO a0), (1, vI s.1), (2, vI s.2.1)] []) (fun s v h2 hi hr => ?_) (x1, x2, μ) h
  refine w_X8_isNought_l4_st (fin := fin) C h2 ?_
  cases v with
  | inl s2 => exact hi s2 rfl
  | inr r => have e := hr r rfl; subst e; exact hK
noncomputable def s_X8_isNought (a0 : Nat) (μ : Me) : Option (Int × Me) :=
  s_X8_isNought_l4 a0 1 0 μ
theorem w_X8_isNought {Z : Zt} {fin : Int × Me} {w : Int × Me} (C : CX Z yX8_isNought cX8_isNought (some .boolean) 1 3) {a0 : Nat} {μ : Me} (h : s_X8_isNought a0 μ = some w) (hK : w = fin) : WL Z (QN Z (some (vI fin.1)) fin.2) μ 0 [(0, vO a0)] [] := by
  unfold s_X8_isNought at h
  refine r_iconst C dX8_isNought_0 ?_
  refine r_istore_n C [(1, vI 1), (0, vO a0)] dX8_isNought_1 rfl (by decide) rfl ?_
  refine r_iconst C dX8_isNought_2 ?_
  refine r_istore_n C [(2, vI 0), (1, vI 1), (0, vO a0)] dX8_isNought_3 rfl (by decide) rfl ?_
  refine r_sub [2, 1, 0] rfl ?_
  exact w_X8_isNought_l4 (fin := fin) C h hK
theorem hdX8_isNought : zhd yX8_isNought 0 := by decide +kernel
theorem m_X8_isNought {l : Launch} {D : va_G} {b0 : Nat} (hl : l.stackTraces = false) {a0 : Nat} {μ : Me} {w : Int × Me} (h : s_X8_isNought a0 μ = some w) : MN l D b0 yX8_isNought (ws_ yX8_isNought cX8_isNought 3 (some .boolean)) 1 [vO a0] μ (some (vI w.1)) w.2 :=
  MN.of hl (by decide +kernel) (Nat.le_of_ble_eq_true rfl) (fun Z C _ _ => w_X8_isNought C h rfl)
noncomputable def s_X8_same_l19_st (a0 : Nat) (a1 : Nat) (x2 : Int) (x3 : Int) (μ : Me) : Option ((Int × Int × Me) ⊕ (Int × Me)) :=
  (gI μ 6 a0 1).bind fun v4 =>
  (if w32 v4 < w32 x3 then
  (bz2 x2).bind fun _ =>
  some (.inr (x2, μ))
  else
  (if w32 x2 = 0 then
  (bz2 x2).bind fun _ =>
  some (.inr (x2, μ))
  else
  (gR μ 6 a0 0).bind fun v9 =>
  (aI μ 101 v9 x3).bind fun v10 =>
  (gR μ 6 a1 0).bind fun v11 =>
  (aI μ 101 v11 x3).bind fun v12 =>
  (if w32 v10 = w32 v12 then
  some (.inl (1, (x3 + 1), μ))
  else
  some (.inl (0, (x3 + 1), μ)))))
theorem w_X8_same_l19_st {Z : Zt} {fin : Int × Me} {w : ((Int × Int × Me) ⊕ (Int × Me))} (C : CX Z yX8_same cX8_same (some .boolean) 1 4) {a0 : Nat} {a1 : Nat} {x2 : Int} {x3 : Int} {μ : Me} (h : s_X8_same_l19_st a0 a1 x2 x3 μ = some w) (hK : (Sum.elim (fun s : Int × Int × Me => WL Z (QN Z (some (vI fin.1)) fin.2) s.2.2 19 [(0, vO a0), (1, vO a1), (2, vI s.1), (3, vI s.2.1)] []) (fun r : Int × Me => r = fin)) w) : WL Z (QN Z (some (vI fin.1)) fin.2) μ 19 [(0, vO a0), (1, vO a1), (2, vI x2), (3, vI x3)] [] := by
  unfold s_X8_same_l19_st at h
  refine r_iload_n C 3 dX8_same_19 rfl rfl ?_
  refine r_aload_n C 0 dX8_same_20 rfl rfl ?_
  obtain ⟨v4, ev4, h⟩ := bs h
  refine r_getI C (c := 6) (r := (RX8, TX8, 2)) rfl 1 (by decide) rfl ev4 q306 dX8_same_21 ?_
  refine r_icmp_gt C dX8_same_24 (tgt := 58) (by decide) (fun c5 => ?_) (fun c5 => ?_)
  · have h := it_ h c5
    refine r_iload_n C 2 dX8_same_58 rfl rfl ?_
    obtain ⟨u6, eu6, h⟩ := bs h
    cases h
    exact r_zret C (bz2_ok eu6) hK dX8_same_59
  · have h := ie_ h c5
    refine r_iload_n C 2 dX8_same_27 rfl rfl ?_
    refine r_if_eq C dX8_same_28 (tgt := 58) (by decide) (fun c7 => ?_) (fun c7 => ?_)
    · have h := it_ h c7
      refine r_iload_n C 2 dX8_same_58 rfl rfl ?_
      obtain ⟨u8, eu8, h⟩ := bs h
      cases h
      exact r_zret C (bz2_ok eu8) hK dX8_same_59
    · have h := ie_ h c7
      refine r_aload_n C 0 dX8_same_31 rfl rfl ?_
      obtain ⟨v9, ev9, h⟩ := bs h
      refine r_getR C (c := 6) (r := (RX8, TX8, 2)) rfl 0 (by decide) rfl ev9 q299 dX8_same_32 ?_
      refine r_iload_n C 3 dX8_same_35 rfl rfl ?_
      obtain ⟨v10, ev10, h⟩ := bs h
      refine r_iald C ev10 dX8_same_36 ?_
      refine r_aload_n C 1 dX8_same_37 rfl rfl ?_
      obtain ⟨v11, ev11, h⟩ := bs h
      refine r_getR C (c := 6) (r := (RX8, TX8, 2)) rfl 0 (by decide) rfl ev11 q299 dX8_same_38 ?_
      refine r_iload_n C 3 dX8_same_41 rfl rfl ?_
      obtain ⟨v12, ev12, h⟩ := bs h
      refine r_iald C ev12 dX8_same_42 ?_
      refine r_icmp_ne C dX8_same_43 (tgt := 50) (by decide) (fun c13 => ?_) (fun c13 => ?_)
      · have h := ie_ h c13
        refine r_iconst C dX8_same_50 ?_
        refine r_istore_n C [(2, vI 0), (0, vO a0), (1, vO a1), (3, vI x3)] dX8_same_51 rfl (by decide) rfl ?_
        refine r_iinc C 3 [(3, vI (x3 + 1)), (2, vI 0), (0, vO a0), (1, vO a1)] dX8_same_52 rfl (by decide) rfl ?_
        refine r_goto C dX8_same_55 (tgt := 19) (by decide) ?_
        cases h
        refine r_sub [2, 3, 1, 0] rfl ?_
        exact hK
      · have h := it_ h c13
        refine r_iconst C dX8_same_46 ?_
        refine r_goto C dX8_same_47 (tgt := 51) (by decide) ?_
        refine r_istore_n C [(2, vI 1), (0, vO a0), (1, vO a1), (3, vI x3)] dX8_same_51 rfl (by decide) rfl ?_
        refine r_iinc C 3 [(3, vI (x3 + 1)), (2, vI 1), (0, vO a0), (1, vO a1)] dX8_same_52 rfl (by decide) rfl ?_
        refine r_goto C dX8_same_55 (tgt := 19) (by decide) ?_
        cases h
        refine r_sub [2, 3, 1, 0] rfl ?_
        exact hK
noncomputable def s_X8_same_l19 (a0 : Nat) (a1 : Nat) (x2 : Int) (x3 : Int) (μ : Me) : Option (Int × Me) :=
  whileO (fun s : Int × Int × Me => s_X8_same_l19_st a0 a1 s.1 s.2.1 s.2.2) (x2, x3, μ)
theorem e_X8_same_l19 (a0 : Nat) (a1 : Nat) (x2 : Int) (x3 : Int) (μ : Me) : s_X8_same_l19 a0 a1 x2 x3 μ = (s_X8_same_l19_st a0 a1 x2 x3 μ).bind fun x => x.elim (fun s : Int × Int × Me => s_X8_same_l19 a0 a1 s.1 s.2.1 s.2.2) some := whileO_eq _ _
theorem w_X8_same_l19 {Z : Zt} {fin : Int × Me} {w : (Int × Me)} (C : CX Z yX8_same cX8_same (some .boolean) 1 4) {a0 : Nat} {a1 : Nat} {x2 : Int} {x3 : Int} {μ : Me} (h : s_X8_same_l19 a0 a1 x2 x3 μ = some w) (hK : (fun r : Int × Me => r = fin) w) : WL Z (QN Z (some (vI fin.1)) fin.2) μ 19 [(0, vO a0), (1, vO a1), (2, vI x2), (3, vI x3)] [] := by
  refine whileO_walk (w := w) (fun s : Int × Int × Me => WL Z (QN Z (some (vI fin.1)) fin.2) s.2.2 19 [(0, vO a0), (1, vO a1), (2, vI s.1), (3, vI s.2.1)] []) (fun s v h2 hi hr => ?_) (x2, x3, μ) h
  refine w_X8_same_l19_st (fin := fin) C h2 ?_
  cases v with
  | inl s2 => exact hi s2 rfl
  | inr r => have e := hr r rfl; subst e; exact hK
noncomputable def s_X8_same (a0 : Nat) (a1 : Nat) (μ : Me) : Option (Int × Me) :=
  (gI μ 6 a0 1).bind fun v1 =>
  (gI μ 6 a1 1).bind fun v2 =>
  (if w32 v1 = w32 v2 then
  s_X8_same_l19 a0 a1 1 0 μ
  else
  s_X8_same_l19 a0 a1 0 0 μ)
theorem w_X8_same {Z : Zt} {fin : Int × Me} {w : Int × Me} (C : CX Z yX8_same cX8_same (some .boolean) 1 4) {a0 : Nat} {a1 : Nat} {μ : Me} (h : s_X8_same a0 a1 μ = some w) (hK : w = fin) : WL Z (QN Z (some (vI fin.1)) fin.2) μ 0 [(0, vO a0), (1, vO a1)] [] := by
  unfold s_X8_same at h
  refine r_aload_n C 0 dX8_same_0 rfl rfl ?_
  obtain ⟨v1, ev1, h⟩ := bs h
  refine r_getI C (c := 6) (r := (RX8, TX8, 2)) rfl 1 (by decide) rfl ev1 q306 dX8_same_1 ?_
  refine r_aload_n C 1 dX8_same_4 rfl rfl ?_
  obtain ⟨v2, ev2, h⟩ := bs h
  refine r_getI C (c := 6) (r := (RX8, TX8, 2)) rfl 1 (by decide) rfl ev2 q306 dX8_same_5 ?_
  refine r_icmp_ne C dX8_same_8 (tgt := 15) (by decide) (fun c3 => ?_) (fun c3 => ?_)
  · have h := ie_ h c3
    refine r_iconst C dX8_same_15 ?_
    refine r_istore_n C [(2, vI 0), (0, vO a0), (1, vO a1)] dX8_same_16 rfl (by decide) rfl ?_
    refine r_iconst C dX8_same_17 ?_
    refine r_istore_n C [(3, vI 0), (2, vI 0), (0, vO a0), (1, vO a1)] dX8_same_18 rfl (by decide) rfl ?_
    refine r_sub [2, 3, 1, 0] rfl ?_
    exact w_X8_same_l19 (fin := fin) C h hK
  · have h := it_ h c3
    refine r_iconst C dX8_same_11 ?_
    refine r_goto C dX8_same_12 (tgt := 16) (by decide) ?_
    refine r_istore_n C [(2, vI 1), (0, vO a0), (1, vO a1)] dX8_same_16 rfl (by decide) rfl ?_
    refine r_iconst C dX8_same_17 ?_
    refine r_istore_n C [(3, vI 0), (2, vI 1), (0, vO a0), (1, vO a1)] dX8_same_18 rfl (by decide) rfl ?_
    refine r_sub [2, 3, 1, 0] rfl ?_
    exact w_X8_same_l19 (fin := fin) C h hK
theorem hdX8_same : zhd yX8_same 1 := by decide +kernel
theorem m_X8_same {l : Launch} {D : va_G} {b0 : Nat} (hl : l.stackTraces = false) {a0 : Nat} {a1 : Nat} {μ : Me} {w : Int × Me} (h : s_X8_same a0 a1 μ = some w) : MN l D b0 yX8_same (ws_ yX8_same cX8_same 4 (some .boolean)) 1 [vO a0, vO a1] μ (some (vI w.1)) w.2 :=
  MN.of hl (by decide +kernel) (Nat.le_of_ble_eq_true rfl) (fun Z C _ _ => w_X8_same C h rfl)
noncomputable def s_J6_min (x0 : Int) (x1 : Int) (μ : Me) : Option (Int × Me) :=
  (if w32 x1 < w32 x0 then
  some (x1, μ)
  else
  some (x0, μ))
theorem w_J6_min {Z : Zt} {fin : Int × Me} {w : Int × Me} (C : CX Z yJ6_min cJ6_min (some .int) 1 2) {x0 : Int} {x1 : Int} {μ : Me} (h : s_J6_min x0 x1 μ = some w) (hK : w = fin) : WL Z (QN Z (some (vI fin.1)) fin.2) μ 0 [(0, vI x0), (1, vI x1)] [] := by
  unfold s_J6_min at h
  refine r_iload_n C 0 dJ6_min_0 rfl rfl ?_
  refine r_iload_n C 1 dJ6_min_1 rfl rfl ?_
  refine r_icmp_gt C dJ6_min_2 (tgt := 9) (by decide) (fun c1 => ?_) (fun c1 => ?_)
  · have h := it_ h c1
    refine r_iload_n C 1 dJ6_min_9 rfl rfl ?_
    cases h
    exact r_iret C hK dJ6_min_10
  · have h := ie_ h c1
    refine r_iload_n C 0 dJ6_min_5 rfl rfl ?_
    refine r_goto C dJ6_min_6 (tgt := 10) (by decide) ?_
    cases h
    exact r_iret C hK dJ6_min_10
theorem hdJ6_min : zhd yJ6_min 2 := by decide +kernel
theorem m_J6_min {l : Launch} {D : va_G} {b0 : Nat} (hl : l.stackTraces = false) {x0 : Int} {x1 : Int} {μ : Me} {w : Int × Me} (h : s_J6_min x0 x1 μ = some w) : MN l D b0 yJ6_min (ws_ yJ6_min cJ6_min 2 (some .int)) 1 [vI x0, vI x1] μ (some (vI w.1)) w.2 :=
  MN.of hl (by decide +kernel) (Nat.le_of_ble_eq_true rfl) (fun Z C _ _ => w_J6_min C h rfl)
noncomputable def s_J6_floorDiv (y0 : Int) (y2 : Int) (μ : Me) : Option (Int × Me) :=
  (dvJ y0 y2).bind fun v1 =>
  (if w64 0 ≤ w64 (xoJ y0 y2) then
  some (v1, μ)
  else
  (if w64 (v1 * y2) = w64 y0 then
  some (v1, μ)
  else
  some ((v1 - 1), μ)))
theorem w_J6_floorDiv {Z : Zt} {fin : Int × Me} {w : Int × Me} (C : CX Z yJ6_floorDiv cJ6_floorDiv (some .long) 1 6) {y0 : Int} {y2 : Int} {μ : Me} (h : s_J6_floorDiv y0 y2 μ = some w) (hK : w = fin) : WL Z (QN Z (some (vJ fin.1)) fin.2) μ 0 [(0, vJ y0), (2, vJ y2)] [] := by
  unfold s_J6_floorDiv at h
  refine r_lload_n C 0 dJ6_floorDiv_0 rfl rfl ?_
  refine r_lload_n C 1 dJ6_floorDiv_1 rfl rfl ?_
  obtain ⟨v1, ev1, h⟩ := bs h
  refine r_ldiv C ev1 dJ6_floorDiv_2 ?_
  refine r_lstore C [(4, vJ v1), (0, vJ y0), (2, vJ y2)] dJ6_floorDiv_3 (by decide) rfl ?_
  refine r_lload_n C 1 dJ6_floorDiv_5 rfl rfl ?_
  refine r_lload_n C 2 dJ6_floorDiv_6 rfl rfl ?_
  refine r_lxor C dJ6_floorDiv_7 ?_
  refine r_lconst (v := 0) C dJ6_floorDiv_8 (by decide) ?_
  refine r_lcmp_ge C dJ6_floorDiv_9 dJ6_floorDiv_10 (tgt := 27) (by decide) (fun c2 => ?_) (fun c2 => ?_)
  · have h := it_ h c2
    refine r_lload C 0 dJ6_floorDiv_27 rfl ?_
    cases h
    exact r_lret C hK dJ6_floorDiv_29
  · have h := ie_ h c2
    refine r_lload C 0 dJ6_floorDiv_13 rfl ?_
    refine r_lload_n C 2 dJ6_floorDiv_15 rfl rfl ?_
    refine r_lmul C dJ6_floorDiv_16 ?_
    refine r_lload_n C 1 dJ6_floorDiv_17 rfl rfl ?_
    refine r_lcmp_eq C dJ6_floorDiv_18 dJ6_floorDiv_19 (tgt := 27) (by decide) (fun c3 => ?_) (fun c3 => ?_)
    · have h := it_ h c3
      refine r_lload C 0 dJ6_floorDiv_27 rfl ?_
      cases h
      exact r_lret C hK dJ6_floorDiv_29
    · have h := ie_ h c3
      refine r_lload C 0 dJ6_floorDiv_22 rfl ?_
      refine r_lconst (v := 1) C dJ6_floorDiv_24 (by decide) ?_
      refine r_lsub C dJ6_floorDiv_25 ?_
      cases h
      exact r_lret C hK dJ6_floorDiv_26
theorem hdJ6_floorDiv : zhd yJ6_floorDiv 2 := by decide +kernel
theorem m_J6_floorDiv {l : Launch} {D : va_G} {b0 : Nat} (hl : l.stackTraces = false) {y0 : Int} {y2 : Int} {μ : Me} {w : Int × Me} (h : s_J6_floorDiv y0 y2 μ = some w) : MN l D b0 yJ6_floorDiv (ws_ yJ6_floorDiv cJ6_floorDiv 6 (some .long)) 1 [vJ y0, vJ y2] μ (some (vJ w.1)) w.2 :=
  MN.of hl (by decide +kernel) (Nat.le_of_ble_eq_true rfl) (fun Z C _ _ => w_J6_floorDiv C h rfl)
noncomputable def s_J6_floorMod (x0 : Int) (x1 : Int) (μ : Me) : Option (Int × Me) :=
  (rmI x0 x1).bind fun v1 =>
  (if 0 ≤ w32 (xoI x0 x1) then
  some (v1, μ)
  else
  (if w32 v1 = 0 then
  some (v1, μ)
  else
  some ((v1 + x1), μ)))
theorem w_J6_floorMod {Z : Zt} {fin : Int × Me} {w : Int × Me} (C : CX Z yJ6_floorMod cJ6_floorMod (some .int) 1 3) {x0 : Int} {x1 : Int} {μ : Me} (h : s_J6_floorMod x0 x1 μ = some w) (hK : w = fin) : WL Z (QN Z (some (vI fin.1)) fin.2) μ 0 [(0, vI x0), (1, vI x1)] [] := by
  unfold s_J6_floorMod at h
  refine r_iload_n C 0 dJ6_floorMod_0 rfl rfl ?_
  refine r_iload_n C 1 dJ6_floorMod_1 rfl rfl ?_
  obtain ⟨v1, ev1, h⟩ := bs h
  refine r_irem C ev1 dJ6_floorMod_2 ?_
  refine r_istore_n C [(2, vI v1), (0, vI x0), (1, vI x1)] dJ6_floorMod_3 rfl (by decide) rfl ?_
  refine r_iload_n C 1 dJ6_floorMod_4 rfl rfl ?_
  refine r_iload_n C 2 dJ6_floorMod_5 rfl rfl ?_
  refine r_ixor C dJ6_floorMod_6 ?_
  refine r_if_ge C dJ6_floorMod_7 (tgt := 18) (by decide) (fun c2 => ?_) (fun c2 => ?_)
  · have h := it_ h c2
    refine r_iload_n C 0 dJ6_floorMod_18 rfl rfl ?_
    cases h
    exact r_iret C hK dJ6_floorMod_19
  · have h := ie_ h c2
    refine r_iload_n C 0 dJ6_floorMod_10 rfl rfl ?_
    refine r_if_eq C dJ6_floorMod_11 (tgt := 18) (by decide) (fun c3 => ?_) (fun c3 => ?_)
    · have h := it_ h c3
      refine r_iload_n C 0 dJ6_floorMod_18 rfl rfl ?_
      cases h
      exact r_iret C hK dJ6_floorMod_19
    · have h := ie_ h c3
      refine r_iload_n C 0 dJ6_floorMod_14 rfl rfl ?_
      refine r_iload_n C 2 dJ6_floorMod_15 rfl rfl ?_
      refine r_iadd C dJ6_floorMod_16 ?_
      cases h
      exact r_iret C hK dJ6_floorMod_17
theorem hdJ6_floorMod : zhd yJ6_floorMod 2 := by decide +kernel
theorem m_J6_floorMod {l : Launch} {D : va_G} {b0 : Nat} (hl : l.stackTraces = false) {x0 : Int} {x1 : Int} {μ : Me} {w : Int × Me} (h : s_J6_floorMod x0 x1 μ = some w) : MN l D b0 yJ6_floorMod (ws_ yJ6_floorMod cJ6_floorMod 3 (some .int)) 1 [vI x0, vI x1] μ (some (vI w.1)) w.2 :=
  MN.of hl (by decide +kernel) (Nat.le_of_ble_eq_true rfl) (fun Z C _ _ => w_J6_floorMod C h rfl)
noncomputable def s_J6_abs (x0 : Int) (μ : Me) : Option (Int × Me) :=
  (if 0 ≤ w32 x0 then
  some (x0, μ)
  else
  some ((-x0), μ))
theorem w_J6_abs {Z : Zt} {fin : Int × Me} {w : Int × Me} (C : CX Z yJ6_abs cJ6_abs (some .int) 1 1) {x0 : Int} {μ : Me} (h : s_J6_abs x0 μ = some w) (hK : w = fin) : WL Z (QN Z (some (vI fin.1)) fin.2) μ 0 [(0, vI x0)] [] := by
  unfold s_J6_abs at h
  refine r_iload_n C 0 dJ6_abs_0 rfl rfl ?_
  refine r_if_ge C dJ6_abs_1 (tgt := 9) (by decide) (fun c1 => ?_) (fun c1 => ?_)
  · have h := it_ h c1
    refine r_iload_n C 0 dJ6_abs_9 rfl rfl ?_
    cases h
    exact r_iret C hK dJ6_abs_10
  · have h := ie_ h c1
    refine r_iload_n C 0 dJ6_abs_4 rfl rfl ?_
    refine r_ineg C dJ6_abs_5 ?_
    refine r_goto C dJ6_abs_6 (tgt := 10) (by decide) ?_
    cases h
    exact r_iret C hK dJ6_abs_10
theorem hdJ6_abs : zhd yJ6_abs 1 := by decide +kernel
theorem m_J6_abs {l : Launch} {D : va_G} {b0 : Nat} (hl : l.stackTraces = false) {x0 : Int} {μ : Me} {w : Int × Me} (h : s_J6_abs x0 μ = some w) : MN l D b0 yJ6_abs (ws_ yJ6_abs cJ6_abs 1 (some .int)) 1 [vI x0] μ (some (vI w.1)) w.2 :=
  MN.of hl (by decide +kernel) (Nat.le_of_ble_eq_true rfl) (fun Z C _ _ => w_J6_abs C h rfl)
noncomputable def s_J6_floorMod_2 (y0 : Int) (y2 : Int) (μ : Me) : Option (Int × Me) :=
  (rmJ y0 y2).bind fun v1 =>
  (if w64 0 ≤ w64 (xoJ y0 y2) then
  some (v1, μ)
  else
  (if w64 v1 = w64 0 then
  some (v1, μ)
  else
  some ((v1 + y2), μ)))
theorem w_J6_floorMod_2 {Z : Zt} {fin : Int × Me} {w : Int × Me} (C : CX Z yJ6_floorMod_2 cJ6_floorMod_2 (some .long) 1 6) {y0 : Int} {y2 : Int} {μ : Me} (h : s_J6_floorMod_2 y0 y2 μ = some w) (hK : w = fin) : WL Z (QN Z (some (vJ fin.1)) fin.2) μ 0 [(0, vJ y0), (2, vJ y2)] [] := by
  unfold s_J6_floorMod_2 at h
  refine r_lload_n C 0 dJ6_floorMod_2_0 rfl rfl ?_
  refine r_lload_n C 1 dJ6_floorMod_2_1 rfl rfl ?_
  obtain ⟨v1, ev1, h⟩ := bs h
  refine r_lrem C ev1 dJ6_floorMod_2_2 ?_
  refine r_lstore C [(4, vJ v1), (0, vJ y0), (2, vJ y2)] dJ6_floorMod_2_3 (by decide) rfl ?_
  refine r_lload_n C 1 dJ6_floorMod_2_5 rfl rfl ?_
  refine r_lload_n C 2 dJ6_floorMod_2_6 rfl rfl ?_
  refine r_lxor C dJ6_floorMod_2_7 ?_
  refine r_lconst (v := 0) C dJ6_floorMod_2_8 (by decide) ?_
  refine r_lcmp_ge C dJ6_floorMod_2_9 dJ6_floorMod_2_10 (tgt := 25) (by decide) (fun c2 => ?_) (fun c2 => ?_)
  · have h := it_ h c2
    refine r_lload C 0 dJ6_floorMod_2_25 rfl ?_
    cases h
    exact r_lret C hK dJ6_floorMod_2_27
  · have h := ie_ h c2
    refine r_lload C 0 dJ6_floorMod_2_13 rfl ?_
    refine r_lconst (v := 0) C dJ6_floorMod_2_15 (by decide) ?_
    refine r_lcmp_eq C dJ6_floorMod_2_16 dJ6_floorMod_2_17 (tgt := 25) (by decide) (fun c3 => ?_) (fun c3 => ?_)
    · have h := it_ h c3
      refine r_lload C 0 dJ6_floorMod_2_25 rfl ?_
      cases h
      exact r_lret C hK dJ6_floorMod_2_27
    · have h := ie_ h c3
      refine r_lload C 0 dJ6_floorMod_2_20 rfl ?_
      refine r_lload_n C 2 dJ6_floorMod_2_22 rfl rfl ?_
      refine r_ladd C dJ6_floorMod_2_23 ?_
      cases h
      exact r_lret C hK dJ6_floorMod_2_24
theorem hdJ6_floorMod_2 : zhd yJ6_floorMod_2 2 := by decide +kernel
theorem m_J6_floorMod_2 {l : Launch} {D : va_G} {b0 : Nat} (hl : l.stackTraces = false) {y0 : Int} {y2 : Int} {μ : Me} {w : Int × Me} (h : s_J6_floorMod_2 y0 y2 μ = some w) : MN l D b0 yJ6_floorMod_2 (ws_ yJ6_floorMod_2 cJ6_floorMod_2 6 (some .long)) 1 [vJ y0, vJ y2] μ (some (vJ w.1)) w.2 :=
  MN.of hl (by decide +kernel) (Nat.le_of_ble_eq_true rfl) (fun Z C _ _ => w_J6_floorMod_2 C h rfl)
noncomputable def s_J10_bitCount_b48 (x0 : Int)  (μ : Me) : Option (Int × Me) :=
  some ((anI x0 63), μ)
theorem w_J10_bitCount_b48 {Z : Zt} {fin : Int × Me} {w : (Int × Me)} (C : CX Z yJ10_bitCount cJ10_bitCount (some .int) 1 1) {x0 : Int}  {μ : Me} (h : s_J10_bitCount_b48 x0 μ = some w) (hK : (fun r : Int × Me => r = fin) w) : WL Z (QN Z (some (vI fin.1)) fin.2) μ 48 [(0, vI x0)] [] := by
  unfold s_J10_bitCount_b48 at h
  refine r_iload_n C 0 dJ10_bitCount_48 rfl rfl ?_
  refine r_bipush C dJ10_bitCount_49 (by decide) ?_
  refine r_iand C dJ10_bitCount_51 ?_
  cases h
  exact r_iret C hK dJ10_bitCount_52
noncomputable def s_J10_bitCount_b24 (x0 : Int)  (μ : Me) : Option (Int × Me) :=
  s_J10_bitCount_b48 (((anI (x0 + (urI x0 4)) 252645135) + (urI (anI (x0 + (urI x0 4)) 252645135) 8)) + (urI ((anI (x0 + (urI x0 4)) 252645135) + (urI (anI (x0 + (urI x0 4)) 252645135) 8)) 16)) μ
theorem w_J10_bitCount_b24 {Z : Zt} {fin : Int × Me} {w : (Int × Me)} (C : CX Z yJ10_bitCount cJ10_bitCount (some .int) 1 1) {x0 : Int}  {μ : Me} (h : s_J10_bitCount_b24 x0 μ = some w) (hK : (fun r : Int × Me => r = fin) w) : WL Z (QN Z (some (vI fin.1)) fin.2) μ 24 [(0, vI x0)] [] := by
  unfold s_J10_bitCount_b24 at h
  refine r_iload_n C 0 dJ10_bitCount_24 rfl rfl ?_
  refine r_iload_n C 0 dJ10_bitCount_25 rfl rfl ?_
  refine r_iconst C dJ10_bitCount_26 ?_
  refine r_iushr C dJ10_bitCount_27 ?_
  refine r_iadd C dJ10_bitCount_28 ?_
  refine r_ldc_w (n := 252645135) C q1774 dJ10_bitCount_29 (by decide) ?_
  refine r_iand C dJ10_bitCount_32 ?_
  refine r_istore_n C [(0, vI (anI (x0 + (urI x0 4)) 252645135))] dJ10_bitCount_33 rfl (by decide) rfl ?_
  refine r_iload_n C 0 dJ10_bitCount_34 rfl rfl ?_
  refine r_iload_n C 0 dJ10_bitCount_35 rfl rfl ?_
  refine r_bipush C dJ10_bitCount_36 (by decide) ?_
  refine r_iushr C dJ10_bitCount_38 ?_
  refine r_iadd C dJ10_bitCount_39 ?_
  refine r_istore_n C [(0, vI ((anI (x0 + (urI x0 4)) 252645135) + (urI (anI (x0 + (urI x0 4)) 252645135) 8)))] dJ10_bitCount_40 rfl (by decide) rfl ?_
  refine r_iload_n C 0 dJ10_bitCount_41 rfl rfl ?_
  refine r_iload_n C 0 dJ10_bitCount_42 rfl rfl ?_
  refine r_bipush C dJ10_bitCount_43 (by decide) ?_
  refine r_iushr C dJ10_bitCount_45 ?_
  refine r_iadd C dJ10_bitCount_46 ?_
  refine r_istore_n C [(0, vI (((anI (x0 + (urI x0 4)) 252645135) + (urI (anI (x0 + (urI x0 4)) 252645135) 8)) + (urI ((anI (x0 + (urI x0 4)) 252645135) + (urI (anI (x0 + (urI x0 4)) 252645135) 8)) 16)))] dJ10_bitCount_47 rfl (by decide) rfl ?_
  exact w_J10_bitCount_b48 (fin := fin) C h hK
noncomputable def s_J10_bitCount (x0 : Int) (μ : Me) : Option (Int × Me) :=
  s_J10_bitCount_b24 ((anI (x0 - (anI (urI x0 1) 1431655765)) 858993459) + (anI (urI (x0 - (anI (urI x0 1) 1431655765)) 2) 858993459)) μ
theorem w_J10_bitCount {Z : Zt} {fin : Int × Me} {w : Int × Me} (C : CX Z yJ10_bitCount cJ10_bitCount (some .int) 1 1) {x0 : Int} {μ : Me} (h : s_J10_bitCount x0 μ = some w) (hK : w = fin) : WL Z (QN Z (some (vI fin.1)) fin.2) μ 0 [(0, vI x0)] [] := by
  unfold s_J10_bitCount at h
  refine r_iload_n C 0 dJ10_bitCount_0 rfl rfl ?_
  refine r_iload_n C 0 dJ10_bitCount_1 rfl rfl ?_
  refine r_iconst C dJ10_bitCount_2 ?_
  refine r_iushr C dJ10_bitCount_3 ?_
  refine r_ldc_w (n := 1431655765) C q1772 dJ10_bitCount_4 (by decide) ?_
  refine r_iand C dJ10_bitCount_7 ?_
  refine r_isub C dJ10_bitCount_8 ?_
  refine r_istore_n C [(0, vI (x0 - (anI (urI x0 1) 1431655765)))] dJ10_bitCount_9 rfl (by decide) rfl ?_
  refine r_iload_n C 0 dJ10_bitCount_10 rfl rfl ?_
  refine r_ldc_w (n := 858993459) C q1773 dJ10_bitCount_11 (by decide) ?_
  refine r_iand C dJ10_bitCount_14 ?_
  refine r_iload_n C 0 dJ10_bitCount_15 rfl rfl ?_
  refine r_iconst C dJ10_bitCount_16 ?_
  refine r_iushr C dJ10_bitCount_17 ?_
  refine r_ldc_w (n := 858993459) C q1773 dJ10_bitCount_18 (by decide) ?_
  refine r_iand C dJ10_bitCount_21 ?_
  refine r_iadd C dJ10_bitCount_22 ?_
  refine r_istore_n C [(0, vI ((anI (x0 - (anI (urI x0 1) 1431655765)) 858993459) + (anI (urI (x0 - (anI (urI x0 1) 1431655765)) 2) 858993459)))] dJ10_bitCount_23 rfl (by decide) rfl ?_
  exact w_J10_bitCount_b24 (fin := fin) C h hK
theorem hdJ10_bitCount : zhd yJ10_bitCount 1 := by decide +kernel
theorem m_J10_bitCount {l : Launch} {D : va_G} {b0 : Nat} (hl : l.stackTraces = false) {x0 : Int} {μ : Me} {w : Int × Me} (h : s_J10_bitCount x0 μ = some w) : MN l D b0 yJ10_bitCount (ws_ yJ10_bitCount cJ10_bitCount 1 (some .int)) 1 [vI x0] μ (some (vI w.1)) w.2 :=
  MN.of hl (by decide +kernel) (Nat.le_of_ble_eq_true rfl) (fun Z C _ _ => w_J10_bitCount C h rfl)
