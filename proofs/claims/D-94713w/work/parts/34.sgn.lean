/-! printed by gen/walk.py -/
set_option maxRecDepth 100000
set_option maxHeartbeats 4000000

def xjoins : MethodName := ⟨"LetterForms$Pair", "joins", "(LLetterForms$Desk;LLetterForms$Form;LLetterForms$Form;)V"⟩
def xboth : MethodName := ⟨"LetterForms$Pair", "both", "(IIZ)I"⟩
theorem hdxjoins : zhd xjoins 3 := by decide +kernel
theorem hdxboth : zhd xboth 3 := by decide +kernel
def HF_val (l : Launch) (D : va_G) (b0 n : Nat) (F : Nat → Nat → Nat → Int → Me → Option Me) : Prop :=
  ∀ (a0 : Nat) (z0 : Nat) (z1 : Nat) (z2 : Int) (μ : Me) (w : Me), F a0 z0 z1 z2 μ = some w → SgV l D b0 (8 + n) xSv none [vO z0, vO z1, vI z2] a0 μ none w
noncomputable def s_X4_value (F : Nat → Nat → Nat → Int → Me → Option Me) (a0 : Nat) (a1 : Nat) (a2 : Nat) (x3 : Int) (μ : Me) : Option (Me) :=
  (gR μ 0 a1 4).bind fun v1 =>
  (aR μ 104 v1 x3).bind fun v2 =>
  (ck μ 6 v2).bind fun _ =>
  (s_X8_be v2 a2 μ).bind fun q3 =>
  some q3
theorem w_X4_value {Z : Zt} {F : Nat → Nat → Nat → Int → Me → Option Me} {n : Nat} {fin : Me} {w : Me} (C : CX Z yX4_value cX4_value none (8 + (n + 1)) 4) (hF : HF_val Z.2.1 Z.2.2.2.2.2.2.2.2.2.2.1 Z.2.2.2.2.2.2.2.2.2.2.2.1 n F) {a0 : Nat} {a1 : Nat} {a2 : Nat} {x3 : Int} {μ : Me} (h : s_X4_value F a0 a1 a2 x3 μ = some w) (hK : w = fin) : WL Z (QN Z none fin) μ 0 [(0, vO a0), (1, vO a1), (2, vO a2), (3, vI x3)] [] := by
  unfold s_X4_value at h
  refine r_aload_n C 1 dX4_value_0 rfl rfl ?_
  obtain ⟨v1, ev1, h⟩ := bs h
  refine r_getRN C (c := 0) (r := (RX1, TX1, 19)) rfl 4 (by decide) rfl ev1 (lw_n q430 rfl) dX4_value_1 ?_
  refine r_iload_n C 3 dX4_value_4 rfl rfl ?_
  obtain ⟨v2, ev2, h⟩ := bs h
  refine r_aald C (kt := 3) ev2 rfl rfl ⟨by decide, by decide⟩ dX4_value_5 ?_
  refine r_aload_n C 2 dX4_value_6 rfl rfl ?_
  obtain ⟨u4, eu4, h⟩ := bs h
  obtain ⟨q3, eq3, h⟩ := bs h
  refine r_callV C (As := [vO a2]) (b := v2) (rest := []) (st1 := []) (v := none) (r := (RX8, TX8, 2)) (ci := 6) rfl eu4 (m_X8_be C.tr eq3) (lw_V q903 q511 q512 q130 q513) rfl hdX8_be rfl rfl (Nat.le_of_ble_eq_true rfl) ⟨by omega, by omega⟩ dX4_value_7 rfl ?_
  cases h
  exact r_vret C hK dX4_value_10
theorem hdX4_value : zhd yX4_value 3 := by decide +kernel
noncomputable def s_X12_value (F : Nat → Nat → Nat → Int → Me → Option Me) (a0 : Nat) (a1 : Nat) (a2 : Nat) (x3 : Int) (μ : Me) : Option (Me) :=
  (gR μ 0 a1 4).bind fun v1 =>
  (aR μ 104 v1 x3).bind fun v2 =>
  (ck μ 6 v2).bind fun _ =>
  (s_X8_nought v2 0 μ).bind fun q3 =>
  (gR q3 0 a1 4).bind fun v5 =>
  (aR q3 104 v5 x3).bind fun v6 =>
  (gR q3 6 v6 0).bind fun v7 =>
  (gR q3 0 a1 1).bind fun v8 =>
  (gR q3 4 v8 0).bind fun v9 =>
  (gI q3 10 a0 0).bind fun v10 =>
  (ck q3 5 v9).bind fun _ =>
  (s_X7_of v9 (w32 v10) q3).bind fun q11 =>
  (uI q11.2 v7 0 q11.1).bind fun m13 =>
  some m13
theorem w_X12_value {Z : Zt} {F : Nat → Nat → Nat → Int → Me → Option Me} {n : Nat} {fin : Me} {w : Me} (C : CX Z yX12_value cX12_value none (8 + (n + 1)) 4) (hF : HF_val Z.2.1 Z.2.2.2.2.2.2.2.2.2.2.1 Z.2.2.2.2.2.2.2.2.2.2.2.1 n F) {a0 : Nat} {a1 : Nat} {a2 : Nat} {x3 : Int} {μ : Me} (h : s_X12_value F a0 a1 a2 x3 μ = some w) (hK : w = fin) : WL Z (QN Z none fin) μ 0 [(0, vO a0), (1, vO a1), (2, vO a2), (3, vI x3)] [] := by
  unfold s_X12_value at h
  refine r_aload_n C 1 dX12_value_0 rfl rfl ?_
  obtain ⟨v1, ev1, h⟩ := bs h
  refine r_getRN C (c := 0) (r := (RX1, TX1, 19)) rfl 4 (by decide) rfl ev1 (lw_n q429 rfl) dX12_value_1 ?_
  refine r_iload_n C 3 dX12_value_4 rfl rfl ?_
  obtain ⟨v2, ev2, h⟩ := bs h
  refine r_aald C (kt := 3) ev2 rfl rfl ⟨by decide, by decide⟩ dX12_value_5 ?_
  refine r_iconst C dX12_value_6 ?_
  obtain ⟨u4, eu4, h⟩ := bs h
  obtain ⟨q3, eq3, h⟩ := bs h
  refine r_callV C (As := [vI 0]) (b := v2) (rest := []) (st1 := []) (v := none) (r := (RX8, TX8, 2)) (ci := 6) rfl eu4 (m_X8_nought C.tr eq3) (lw_V q898 q628 q629 q130 q630) rfl hdX8_nought rfl rfl (Nat.le_of_ble_eq_true rfl) ⟨by omega, by omega⟩ dX12_value_7 rfl ?_
  refine r_aload_n C 1 dX12_value_10 rfl rfl ?_
  obtain ⟨v5, ev5, h⟩ := bs h
  refine r_getRN C (c := 0) (r := (RX1, TX1, 19)) rfl 4 (by decide) rfl ev5 (lw_n q429 rfl) dX12_value_11 ?_
  refine r_iload_n C 3 dX12_value_14 rfl rfl ?_
  obtain ⟨v6, ev6, h⟩ := bs h
  refine r_aald C (kt := 3) ev6 rfl rfl ⟨by decide, by decide⟩ dX12_value_15 ?_
  obtain ⟨v7, ev7, h⟩ := bs h
  refine r_getRN C (c := 6) (r := (RX8, TX8, 2)) rfl 0 (by decide) rfl ev7 (lw_n q301 rfl) dX12_value_16 ?_
  refine r_iconst C dX12_value_19 ?_
  refine r_aload_n C 1 dX12_value_20 rfl rfl ?_
  obtain ⟨v8, ev8, h⟩ := bs h
  refine r_getRN C (c := 0) (r := (RX1, TX1, 19)) rfl 1 (by decide) rfl ev8 (lw_n q423 rfl) dX12_value_21 ?_
  obtain ⟨v9, ev9, h⟩ := bs h
  refine r_getRN C (c := 4) (r := (RX6, TX6, 6)) rfl 0 (by decide) rfl ev9 (lw_n q317 rfl) dX12_value_24 ?_
  refine r_aload_n C 0 dX12_value_27 rfl rfl ?_
  obtain ⟨v10, ev10, h⟩ := bs h
  refine r_getI C (c := 10) (r := (RX12, TX12, 1)) rfl 0 (by decide) rfl ev10 q693 dX12_value_28 ?_
  refine r_i2l C dX12_value_31 ?_
  obtain ⟨u12, eu12, h⟩ := bs h
  obtain ⟨q11, eq11, h⟩ := bs h
  refine r_callV C (As := [vJ (w32 v10)]) (b := v9) (rest := [vI 0, vO v7]) (st1 := [vI q11.1, vI 0, vO v7]) (v := some (vI q11.1)) (r := (RX7, TX7, 1)) (ci := 5) rfl eu12 (m_X7_of C.tr eq11) (lw_V q899 q632 q633 q129 q634) rfl hdX7_of rfl rfl (Nat.le_of_ble_eq_true rfl) ⟨by omega, by omega⟩ dX12_value_32 rfl ?_
  obtain ⟨m13, em13, h⟩ := bs h
  refine r_iast C em13 dX12_value_35 ?_
  cases h
  exact r_vret C hK dX12_value_36
theorem hdX12_value : zhd yX12_value 3 := by decide +kernel
noncomputable def s_X13_value_l21_st (F : Nat → Nat → Nat → Int → Me → Option Me) (a1 : Nat) (a4 : Nat) (x5 : Int) (μ : Me) : Option ((Int × Me) ⊕ (Me)) :=
  (gI μ 6 a4 1).bind fun v5 =>
  (if w32 v5 < w32 x5 then
  some (.inr μ)
  else
  (gR μ 6 a4 0).bind fun v7 =>
  (gR μ 0 a1 1).bind fun v8 =>
  (gR μ 4 v8 0).bind fun v9 =>
  (gR μ 6 a4 0).bind fun v10 =>
  (aI μ 101 v10 x5).bind fun v11 =>
  (ck μ 5 v9).bind fun _ =>
  (s_X7_of v9 (w32 (-v11)) μ).bind fun q12 =>
  (uI q12.2 v7 x5 q12.1).bind fun m14 =>
  some (.inl ((x5 + 1), m14)))
theorem w_X13_value_l21_st {Z : Zt} {F : Nat → Nat → Nat → Int → Me → Option Me} {n : Nat} {fin : Me} {w : ((Int × Me) ⊕ (Me))} (C : CX Z yX13_value cX13_value none (8 + (n + 1)) 6) (hF : HF_val Z.2.1 Z.2.2.2.2.2.2.2.2.2.2.1 Z.2.2.2.2.2.2.2.2.2.2.2.1 n F) {a1 : Nat} {a4 : Nat} {x5 : Int} {μ : Me} (h : s_X13_value_l21_st F a1 a4 x5 μ = some w) (hK : (Sum.elim (fun s : Int × Me => WL Z (QN Z none fin) s.2 21 [(1, vO a1), (4, vO a4), (5, vI s.1)] []) (fun r : Me => r = fin)) w) : WL Z (QN Z none fin) μ 21 [(1, vO a1), (4, vO a4), (5, vI x5)] [] := by
  unfold s_X13_value_l21_st at h
  refine r_iload C 2 dX13_value_21 rfl ?_
  refine r_aload C 1 dX13_value_23 rfl ?_
  obtain ⟨v5, ev5, h⟩ := bs h
  refine r_getIN C (c := 6) (r := (RX8, TX8, 2)) rfl 1 (by decide) rfl ev5 (lw_n q308 rfl) dX13_value_25 ?_
  refine r_icmp_gt C dX13_value_28 (tgt := 65) (by decide) (fun c6 => ?_) (fun c6 => ?_)
  · have h := it_ h c6
    cases h
    exact r_vret C hK dX13_value_65
  · have h := ie_ h c6
    refine r_aload C 1 dX13_value_31 rfl ?_
    obtain ⟨v7, ev7, h⟩ := bs h
    refine r_getRN C (c := 6) (r := (RX8, TX8, 2)) rfl 0 (by decide) rfl ev7 (lw_n q303 rfl) dX13_value_33 ?_
    refine r_iload C 2 dX13_value_36 rfl ?_
    refine r_aload_n C 0 dX13_value_38 rfl rfl ?_
    obtain ⟨v8, ev8, h⟩ := bs h
    refine r_getRN C (c := 0) (r := (RX1, TX1, 19)) rfl 1 (by decide) rfl ev8 (lw_n q424 rfl) dX13_value_39 ?_
    obtain ⟨v9, ev9, h⟩ := bs h
    refine r_getRN C (c := 4) (r := (RX6, TX6, 6)) rfl 0 (by decide) rfl ev9 (lw_n q319 rfl) dX13_value_42 ?_
    refine r_aload C 1 dX13_value_45 rfl ?_
    obtain ⟨v10, ev10, h⟩ := bs h
    refine r_getRN C (c := 6) (r := (RX8, TX8, 2)) rfl 0 (by decide) rfl ev10 (lw_n q303 rfl) dX13_value_47 ?_
    refine r_iload C 2 dX13_value_50 rfl ?_
    obtain ⟨v11, ev11, h⟩ := bs h
    refine r_iald C ev11 dX13_value_52 ?_
    refine r_ineg C dX13_value_53 ?_
    refine r_i2l C dX13_value_54 ?_
    obtain ⟨u13, eu13, h⟩ := bs h
    obtain ⟨q12, eq12, h⟩ := bs h
    refine r_callV C (As := [vJ (w32 (-v11))]) (b := v9) (rest := [vI x5, vO v7]) (st1 := [vI q12.1, vI x5, vO v7]) (v := some (vI q12.1)) (r := (RX7, TX7, 1)) (ci := 5) rfl eu13 (m_X7_of C.tr eq12) (lw_V q951 q632 q633 q129 q634) rfl hdX7_of rfl rfl (Nat.le_of_ble_eq_true rfl) ⟨by omega, by omega⟩ dX13_value_55 rfl ?_
    obtain ⟨m14, em14, h⟩ := bs h
    refine r_iast C em14 dX13_value_58 ?_
    refine r_iinc C 2 [(5, vI (x5 + 1)), (1, vO a1), (4, vO a4)] dX13_value_59 rfl (by decide) rfl ?_
    refine r_goto C dX13_value_62 (tgt := 21) (by decide) ?_
    cases h
    refine r_sub [1, 2, 0] rfl ?_
    exact hK
noncomputable def s_X13_value_l21 (F : Nat → Nat → Nat → Int → Me → Option Me) (a1 : Nat) (a4 : Nat) (x5 : Int) (μ : Me) : Option (Me) :=
  whileO (fun s : Int × Me => s_X13_value_l21_st F a1 a4 s.1 s.2) (x5, μ)
theorem e_X13_value_l21 (F : Nat → Nat → Nat → Int → Me → Option Me) (a1 : Nat) (a4 : Nat) (x5 : Int) (μ : Me) : s_X13_value_l21 F a1 a4 x5 μ = (s_X13_value_l21_st F a1 a4 x5 μ).bind fun x => x.elim (fun s : Int × Me => s_X13_value_l21 F a1 a4 s.1 s.2) some := whileO_eq _ _
theorem w_X13_value_l21 {Z : Zt} {F : Nat → Nat → Nat → Int → Me → Option Me} {n : Nat} {fin : Me} {w : (Me)} (C : CX Z yX13_value cX13_value none (8 + (n + 1)) 6) (hF : HF_val Z.2.1 Z.2.2.2.2.2.2.2.2.2.2.1 Z.2.2.2.2.2.2.2.2.2.2.2.1 n F) {a1 : Nat} {a4 : Nat} {x5 : Int} {μ : Me} (h : s_X13_value_l21 F a1 a4 x5 μ = some w) (hK : (fun r : Me => r = fin) w) : WL Z (QN Z none fin) μ 21 [(1, vO a1), (4, vO a4), (5, vI x5)] [] := by
  refine whileO_walk (w := w) (fun s : Int × Me => WL Z (QN Z none fin) s.2 21 [(1, vO a1), (4, vO a4), (5, vI s.1)] []) (fun s v h2 hi hr => ?_) (x5, μ) h
  refine w_X13_value_l21_st (fin := fin) C hF h2 ?_
  cases v with
  | inl s2 => exact hi s2 rfl
  | inr r => have e := hr r rfl; subst e; exact hK
noncomputable def s_X13_value (F : Nat → Nat → Nat → Int → Me → Option Me) (a0 : Nat) (a1 : Nat) (a2 : Nat) (x3 : Int) (μ : Me) : Option (Me) :=
  (gR μ 11 a0 0).bind fun v1 =>
  (F v1 a1 a2 x3 μ).bind fun q2 =>
  (gR q2 0 a1 4).bind fun v3 =>
  (aR q2 104 v3 x3).bind fun v4 =>
  s_X13_value_l21 F a1 v4 0 q2
theorem w_X13_value {Z : Zt} {F : Nat → Nat → Nat → Int → Me → Option Me} {n : Nat} {fin : Me} {w : Me} (C : CX Z yX13_value cX13_value none (8 + (n + 1)) 6) (hF : HF_val Z.2.1 Z.2.2.2.2.2.2.2.2.2.2.1 Z.2.2.2.2.2.2.2.2.2.2.2.1 n F) {a0 : Nat} {a1 : Nat} {a2 : Nat} {x3 : Int} {μ : Me} (h : s_X13_value F a0 a1 a2 x3 μ = some w) (hK : w = fin) : WL Z (QN Z none fin) μ 0 [(0, vO a0), (1, vO a1), (2, vO a2), (3, vI x3)] [] := by
  unfold s_X13_value at h
  refine r_aload_n C 0 dX13_value_0 rfl rfl ?_
  obtain ⟨v1, ev1, h⟩ := bs h
  refine r_getR C (c := 11) (r := (RX13, TX13, 1)) rfl 0 (by decide) rfl ev1 q707 dX13_value_1 ?_
  refine r_aload_n C 1 dX13_value_4 rfl rfl ?_
  refine r_aload_n C 2 dX13_value_5 rfl rfl ?_
  refine r_iload_n C 3 dX13_value_6 rfl rfl ?_
  obtain ⟨q2, eq2, h⟩ := bs h
  refine r_callSg C (As := [vO a1, vO a2, vI x3]) (b := v1) (rest := []) (st1 := []) (v := none) (μ1 := q2) (hF _ _ _ _ _ _ eq2) q907 q894 (lw_n q893 rfl) hdxSv rfl rfl (Nat.le_of_ble_eq_true rfl) ⟨by omega, by omega⟩ dX13_value_7 rfl ?_
  refine r_aload_n C 1 dX13_value_10 rfl rfl ?_
  obtain ⟨v3, ev3, h⟩ := bs h
  refine r_getRN C (c := 0) (r := (RX1, TX1, 19)) rfl 4 (by decide) rfl ev3 (lw_n q431 rfl) dX13_value_11 ?_
  refine r_iload_n C 3 dX13_value_14 rfl rfl ?_
  obtain ⟨v4, ev4, h⟩ := bs h
  refine r_aald C (kt := 3) ev4 rfl rfl ⟨by decide, by decide⟩ dX13_value_15 ?_
  refine r_astore C [(4, vO v4), (0, vO a0), (1, vO a1), (2, vO a2), (3, vI x3)] dX13_value_16 (by decide) rfl ?_
  refine r_iconst C dX13_value_18 ?_
  refine r_istore C [(5, vI 0), (4, vO v4), (0, vO a0), (1, vO a1), (2, vO a2), (3, vI x3)] dX13_value_19 (by decide) rfl ?_
  refine r_sub [3, 1, 0] rfl ?_
  exact w_X13_value_l21 (fin := fin) C hF h hK
theorem hdX13_value : zhd yX13_value 3 := by decide +kernel
theorem hdX14_value : zhd yX14_value 3 := by decide +kernel
noncomputable def s_X14_value_p12 (F : Nat → Nat → Nat → Int → Me → Option Me) (a0 : Nat) (a1 : Nat) (a2 : Nat) (x3 : Int) (μ : Me) : Option (Me) :=
  (gR μ 12 a0 0).bind fun v1 =>
  (F v1 a1 a2 x3 μ).bind fun q2 =>
  (gR q2 12 a0 1).bind fun v3 =>
  (F v3 a1 a2 (x3 + 1) q2).bind fun q4 =>
  (gR q4 0 a1 4).bind fun v5 =>
  (aR q4 104 v5 x3).bind fun v6 =>
  (gR q4 0 a1 4).bind fun v7 =>
  (aR q4 104 v7 (x3 + 1)).bind fun v8 =>
  (ck q4 6 v6).bind fun _ =>
  (s_X8_isValue v6 q4).bind fun q9 =>
  (if w32 q9.1 = 0 then
  (ck q9.2 6 v6).bind fun _ =>
  (s_X8_nought v6 (-1) q9.2).bind fun q12 =>
  some q12
  else
  (ck q9.2 6 v8).bind fun _ =>
  (s_X8_isValue v8 q9.2).bind fun q14 =>
  (if w32 q14.1 = 0 then
  (ck q14.2 6 v6).bind fun _ =>
  (s_X8_nought v6 (-1) q14.2).bind fun q20 =>
  some q20
  else
  (gR q14.2 0 a1 1).bind fun v17 =>
  (ck q14.2 12 a0).bind fun _ =>
  (s_X15_joins a0 v17 v6 v8 q14.2).bind fun q18 =>
  some q18))
theorem w_X14_value_p12 {Z : Zt} {F : Nat → Nat → Nat → Int → Me → Option Me} {n : Nat} {fin : Me} {w : Me} (C : CX Z yX14_value cX14_value none (8 + (n + 1)) 6) (hF : HF_val Z.2.1 Z.2.2.2.2.2.2.2.2.2.2.1 Z.2.2.2.2.2.2.2.2.2.2.2.1 n F) {a0 : Nat} {a1 : Nat} {a2 : Nat} {x3 : Int} {μ : Me} (h : s_X14_value_p12 F a0 a1 a2 x3 μ = some w) (hK : w = fin) : WL Z (QN Z none fin) μ 0 [(0, vO a0), (1, vO a1), (2, vO a2), (3, vI x3)] [] := by
  unfold s_X14_value_p12 at h
  refine r_aload_n C 0 dX14_value_0 rfl rfl ?_
  obtain ⟨v1, ev1, h⟩ := bs h
  refine r_getR C (c := 12) (r := (RX15, TX15, 3)) rfl 0 (by decide) rfl ev1 q729 dX14_value_1 ?_
  refine r_aload_n C 1 dX14_value_4 rfl rfl ?_
  refine r_aload_n C 2 dX14_value_5 rfl rfl ?_
  refine r_iload_n C 3 dX14_value_6 rfl rfl ?_
  obtain ⟨q2, eq2, h⟩ := bs h
  refine r_callSg C (As := [vO a1, vO a2, vI x3]) (b := v1) (rest := []) (st1 := []) (v := none) (μ1 := q2) (hF _ _ _ _ _ _ eq2) q910 q894 (lw_n q893 rfl) hdxSv rfl rfl (Nat.le_of_ble_eq_true rfl) ⟨by omega, by omega⟩ dX14_value_7 rfl ?_
  refine r_aload_n C 0 dX14_value_10 rfl rfl ?_
  obtain ⟨v3, ev3, h⟩ := bs h
  refine r_getR C (c := 12) (r := (RX15, TX15, 3)) rfl 1 (by decide) rfl ev3 q730 dX14_value_11 ?_
  refine r_aload_n C 1 dX14_value_14 rfl rfl ?_
  refine r_aload_n C 2 dX14_value_15 rfl rfl ?_
  refine r_iload_n C 3 dX14_value_16 rfl rfl ?_
  refine r_iconst C dX14_value_17 ?_
  refine r_iadd C dX14_value_18 ?_
  obtain ⟨q4, eq4, h⟩ := bs h
  refine r_callSg C (As := [vO a1, vO a2, vI (x3 + 1)]) (b := v3) (rest := []) (st1 := []) (v := none) (μ1 := q4) (hF _ _ _ _ _ _ eq4) q910 q894 (lw_n q893 rfl) hdxSv rfl rfl (Nat.le_of_ble_eq_true rfl) ⟨by omega, by omega⟩ dX14_value_19 rfl ?_
  refine r_aload_n C 1 dX14_value_22 rfl rfl ?_
  obtain ⟨v5, ev5, h⟩ := bs h
  refine r_getRN C (c := 0) (r := (RX1, TX1, 19)) rfl 4 (by decide) rfl ev5 (lw_n q432 rfl) dX14_value_23 ?_
  refine r_iload_n C 3 dX14_value_26 rfl rfl ?_
  obtain ⟨v6, ev6, h⟩ := bs h
  refine r_aald C (kt := 3) ev6 rfl rfl ⟨by decide, by decide⟩ dX14_value_27 ?_
  refine r_astore C [(4, vO v6), (0, vO a0), (1, vO a1), (2, vO a2), (3, vI x3)] dX14_value_28 (by decide) rfl ?_
  refine r_aload_n C 2 dX14_value_30 rfl rfl ?_
  obtain ⟨v7, ev7, h⟩ := bs h
  refine r_getRN C (c := 0) (r := (RX1, TX1, 19)) rfl 4 (by decide) rfl ev7 (lw_n q432 rfl) dX14_value_31 ?_
  refine r_iload_n C 4 dX14_value_34 rfl rfl ?_
  refine r_iconst C dX14_value_35 ?_
  refine r_iadd C dX14_value_36 ?_
  obtain ⟨v8, ev8, h⟩ := bs h
  refine r_aald C (kt := 3) ev8 rfl rfl ⟨by decide, by decide⟩ dX14_value_37 ?_
  refine r_astore C [(5, vO v8), (4, vO v6), (0, vO a0), (1, vO a1), (2, vO a2), (3, vI x3)] dX14_value_38 (by decide) rfl ?_
  refine r_aload C 1 dX14_value_40 rfl ?_
  obtain ⟨u10, eu10, h⟩ := bs h
  obtain ⟨q9, eq9, h⟩ := bs h
  refine r_callV C (As := []) (b := v6) (rest := []) (st1 := [vI q9.1]) (v := some (vI q9.1)) (r := (RX8, TX8, 2)) (ci := 6) rfl eu10 (m_X8_isValue C.tr eq9) (lw_V q911 q912 q913 q130 q914) rfl hdX8_isValue rfl rfl (Nat.le_of_ble_eq_true rfl) ⟨by omega, by omega⟩ dX14_value_42 rfl ?_
  refine r_if_eq C dX14_value_45 (tgt := 56) (by decide) (fun c11 => ?_) (fun c11 => ?_)
  · have h := it_ h c11
    refine r_aload C 1 dX14_value_56 rfl ?_
    refine r_iconst C dX14_value_58 ?_
    obtain ⟨u13, eu13, h⟩ := bs h
    obtain ⟨q12, eq12, h⟩ := bs h
    refine r_callV C (As := [vI (-1)]) (b := v6) (rest := []) (st1 := []) (v := none) (r := (RX8, TX8, 2)) (ci := 6) rfl eu13 (m_X8_nought C.tr eq12) (lw_V q915 q628 q629 q130 q630) rfl hdX8_nought rfl rfl (Nat.le_of_ble_eq_true rfl) ⟨by omega, by omega⟩ dX14_value_59 rfl ?_
    refine r_goto C dX14_value_62 (tgt := 77) (by decide) ?_
    cases h
    exact r_vret C hK dX14_value_77
  · have h := ie_ h c11
    refine r_aload C 0 dX14_value_48 rfl ?_
    obtain ⟨u15, eu15, h⟩ := bs h
    obtain ⟨q14, eq14, h⟩ := bs h
    refine r_callV C (As := []) (b := v8) (rest := []) (st1 := [vI q14.1]) (v := some (vI q14.1)) (r := (RX8, TX8, 2)) (ci := 6) rfl eu15 (m_X8_isValue C.tr eq14) (lw_V q911 q912 q913 q130 q914) rfl hdX8_isValue rfl rfl (Nat.le_of_ble_eq_true rfl) ⟨by omega, by omega⟩ dX14_value_50 rfl ?_
    refine r_if_ne C dX14_value_53 (tgt := 65) (by decide) (fun c16 => ?_) (fun c16 => ?_)
    · have h := ie_ h c16
      refine r_aload_n C 2 dX14_value_65 rfl rfl ?_
      refine r_aload_n C 3 dX14_value_66 rfl rfl ?_
      obtain ⟨v17, ev17, h⟩ := bs h
      refine r_getRN C (c := 0) (r := (RX1, TX1, 19)) rfl 1 (by decide) rfl ev17 (lw_n q425 rfl) dX14_value_67 ?_
      refine r_aload C 1 dX14_value_70 rfl ?_
      refine r_aload C 0 dX14_value_72 rfl ?_
      obtain ⟨u19, eu19, h⟩ := bs h
      obtain ⟨q18, eq18, h⟩ := bs h
      refine r_callU C (As := [vO v17, vO v6, vO v8]) (b := a0) (rest := []) (st1 := []) (v := none) (μ1 := q18) (r := (RX15, TX15, 3)) (ci := 12) (x := xjoins) rfl (ck_ok eu19) (m_X15_joins C.tr eq18) q916 q918 (lw_n q917 rfl) q919 q920 q142 q921 hdxjoins rfl rfl (Nat.le_of_ble_eq_true rfl) ⟨by omega, by omega⟩ dX14_value_74 rfl ?_
      cases h
      exact r_vret C hK dX14_value_77
    · have h := it_ h c16
      refine r_aload C 1 dX14_value_56 rfl ?_
      refine r_iconst C dX14_value_58 ?_
      obtain ⟨u21, eu21, h⟩ := bs h
      obtain ⟨q20, eq20, h⟩ := bs h
      refine r_callV C (As := [vI (-1)]) (b := v6) (rest := []) (st1 := []) (v := none) (r := (RX8, TX8, 2)) (ci := 6) rfl eu21 (m_X8_nought C.tr eq20) (lw_V q915 q628 q629 q130 q630) rfl hdX8_nought rfl rfl (Nat.le_of_ble_eq_true rfl) ⟨by omega, by omega⟩ dX14_value_59 rfl ?_
      refine r_goto C dX14_value_62 (tgt := 77) (by decide) ?_
      cases h
      exact r_vret C hK dX14_value_77
noncomputable def s_X14_value_p13 (F : Nat → Nat → Nat → Int → Me → Option Me) (a0 : Nat) (a1 : Nat) (a2 : Nat) (x3 : Int) (μ : Me) : Option (Me) :=
  (gR μ 13 a0 0).bind fun v1 =>
  (F v1 a1 a2 x3 μ).bind fun q2 =>
  (gR q2 13 a0 1).bind fun v3 =>
  (F v3 a1 a2 (x3 + 1) q2).bind fun q4 =>
  (gR q4 0 a1 4).bind fun v5 =>
  (aR q4 104 v5 x3).bind fun v6 =>
  (gR q4 0 a1 4).bind fun v7 =>
  (aR q4 104 v7 (x3 + 1)).bind fun v8 =>
  (ck q4 6 v6).bind fun _ =>
  (s_X8_isValue v6 q4).bind fun q9 =>
  (if w32 q9.1 = 0 then
  (ck q9.2 6 v6).bind fun _ =>
  (s_X8_nought v6 (-1) q9.2).bind fun q12 =>
  some q12
  else
  (ck q9.2 6 v8).bind fun _ =>
  (s_X8_isValue v8 q9.2).bind fun q14 =>
  (if w32 q14.1 = 0 then
  (ck q14.2 6 v6).bind fun _ =>
  (s_X8_nought v6 (-1) q14.2).bind fun q20 =>
  some q20
  else
  (gR q14.2 0 a1 1).bind fun v17 =>
  (ck q14.2 13 a0).bind fun _ =>
  (s_X16_joins a0 v17 v6 v8 q14.2).bind fun q18 =>
  some q18))
theorem w_X14_value_p13 {Z : Zt} {F : Nat → Nat → Nat → Int → Me → Option Me} {n : Nat} {fin : Me} {w : Me} (C : CX Z yX14_value cX14_value none (8 + (n + 1)) 6) (hF : HF_val Z.2.1 Z.2.2.2.2.2.2.2.2.2.2.1 Z.2.2.2.2.2.2.2.2.2.2.2.1 n F) {a0 : Nat} {a1 : Nat} {a2 : Nat} {x3 : Int} {μ : Me} (h : s_X14_value_p13 F a0 a1 a2 x3 μ = some w) (hK : w = fin) : WL Z (QN Z none fin) μ 0 [(0, vO a0), (1, vO a1), (2, vO a2), (3, vI x3)] [] := by
  unfold s_X14_value_p13 at h
  refine r_aload_n C 0 dX14_value_0 rfl rfl ?_
  obtain ⟨v1, ev1, h⟩ := bs h
  refine r_getR C (c := 13) (r := (RX16, TX16, 2)) rfl 0 (by decide) rfl ev1 q729 dX14_value_1 ?_
  refine r_aload_n C 1 dX14_value_4 rfl rfl ?_
  refine r_aload_n C 2 dX14_value_5 rfl rfl ?_
  refine r_iload_n C 3 dX14_value_6 rfl rfl ?_
  obtain ⟨q2, eq2, h⟩ := bs h
  refine r_callSg C (As := [vO a1, vO a2, vI x3]) (b := v1) (rest := []) (st1 := []) (v := none) (μ1 := q2) (hF _ _ _ _ _ _ eq2) q910 q894 (lw_n q893 rfl) hdxSv rfl rfl (Nat.le_of_ble_eq_true rfl) ⟨by omega, by omega⟩ dX14_value_7 rfl ?_
  refine r_aload_n C 0 dX14_value_10 rfl rfl ?_
  obtain ⟨v3, ev3, h⟩ := bs h
  refine r_getR C (c := 13) (r := (RX16, TX16, 2)) rfl 1 (by decide) rfl ev3 q730 dX14_value_11 ?_
  refine r_aload_n C 1 dX14_value_14 rfl rfl ?_
  refine r_aload_n C 2 dX14_value_15 rfl rfl ?_
  refine r_iload_n C 3 dX14_value_16 rfl rfl ?_
  refine r_iconst C dX14_value_17 ?_
  refine r_iadd C dX14_value_18 ?_
  obtain ⟨q4, eq4, h⟩ := bs h
  refine r_callSg C (As := [vO a1, vO a2, vI (x3 + 1)]) (b := v3) (rest := []) (st1 := []) (v := none) (μ1 := q4) (hF _ _ _ _ _ _ eq4) q910 q894 (lw_n q893 rfl) hdxSv rfl rfl (Nat.le_of_ble_eq_true rfl) ⟨by omega, by omega⟩ dX14_value_19 rfl ?_
  refine r_aload_n C 1 dX14_value_22 rfl rfl ?_
  obtain ⟨v5, ev5, h⟩ := bs h
  refine r_getRN C (c := 0) (r := (RX1, TX1, 19)) rfl 4 (by decide) rfl ev5 (lw_n q432 rfl) dX14_value_23 ?_
  refine r_iload_n C 3 dX14_value_26 rfl rfl ?_
  obtain ⟨v6, ev6, h⟩ := bs h
  refine r_aald C (kt := 3) ev6 rfl rfl ⟨by decide, by decide⟩ dX14_value_27 ?_
  refine r_astore C [(4, vO v6), (0, vO a0), (1, vO a1), (2, vO a2), (3, vI x3)] dX14_value_28 (by decide) rfl ?_
  refine r_aload_n C 2 dX14_value_30 rfl rfl ?_
  obtain ⟨v7, ev7, h⟩ := bs h
  refine r_getRN C (c := 0) (r := (RX1, TX1, 19)) rfl 4 (by decide) rfl ev7 (lw_n q432 rfl) dX14_value_31 ?_
  refine r_iload_n C 4 dX14_value_34 rfl rfl ?_
  refine r_iconst C dX14_value_35 ?_
  refine r_iadd C dX14_value_36 ?_
  obtain ⟨v8, ev8, h⟩ := bs h
  refine r_aald C (kt := 3) ev8 rfl rfl ⟨by decide, by decide⟩ dX14_value_37 ?_
  refine r_astore C [(5, vO v8), (4, vO v6), (0, vO a0), (1, vO a1), (2, vO a2), (3, vI x3)] dX14_value_38 (by decide) rfl ?_
  refine r_aload C 1 dX14_value_40 rfl ?_
  obtain ⟨u10, eu10, h⟩ := bs h
  obtain ⟨q9, eq9, h⟩ := bs h
  refine r_callV C (As := []) (b := v6) (rest := []) (st1 := [vI q9.1]) (v := some (vI q9.1)) (r := (RX8, TX8, 2)) (ci := 6) rfl eu10 (m_X8_isValue C.tr eq9) (lw_V q911 q912 q913 q130 q914) rfl hdX8_isValue rfl rfl (Nat.le_of_ble_eq_true rfl) ⟨by omega, by omega⟩ dX14_value_42 rfl ?_
  refine r_if_eq C dX14_value_45 (tgt := 56) (by decide) (fun c11 => ?_) (fun c11 => ?_)
  · have h := it_ h c11
    refine r_aload C 1 dX14_value_56 rfl ?_
    refine r_iconst C dX14_value_58 ?_
    obtain ⟨u13, eu13, h⟩ := bs h
    obtain ⟨q12, eq12, h⟩ := bs h
    refine r_callV C (As := [vI (-1)]) (b := v6) (rest := []) (st1 := []) (v := none) (r := (RX8, TX8, 2)) (ci := 6) rfl eu13 (m_X8_nought C.tr eq12) (lw_V q915 q628 q629 q130 q630) rfl hdX8_nought rfl rfl (Nat.le_of_ble_eq_true rfl) ⟨by omega, by omega⟩ dX14_value_59 rfl ?_
    refine r_goto C dX14_value_62 (tgt := 77) (by decide) ?_
    cases h
    exact r_vret C hK dX14_value_77
  · have h := ie_ h c11
    refine r_aload C 0 dX14_value_48 rfl ?_
    obtain ⟨u15, eu15, h⟩ := bs h
    obtain ⟨q14, eq14, h⟩ := bs h
    refine r_callV C (As := []) (b := v8) (rest := []) (st1 := [vI q14.1]) (v := some (vI q14.1)) (r := (RX8, TX8, 2)) (ci := 6) rfl eu15 (m_X8_isValue C.tr eq14) (lw_V q911 q912 q913 q130 q914) rfl hdX8_isValue rfl rfl (Nat.le_of_ble_eq_true rfl) ⟨by omega, by omega⟩ dX14_value_50 rfl ?_
    refine r_if_ne C dX14_value_53 (tgt := 65) (by decide) (fun c16 => ?_) (fun c16 => ?_)
    · have h := ie_ h c16
      refine r_aload_n C 2 dX14_value_65 rfl rfl ?_
      refine r_aload_n C 3 dX14_value_66 rfl rfl ?_
      obtain ⟨v17, ev17, h⟩ := bs h
      refine r_getRN C (c := 0) (r := (RX1, TX1, 19)) rfl 1 (by decide) rfl ev17 (lw_n q425 rfl) dX14_value_67 ?_
      refine r_aload C 1 dX14_value_70 rfl ?_
      refine r_aload C 0 dX14_value_72 rfl ?_
      obtain ⟨u19, eu19, h⟩ := bs h
      obtain ⟨q18, eq18, h⟩ := bs h
      refine r_callU C (As := [vO v17, vO v6, vO v8]) (b := a0) (rest := []) (st1 := []) (v := none) (μ1 := q18) (r := (RX16, TX16, 2)) (ci := 13) (x := xjoins) rfl (ck_ok eu19) (m_X16_joins C.tr eq18) q916 q918 (lw_n q917 rfl) q947 q948 q143 q949 hdxjoins rfl rfl (Nat.le_of_ble_eq_true rfl) ⟨by omega, by omega⟩ dX14_value_74 rfl ?_
      cases h
      exact r_vret C hK dX14_value_77
    · have h := it_ h c16
      refine r_aload C 1 dX14_value_56 rfl ?_
      refine r_iconst C dX14_value_58 ?_
      obtain ⟨u21, eu21, h⟩ := bs h
      obtain ⟨q20, eq20, h⟩ := bs h
      refine r_callV C (As := [vI (-1)]) (b := v6) (rest := []) (st1 := []) (v := none) (r := (RX8, TX8, 2)) (ci := 6) rfl eu21 (m_X8_nought C.tr eq20) (lw_V q915 q628 q629 q130 q630) rfl hdX8_nought rfl rfl (Nat.le_of_ble_eq_true rfl) ⟨by omega, by omega⟩ dX14_value_59 rfl ?_
      refine r_goto C dX14_value_62 (tgt := 77) (by decide) ?_
      cases h
      exact r_vret C hK dX14_value_77
noncomputable def s_X14_value_p14 (F : Nat → Nat → Nat → Int → Me → Option Me) (a0 : Nat) (a1 : Nat) (a2 : Nat) (x3 : Int) (μ : Me) : Option (Me) :=
  (gR μ 14 a0 0).bind fun v1 =>
  (F v1 a1 a2 x3 μ).bind fun q2 =>
  (gR q2 14 a0 1).bind fun v3 =>
  (F v3 a1 a2 (x3 + 1) q2).bind fun q4 =>
  (gR q4 0 a1 4).bind fun v5 =>
  (aR q4 104 v5 x3).bind fun v6 =>
  (gR q4 0 a1 4).bind fun v7 =>
  (aR q4 104 v7 (x3 + 1)).bind fun v8 =>
  (ck q4 6 v6).bind fun _ =>
  (s_X8_isValue v6 q4).bind fun q9 =>
  (if w32 q9.1 = 0 then
  (ck q9.2 6 v6).bind fun _ =>
  (s_X8_nought v6 (-1) q9.2).bind fun q12 =>
  some q12
  else
  (ck q9.2 6 v8).bind fun _ =>
  (s_X8_isValue v8 q9.2).bind fun q14 =>
  (if w32 q14.1 = 0 then
  (ck q14.2 6 v6).bind fun _ =>
  (s_X8_nought v6 (-1) q14.2).bind fun q20 =>
  some q20
  else
  (gR q14.2 0 a1 1).bind fun v17 =>
  (ck q14.2 14 a0).bind fun _ =>
  (s_X17_joins a0 v17 v6 v8 q14.2).bind fun q18 =>
  some q18))
theorem w_X14_value_p14 {Z : Zt} {F : Nat → Nat → Nat → Int → Me → Option Me} {n : Nat} {fin : Me} {w : Me} (C : CX Z yX14_value cX14_value none (8 + (n + 1)) 6) (hF : HF_val Z.2.1 Z.2.2.2.2.2.2.2.2.2.2.1 Z.2.2.2.2.2.2.2.2.2.2.2.1 n F) {a0 : Nat} {a1 : Nat} {a2 : Nat} {x3 : Int} {μ : Me} (h : s_X14_value_p14 F a0 a1 a2 x3 μ = some w) (hK : w = fin) : WL Z (QN Z none fin) μ 0 [(0, vO a0), (1, vO a1), (2, vO a2), (3, vI x3)] [] := by
  unfold s_X14_value_p14 at h
  refine r_aload_n C 0 dX14_value_0 rfl rfl ?_
  obtain ⟨v1, ev1, h⟩ := bs h
  refine r_getR C (c := 14) (r := (RX17, TX17, 2)) rfl 0 (by decide) rfl ev1 q729 dX14_value_1 ?_
  refine r_aload_n C 1 dX14_value_4 rfl rfl ?_
  refine r_aload_n C 2 dX14_value_5 rfl rfl ?_
  refine r_iload_n C 3 dX14_value_6 rfl rfl ?_
  obtain ⟨q2, eq2, h⟩ := bs h
  refine r_callSg C (As := [vO a1, vO a2, vI x3]) (b := v1) (rest := []) (st1 := []) (v := none) (μ1 := q2) (hF _ _ _ _ _ _ eq2) q910 q894 (lw_n q893 rfl) hdxSv rfl rfl (Nat.le_of_ble_eq_true rfl) ⟨by omega, by omega⟩ dX14_value_7 rfl ?_
  refine r_aload_n C 0 dX14_value_10 rfl rfl ?_
  obtain ⟨v3, ev3, h⟩ := bs h
  refine r_getR C (c := 14) (r := (RX17, TX17, 2)) rfl 1 (by decide) rfl ev3 q730 dX14_value_11 ?_
  refine r_aload_n C 1 dX14_value_14 rfl rfl ?_
  refine r_aload_n C 2 dX14_value_15 rfl rfl ?_
  refine r_iload_n C 3 dX14_value_16 rfl rfl ?_
  refine r_iconst C dX14_value_17 ?_
  refine r_iadd C dX14_value_18 ?_
  obtain ⟨q4, eq4, h⟩ := bs h
  refine r_callSg C (As := [vO a1, vO a2, vI (x3 + 1)]) (b := v3) (rest := []) (st1 := []) (v := none) (μ1 := q4) (hF _ _ _ _ _ _ eq4) q910 q894 (lw_n q893 rfl) hdxSv rfl rfl (Nat.le_of_ble_eq_true rfl) ⟨by omega, by omega⟩ dX14_value_19 rfl ?_
  refine r_aload_n C 1 dX14_value_22 rfl rfl ?_
  obtain ⟨v5, ev5, h⟩ := bs h
  refine r_getRN C (c := 0) (r := (RX1, TX1, 19)) rfl 4 (by decide) rfl ev5 (lw_n q432 rfl) dX14_value_23 ?_
  refine r_iload_n C 3 dX14_value_26 rfl rfl ?_
  obtain ⟨v6, ev6, h⟩ := bs h
  refine r_aald C (kt := 3) ev6 rfl rfl ⟨by decide, by decide⟩ dX14_value_27 ?_
  refine r_astore C [(4, vO v6), (0, vO a0), (1, vO a1), (2, vO a2), (3, vI x3)] dX14_value_28 (by decide) rfl ?_
  refine r_aload_n C 2 dX14_value_30 rfl rfl ?_
  obtain ⟨v7, ev7, h⟩ := bs h
  refine r_getRN C (c := 0) (r := (RX1, TX1, 19)) rfl 4 (by decide) rfl ev7 (lw_n q432 rfl) dX14_value_31 ?_
  refine r_iload_n C 4 dX14_value_34 rfl rfl ?_
  refine r_iconst C dX14_value_35 ?_
  refine r_iadd C dX14_value_36 ?_
  obtain ⟨v8, ev8, h⟩ := bs h
  refine r_aald C (kt := 3) ev8 rfl rfl ⟨by decide, by decide⟩ dX14_value_37 ?_
  refine r_astore C [(5, vO v8), (4, vO v6), (0, vO a0), (1, vO a1), (2, vO a2), (3, vI x3)] dX14_value_38 (by decide) rfl ?_
  refine r_aload C 1 dX14_value_40 rfl ?_
  obtain ⟨u10, eu10, h⟩ := bs h
  obtain ⟨q9, eq9, h⟩ := bs h
  refine r_callV C (As := []) (b := v6) (rest := []) (st1 := [vI q9.1]) (v := some (vI q9.1)) (r := (RX8, TX8, 2)) (ci := 6) rfl eu10 (m_X8_isValue C.tr eq9) (lw_V q911 q912 q913 q130 q914) rfl hdX8_isValue rfl rfl (Nat.le_of_ble_eq_true rfl) ⟨by omega, by omega⟩ dX14_value_42 rfl ?_
  refine r_if_eq C dX14_value_45 (tgt := 56) (by decide) (fun c11 => ?_) (fun c11 => ?_)
  · have h := it_ h c11
    refine r_aload C 1 dX14_value_56 rfl ?_
    refine r_iconst C dX14_value_58 ?_
    obtain ⟨u13, eu13, h⟩ := bs h
    obtain ⟨q12, eq12, h⟩ := bs h
    refine r_callV C (As := [vI (-1)]) (b := v6) (rest := []) (st1 := []) (v := none) (r := (RX8, TX8, 2)) (ci := 6) rfl eu13 (m_X8_nought C.tr eq12) (lw_V q915 q628 q629 q130 q630) rfl hdX8_nought rfl rfl (Nat.le_of_ble_eq_true rfl) ⟨by omega, by omega⟩ dX14_value_59 rfl ?_
    refine r_goto C dX14_value_62 (tgt := 77) (by decide) ?_
    cases h
    exact r_vret C hK dX14_value_77
  · have h := ie_ h c11
    refine r_aload C 0 dX14_value_48 rfl ?_
    obtain ⟨u15, eu15, h⟩ := bs h
    obtain ⟨q14, eq14, h⟩ := bs h
    refine r_callV C (As := []) (b := v8) (rest := []) (st1 := [vI q14.1]) (v := some (vI q14.1)) (r := (RX8, TX8, 2)) (ci := 6) rfl eu15 (m_X8_isValue C.tr eq14) (lw_V q911 q912 q913 q130 q914) rfl hdX8_isValue rfl rfl (Nat.le_of_ble_eq_true rfl) ⟨by omega, by omega⟩ dX14_value_50 rfl ?_
    refine r_if_ne C dX14_value_53 (tgt := 65) (by decide) (fun c16 => ?_) (fun c16 => ?_)
    · have h := ie_ h c16
      refine r_aload_n C 2 dX14_value_65 rfl rfl ?_
      refine r_aload_n C 3 dX14_value_66 rfl rfl ?_
      obtain ⟨v17, ev17, h⟩ := bs h
      refine r_getRN C (c := 0) (r := (RX1, TX1, 19)) rfl 1 (by decide) rfl ev17 (lw_n q425 rfl) dX14_value_67 ?_
      refine r_aload C 1 dX14_value_70 rfl ?_
      refine r_aload C 0 dX14_value_72 rfl ?_
      obtain ⟨u19, eu19, h⟩ := bs h
      obtain ⟨q18, eq18, h⟩ := bs h
      refine r_callU C (As := [vO v17, vO v6, vO v8]) (b := a0) (rest := []) (st1 := []) (v := none) (μ1 := q18) (r := (RX17, TX17, 2)) (ci := 14) (x := xjoins) rfl (ck_ok eu19) (m_X17_joins C.tr eq18) q916 q918 (lw_n q917 rfl) q942 q943 q144 q944 hdxjoins rfl rfl (Nat.le_of_ble_eq_true rfl) ⟨by omega, by omega⟩ dX14_value_74 rfl ?_
      cases h
      exact r_vret C hK dX14_value_77
    · have h := it_ h c16
      refine r_aload C 1 dX14_value_56 rfl ?_
      refine r_iconst C dX14_value_58 ?_
      obtain ⟨u21, eu21, h⟩ := bs h
      obtain ⟨q20, eq20, h⟩ := bs h
      refine r_callV C (As := [vI (-1)]) (b := v6) (rest := []) (st1 := []) (v := none) (r := (RX8, TX8, 2)) (ci := 6) rfl eu21 (m_X8_nought C.tr eq20) (lw_V q915 q628 q629 q130 q630) rfl hdX8_nought rfl rfl (Nat.le_of_ble_eq_true rfl) ⟨by omega, by omega⟩ dX14_value_59 rfl ?_
      refine r_goto C dX14_value_62 (tgt := 77) (by decide) ?_
      cases h
      exact r_vret C hK dX14_value_77
noncomputable def s_val : Nat → Nat → Nat → Nat → Int → Me → Option Me
  | 0 => fun _ _ _ _ _ => none
  | n + 1 => fun a0 z0 z1 z2 μ => if μ.1.2.1 a0 = 2 then s_X4_value (s_val n) a0 z0 z1 z2 μ else if μ.1.2.1 a0 = 10 then s_X12_value (s_val n) a0 z0 z1 z2 μ else if μ.1.2.1 a0 = 11 then s_X13_value (s_val n) a0 z0 z1 z2 μ else if μ.1.2.1 a0 = 12 then s_X14_value_p12 (s_val n) a0 z0 z1 z2 μ else if μ.1.2.1 a0 = 13 then s_X14_value_p13 (s_val n) a0 z0 z1 z2 μ else if μ.1.2.1 a0 = 14 then s_X14_value_p14 (s_val n) a0 z0 z1 z2 μ else none
theorem m_val {l : Launch} {D : va_G} {b0 : Nat} (hl : l.stackTraces = false) : ∀ n : Nat, HF_val l D b0 n (s_val n) := by
  intro n
  induction n with
  | zero => exact fun a0 z0 z1 z2 μ w h => by cases h
  | succ n ih =>
    intro a0 z0 z1 z2 μ w h
    unfold s_val at h
    by_cases c2 : μ.1.2.1 a0 = 2
    · have h := it_ h c2
      exact ⟨2, (RX4, zT0, 0), yX4_value, cX4_value, 4, rfl, c2, q900, q901, q123, q902, by decide, MN.of hl (by decide +kernel) (Nat.le_of_ble_eq_true rfl) (fun Z C e1 e2 => w_X4_value C (by rw [e1, e2]; exact ih) h rfl)⟩
    have h := ie_ h c2
    by_cases c10 : μ.1.2.1 a0 = 10
    · have h := it_ h c10
      exact ⟨10, (RX12, TX12, 1), yX12_value, cX12_value, 4, rfl, c10, q895, q896, q139, q897, by decide, MN.of hl (by decide +kernel) (Nat.le_of_ble_eq_true rfl) (fun Z C e1 e2 => w_X12_value C (by rw [e1, e2]; exact ih) h rfl)⟩
    have h := ie_ h c10
    by_cases c11 : μ.1.2.1 a0 = 11
    · have h := it_ h c11
      exact ⟨11, (RX13, TX13, 1), yX13_value, cX13_value, 6, rfl, c11, q904, q905, q140, q906, by decide, MN.of hl (by decide +kernel) (Nat.le_of_ble_eq_true rfl) (fun Z C e1 e2 => w_X13_value C (by rw [e1, e2]; exact ih) h rfl)⟩
    have h := ie_ h c11
    by_cases c12 : μ.1.2.1 a0 = 12
    · have h := it_ h c12
      exact ⟨12, (RX15, TX15, 3), yX14_value, cX14_value, 6, rfl, c12, q952, q908, q141, q909, by decide, MN.of hl (by decide +kernel) (Nat.le_of_ble_eq_true rfl) (fun Z C e1 e2 => w_X14_value_p12 C (by rw [e1, e2]; exact ih) h rfl)⟩
    have h := ie_ h c12
    by_cases c13 : μ.1.2.1 a0 = 13
    · have h := it_ h c13
      exact ⟨13, (RX16, TX16, 2), yX14_value, cX14_value, 6, rfl, c13, q954, q908, q141, q909, by decide, MN.of hl (by decide +kernel) (Nat.le_of_ble_eq_true rfl) (fun Z C e1 e2 => w_X14_value_p13 C (by rw [e1, e2]; exact ih) h rfl)⟩
    have h := ie_ h c13
    by_cases c14 : μ.1.2.1 a0 = 14
    · have h := it_ h c14
      exact ⟨14, (RX17, TX17, 2), yX14_value, cX14_value, 6, rfl, c14, q953, q908, q141, q909, by decide, MN.of hl (by decide +kernel) (Nat.le_of_ble_eq_true rfl) (fun Z C e1 e2 => w_X14_value_p14 C (by rw [e1, e2]; exact ih) h rfl)⟩
    have h := ie_ h c14
    cases h
def HF_rnk (l : Launch) (D : va_G) (b0 n : Nat) (F : Nat → Int → Me → Option (Int × Me)) : Prop :=
  ∀ (a0 : Nat) (z0 : Int) (μ : Me) (w : Int × Me), F a0 z0 μ = some w → SgV l D b0 (3 + n) xSr (some .int) [vI z0] a0 μ (some (vI w.1)) w.2
noncomputable def s_X4_rank (F : Nat → Int → Me → Option (Int × Me)) (a0 : Nat) (x1 : Int) (μ : Me) : Option (Int × Me) :=
  (if w32 x1 = 0 then
  some (1, μ)
  else
  some (0, μ))
theorem w_X4_rank {Z : Zt} {F : Nat → Int → Me → Option (Int × Me)} {n : Nat} {fin : Int × Me} {w : Int × Me} (C : CX Z yX4_rank cX4_rank (some .int) (3 + (n + 1)) 2) (hF : HF_rnk Z.2.1 Z.2.2.2.2.2.2.2.2.2.2.1 Z.2.2.2.2.2.2.2.2.2.2.2.1 n F) {a0 : Nat} {x1 : Int} {μ : Me} (h : s_X4_rank F a0 x1 μ = some w) (hK : w = fin) : WL Z (QN Z (some (vI fin.1)) fin.2) μ 0 [(0, vO a0), (1, vI x1)] [] := by
  unfold s_X4_rank at h
  refine r_iload_n C 1 dX4_rank_0 rfl rfl ?_
  refine r_if_eq C dX4_rank_1 (tgt := 8) (by decide) (fun c1 => ?_) (fun c1 => ?_)
  · have h := it_ h c1
    refine r_iconst C dX4_rank_8 ?_
    cases h
    exact r_iret C hK dX4_rank_9
  · have h := ie_ h c1
    refine r_iconst C dX4_rank_4 ?_
    refine r_goto C dX4_rank_5 (tgt := 9) (by decide) ?_
    cases h
    exact r_iret C hK dX4_rank_9
theorem hdX4_rank : zhd yX4_rank 1 := by decide +kernel
noncomputable def s_X12_rank (F : Nat → Int → Me → Option (Int × Me)) (a0 : Nat) (x1 : Int) (μ : Me) : Option (Int × Me) :=
  some (0, μ)
theorem w_X12_rank {Z : Zt} {F : Nat → Int → Me → Option (Int × Me)} {n : Nat} {fin : Int × Me} {w : Int × Me} (C : CX Z yX12_rank cX12_rank (some .int) (3 + (n + 1)) 2) (hF : HF_rnk Z.2.1 Z.2.2.2.2.2.2.2.2.2.2.1 Z.2.2.2.2.2.2.2.2.2.2.2.1 n F) {a0 : Nat} {x1 : Int} {μ : Me} (h : s_X12_rank F a0 x1 μ = some w) (hK : w = fin) : WL Z (QN Z (some (vI fin.1)) fin.2) μ 0 [(0, vO a0), (1, vI x1)] [] := by
  unfold s_X12_rank at h
  refine r_iconst C dX12_rank_0 ?_
  cases h
  exact r_iret C hK dX12_rank_1
theorem hdX12_rank : zhd yX12_rank 1 := by decide +kernel
noncomputable def s_X13_rank (F : Nat → Int → Me → Option (Int × Me)) (a0 : Nat) (x1 : Int) (μ : Me) : Option (Int × Me) :=
  (gR μ 11 a0 0).bind fun v1 =>
  (F v1 x1 μ).bind fun q2 =>
  some (q2.1, q2.2)
theorem w_X13_rank {Z : Zt} {F : Nat → Int → Me → Option (Int × Me)} {n : Nat} {fin : Int × Me} {w : Int × Me} (C : CX Z yX13_rank cX13_rank (some .int) (3 + (n + 1)) 2) (hF : HF_rnk Z.2.1 Z.2.2.2.2.2.2.2.2.2.2.1 Z.2.2.2.2.2.2.2.2.2.2.2.1 n F) {a0 : Nat} {x1 : Int} {μ : Me} (h : s_X13_rank F a0 x1 μ = some w) (hK : w = fin) : WL Z (QN Z (some (vI fin.1)) fin.2) μ 0 [(0, vO a0), (1, vI x1)] [] := by
  unfold s_X13_rank at h
  refine r_aload_n C 0 dX13_rank_0 rfl rfl ?_
  obtain ⟨v1, ev1, h⟩ := bs h
  refine r_getR C (c := 11) (r := (RX13, TX13, 1)) rfl 0 (by decide) rfl ev1 q707 dX13_rank_1 ?_
  refine r_iload_n C 1 dX13_rank_4 rfl rfl ?_
  obtain ⟨q2, eq2, h⟩ := bs h
  refine r_callSg C (As := [vI x1]) (b := v1) (rest := []) (st1 := [vI q2.1]) (v := some (vI q2.1)) (μ1 := q2.2) (hF _ _ _ _ eq2) q975 q965 (lw_n q964 rfl) hdxSr rfl rfl (Nat.le_of_ble_eq_true rfl) ⟨by omega, by omega⟩ dX13_rank_5 rfl ?_
  cases h
  exact r_iret C hK dX13_rank_8
theorem hdX13_rank : zhd yX13_rank 1 := by decide +kernel
theorem hdX14_rank : zhd yX14_rank 1 := by decide +kernel
noncomputable def s_X14_rank_p12 (F : Nat → Int → Me → Option (Int × Me)) (a0 : Nat) (x1 : Int) (μ : Me) : Option (Int × Me) :=
  (gR μ 12 a0 0).bind fun v1 =>
  (F v1 x1 μ).bind fun q2 =>
  (gR q2.2 12 a0 1).bind fun v3 =>
  (F v3 x1 q2.2).bind fun q4 =>
  (if w32 q2.1 = w32 (-1) then
  some ((-1), q4.2)
  else
  (if w32 q4.1 = w32 (-1) then
  some ((-1), q4.2)
  else
  (ck q4.2 12 a0).bind fun _ =>
  (s_X15_both a0 q2.1 q4.1 x1 q4.2).bind fun q7 =>
  some (q7.1, q7.2)))
theorem w_X14_rank_p12 {Z : Zt} {F : Nat → Int → Me → Option (Int × Me)} {n : Nat} {fin : Int × Me} {w : Int × Me} (C : CX Z yX14_rank cX14_rank (some .int) (3 + (n + 1)) 4) (hF : HF_rnk Z.2.1 Z.2.2.2.2.2.2.2.2.2.2.1 Z.2.2.2.2.2.2.2.2.2.2.2.1 n F) {a0 : Nat} {x1 : Int} {μ : Me} (h : s_X14_rank_p12 F a0 x1 μ = some w) (hK : w = fin) : WL Z (QN Z (some (vI fin.1)) fin.2) μ 0 [(0, vO a0), (1, vI x1)] [] := by
  unfold s_X14_rank_p12 at h
  refine r_aload_n C 0 dX14_rank_0 rfl rfl ?_
  obtain ⟨v1, ev1, h⟩ := bs h
  refine r_getR C (c := 12) (r := (RX15, TX15, 3)) rfl 0 (by decide) rfl ev1 q729 dX14_rank_1 ?_
  refine r_iload_n C 1 dX14_rank_4 rfl rfl ?_
  obtain ⟨q2, eq2, h⟩ := bs h
  refine r_callSg C (As := [vI x1]) (b := v1) (rest := []) (st1 := [vI q2.1]) (v := some (vI q2.1)) (μ1 := q2.2) (hF _ _ _ _ eq2) q978 q965 (lw_n q964 rfl) hdxSr rfl rfl (Nat.le_of_ble_eq_true rfl) ⟨by omega, by omega⟩ dX14_rank_5 rfl ?_
  refine r_istore_n C [(2, vI q2.1), (0, vO a0), (1, vI x1)] dX14_rank_8 rfl (by decide) rfl ?_
  refine r_aload_n C 1 dX14_rank_9 rfl rfl ?_
  obtain ⟨v3, ev3, h⟩ := bs h
  refine r_getR C (c := 12) (r := (RX15, TX15, 3)) rfl 1 (by decide) rfl ev3 q730 dX14_rank_10 ?_
  refine r_iload_n C 2 dX14_rank_13 rfl rfl ?_
  obtain ⟨q4, eq4, h⟩ := bs h
  refine r_callSg C (As := [vI x1]) (b := v3) (rest := []) (st1 := [vI q4.1]) (v := some (vI q4.1)) (μ1 := q4.2) (hF _ _ _ _ eq4) q978 q965 (lw_n q964 rfl) hdxSr rfl rfl (Nat.le_of_ble_eq_true rfl) ⟨by omega, by omega⟩ dX14_rank_14 rfl ?_
  refine r_istore_n C [(3, vI q4.1), (2, vI q2.1), (0, vO a0), (1, vI x1)] dX14_rank_17 rfl (by decide) rfl ?_
  refine r_iload_n C 1 dX14_rank_18 rfl rfl ?_
  refine r_iconst C dX14_rank_19 ?_
  refine r_icmp_eq C dX14_rank_20 (tgt := 28) (by decide) (fun c5 => ?_) (fun c5 => ?_)
  · have h := it_ h c5
    refine r_iconst C dX14_rank_28 ?_
    refine r_goto C dX14_rank_29 (tgt := 39) (by decide) ?_
    cases h
    exact r_iret C hK dX14_rank_39
  · have h := ie_ h c5
    refine r_iload_n C 0 dX14_rank_23 rfl rfl ?_
    refine r_iconst C dX14_rank_24 ?_
    refine r_icmp_ne C dX14_rank_25 (tgt := 32) (by decide) (fun c6 => ?_) (fun c6 => ?_)
    · have h := ie_ h c6
      refine r_aload_n C 2 dX14_rank_32 rfl rfl ?_
      refine r_iload_n C 1 dX14_rank_33 rfl rfl ?_
      refine r_iload_n C 0 dX14_rank_34 rfl rfl ?_
      refine r_iload_n C 3 dX14_rank_35 rfl rfl ?_
      obtain ⟨u8, eu8, h⟩ := bs h
      obtain ⟨q7, eq7, h⟩ := bs h
      refine r_callU C (As := [vI q2.1, vI q4.1, vI x1]) (b := a0) (rest := []) (st1 := [vI q7.1]) (v := some (vI q7.1)) (μ1 := q7.2) (r := (RX15, TX15, 3)) (ci := 12) (x := xboth) rfl (ck_ok eu8) (m_X15_both C.tr eq7) q979 q981 (lw_n q980 rfl) q982 q983 q142 q984 hdxboth rfl rfl (Nat.le_of_ble_eq_true rfl) ⟨by omega, by omega⟩ dX14_rank_36 rfl ?_
      cases h
      exact r_iret C hK dX14_rank_39
    · have h := it_ h c6
      refine r_iconst C dX14_rank_28 ?_
      refine r_goto C dX14_rank_29 (tgt := 39) (by decide) ?_
      cases h
      exact r_iret C hK dX14_rank_39
noncomputable def s_X14_rank_p13 (F : Nat → Int → Me → Option (Int × Me)) (a0 : Nat) (x1 : Int) (μ : Me) : Option (Int × Me) :=
  (gR μ 13 a0 0).bind fun v1 =>
  (F v1 x1 μ).bind fun q2 =>
  (gR q2.2 13 a0 1).bind fun v3 =>
  (F v3 x1 q2.2).bind fun q4 =>
  (if w32 q2.1 = w32 (-1) then
  some ((-1), q4.2)
  else
  (if w32 q4.1 = w32 (-1) then
  some ((-1), q4.2)
  else
  (ck q4.2 13 a0).bind fun _ =>
  (s_X16_both a0 q2.1 q4.1 x1 q4.2).bind fun q7 =>
  some (q7.1, q7.2)))
theorem w_X14_rank_p13 {Z : Zt} {F : Nat → Int → Me → Option (Int × Me)} {n : Nat} {fin : Int × Me} {w : Int × Me} (C : CX Z yX14_rank cX14_rank (some .int) (3 + (n + 1)) 4) (hF : HF_rnk Z.2.1 Z.2.2.2.2.2.2.2.2.2.2.1 Z.2.2.2.2.2.2.2.2.2.2.2.1 n F) {a0 : Nat} {x1 : Int} {μ : Me} (h : s_X14_rank_p13 F a0 x1 μ = some w) (hK : w = fin) : WL Z (QN Z (some (vI fin.1)) fin.2) μ 0 [(0, vO a0), (1, vI x1)] [] := by
  unfold s_X14_rank_p13 at h
  refine r_aload_n C 0 dX14_rank_0 rfl rfl ?_
  obtain ⟨v1, ev1, h⟩ := bs h
  refine r_getR C (c := 13) (r := (RX16, TX16, 2)) rfl 0 (by decide) rfl ev1 q729 dX14_rank_1 ?_
  refine r_iload_n C 1 dX14_rank_4 rfl rfl ?_
  obtain ⟨q2, eq2, h⟩ := bs h
  refine r_callSg C (As := [vI x1]) (b := v1) (rest := []) (st1 := [vI q2.1]) (v := some (vI q2.1)) (μ1 := q2.2) (hF _ _ _ _ eq2) q978 q965 (lw_n q964 rfl) hdxSr rfl rfl (Nat.le_of_ble_eq_true rfl) ⟨by omega, by omega⟩ dX14_rank_5 rfl ?_
  refine r_istore_n C [(2, vI q2.1), (0, vO a0), (1, vI x1)] dX14_rank_8 rfl (by decide) rfl ?_
  refine r_aload_n C 1 dX14_rank_9 rfl rfl ?_
  obtain ⟨v3, ev3, h⟩ := bs h
  refine r_getR C (c := 13) (r := (RX16, TX16, 2)) rfl 1 (by decide) rfl ev3 q730 dX14_rank_10 ?_
  refine r_iload_n C 2 dX14_rank_13 rfl rfl ?_
  obtain ⟨q4, eq4, h⟩ := bs h
  refine r_callSg C (As := [vI x1]) (b := v3) (rest := []) (st1 := [vI q4.1]) (v := some (vI q4.1)) (μ1 := q4.2) (hF _ _ _ _ eq4) q978 q965 (lw_n q964 rfl) hdxSr rfl rfl (Nat.le_of_ble_eq_true rfl) ⟨by omega, by omega⟩ dX14_rank_14 rfl ?_
  refine r_istore_n C [(3, vI q4.1), (2, vI q2.1), (0, vO a0), (1, vI x1)] dX14_rank_17 rfl (by decide) rfl ?_
  refine r_iload_n C 1 dX14_rank_18 rfl rfl ?_
  refine r_iconst C dX14_rank_19 ?_
  refine r_icmp_eq C dX14_rank_20 (tgt := 28) (by decide) (fun c5 => ?_) (fun c5 => ?_)
  · have h := it_ h c5
    refine r_iconst C dX14_rank_28 ?_
    refine r_goto C dX14_rank_29 (tgt := 39) (by decide) ?_
    cases h
    exact r_iret C hK dX14_rank_39
  · have h := ie_ h c5
    refine r_iload_n C 0 dX14_rank_23 rfl rfl ?_
    refine r_iconst C dX14_rank_24 ?_
    refine r_icmp_ne C dX14_rank_25 (tgt := 32) (by decide) (fun c6 => ?_) (fun c6 => ?_)
    · have h := ie_ h c6
      refine r_aload_n C 2 dX14_rank_32 rfl rfl ?_
      refine r_iload_n C 1 dX14_rank_33 rfl rfl ?_
      refine r_iload_n C 0 dX14_rank_34 rfl rfl ?_
      refine r_iload_n C 3 dX14_rank_35 rfl rfl ?_
      obtain ⟨u8, eu8, h⟩ := bs h
      obtain ⟨q7, eq7, h⟩ := bs h
      refine r_callU C (As := [vI q2.1, vI q4.1, vI x1]) (b := a0) (rest := []) (st1 := [vI q7.1]) (v := some (vI q7.1)) (μ1 := q7.2) (r := (RX16, TX16, 2)) (ci := 13) (x := xboth) rfl (ck_ok eu8) (m_X16_both C.tr eq7) q979 q981 (lw_n q980 rfl) q988 q989 q143 q990 hdxboth rfl rfl (Nat.le_of_ble_eq_true rfl) ⟨by omega, by omega⟩ dX14_rank_36 rfl ?_
      cases h
      exact r_iret C hK dX14_rank_39
    · have h := it_ h c6
      refine r_iconst C dX14_rank_28 ?_
      refine r_goto C dX14_rank_29 (tgt := 39) (by decide) ?_
      cases h
      exact r_iret C hK dX14_rank_39
noncomputable def s_X14_rank_p14 (F : Nat → Int → Me → Option (Int × Me)) (a0 : Nat) (x1 : Int) (μ : Me) : Option (Int × Me) :=
  (gR μ 14 a0 0).bind fun v1 =>
  (F v1 x1 μ).bind fun q2 =>
  (gR q2.2 14 a0 1).bind fun v3 =>
  (F v3 x1 q2.2).bind fun q4 =>
  (if w32 q2.1 = w32 (-1) then
  some ((-1), q4.2)
  else
  (if w32 q4.1 = w32 (-1) then
  some ((-1), q4.2)
  else
  (ck q4.2 14 a0).bind fun _ =>
  (s_X17_both a0 q2.1 q4.1 x1 q4.2).bind fun q7 =>
  some (q7.1, q7.2)))
theorem w_X14_rank_p14 {Z : Zt} {F : Nat → Int → Me → Option (Int × Me)} {n : Nat} {fin : Int × Me} {w : Int × Me} (C : CX Z yX14_rank cX14_rank (some .int) (3 + (n + 1)) 4) (hF : HF_rnk Z.2.1 Z.2.2.2.2.2.2.2.2.2.2.1 Z.2.2.2.2.2.2.2.2.2.2.2.1 n F) {a0 : Nat} {x1 : Int} {μ : Me} (h : s_X14_rank_p14 F a0 x1 μ = some w) (hK : w = fin) : WL Z (QN Z (some (vI fin.1)) fin.2) μ 0 [(0, vO a0), (1, vI x1)] [] := by
  unfold s_X14_rank_p14 at h
  refine r_aload_n C 0 dX14_rank_0 rfl rfl ?_
  obtain ⟨v1, ev1, h⟩ := bs h
  refine r_getR C (c := 14) (r := (RX17, TX17, 2)) rfl 0 (by decide) rfl ev1 q729 dX14_rank_1 ?_
  refine r_iload_n C 1 dX14_rank_4 rfl rfl ?_
  obtain ⟨q2, eq2, h⟩ := bs h
  refine r_callSg C (As := [vI x1]) (b := v1) (rest := []) (st1 := [vI q2.1]) (v := some (vI q2.1)) (μ1 := q2.2) (hF _ _ _ _ eq2) q978 q965 (lw_n q964 rfl) hdxSr rfl rfl (Nat.le_of_ble_eq_true rfl) ⟨by omega, by omega⟩ dX14_rank_5 rfl ?_
  refine r_istore_n C [(2, vI q2.1), (0, vO a0), (1, vI x1)] dX14_rank_8 rfl (by decide) rfl ?_
  refine r_aload_n C 1 dX14_rank_9 rfl rfl ?_
  obtain ⟨v3, ev3, h⟩ := bs h
  refine r_getR C (c := 14) (r := (RX17, TX17, 2)) rfl 1 (by decide) rfl ev3 q730 dX14_rank_10 ?_
  refine r_iload_n C 2 dX14_rank_13 rfl rfl ?_
  obtain ⟨q4, eq4, h⟩ := bs h
  refine r_callSg C (As := [vI x1]) (b := v3) (rest := []) (st1 := [vI q4.1]) (v := some (vI q4.1)) (μ1 := q4.2) (hF _ _ _ _ eq4) q978 q965 (lw_n q964 rfl) hdxSr rfl rfl (Nat.le_of_ble_eq_true rfl) ⟨by omega, by omega⟩ dX14_rank_14 rfl ?_
  refine r_istore_n C [(3, vI q4.1), (2, vI q2.1), (0, vO a0), (1, vI x1)] dX14_rank_17 rfl (by decide) rfl ?_
  refine r_iload_n C 1 dX14_rank_18 rfl rfl ?_
  refine r_iconst C dX14_rank_19 ?_
  refine r_icmp_eq C dX14_rank_20 (tgt := 28) (by decide) (fun c5 => ?_) (fun c5 => ?_)
  · have h := it_ h c5
    refine r_iconst C dX14_rank_28 ?_
    refine r_goto C dX14_rank_29 (tgt := 39) (by decide) ?_
    cases h
    exact r_iret C hK dX14_rank_39
  · have h := ie_ h c5
    refine r_iload_n C 0 dX14_rank_23 rfl rfl ?_
    refine r_iconst C dX14_rank_24 ?_
    refine r_icmp_ne C dX14_rank_25 (tgt := 32) (by decide) (fun c6 => ?_) (fun c6 => ?_)
    · have h := ie_ h c6
      refine r_aload_n C 2 dX14_rank_32 rfl rfl ?_
      refine r_iload_n C 1 dX14_rank_33 rfl rfl ?_
      refine r_iload_n C 0 dX14_rank_34 rfl rfl ?_
      refine r_iload_n C 3 dX14_rank_35 rfl rfl ?_
      obtain ⟨u8, eu8, h⟩ := bs h
      obtain ⟨q7, eq7, h⟩ := bs h
      refine r_callU C (As := [vI q2.1, vI q4.1, vI x1]) (b := a0) (rest := []) (st1 := [vI q7.1]) (v := some (vI q7.1)) (μ1 := q7.2) (r := (RX17, TX17, 2)) (ci := 14) (x := xboth) rfl (ck_ok eu8) (m_X17_both C.tr eq7) q979 q981 (lw_n q980 rfl) q985 q986 q144 q987 hdxboth rfl rfl (Nat.le_of_ble_eq_true rfl) ⟨by omega, by omega⟩ dX14_rank_36 rfl ?_
      cases h
      exact r_iret C hK dX14_rank_39
    · have h := it_ h c6
      refine r_iconst C dX14_rank_28 ?_
      refine r_goto C dX14_rank_29 (tgt := 39) (by decide) ?_
      cases h
      exact r_iret C hK dX14_rank_39
noncomputable def s_rnk : Nat → Nat → Int → Me → Option (Int × Me)
  | 0 => fun _ _ _ => none
  | n + 1 => fun a0 z0 μ => if μ.1.2.1 a0 = 2 then s_X4_rank (s_rnk n) a0 z0 μ else if μ.1.2.1 a0 = 10 then s_X12_rank (s_rnk n) a0 z0 μ else if μ.1.2.1 a0 = 11 then s_X13_rank (s_rnk n) a0 z0 μ else if μ.1.2.1 a0 = 12 then s_X14_rank_p12 (s_rnk n) a0 z0 μ else if μ.1.2.1 a0 = 13 then s_X14_rank_p13 (s_rnk n) a0 z0 μ else if μ.1.2.1 a0 = 14 then s_X14_rank_p14 (s_rnk n) a0 z0 μ else none
theorem m_rnk {l : Launch} {D : va_G} {b0 : Nat} (hl : l.stackTraces = false) : ∀ n : Nat, HF_rnk l D b0 n (s_rnk n) := by
  intro n
  induction n with
  | zero => exact fun a0 z0 μ w h => by cases h
  | succ n ih =>
    intro a0 z0 μ w h
    unfold s_rnk at h
    by_cases c2 : μ.1.2.1 a0 = 2
    · have h := it_ h c2
      exact ⟨2, (RX4, zT0, 0), yX4_rank, cX4_rank, 2, rfl, c2, q969, q970, q123, q971, by decide, MN.of hl (by decide +kernel) (Nat.le_of_ble_eq_true rfl) (fun Z C e1 e2 => w_X4_rank C (by rw [e1, e2]; exact ih) h rfl)⟩
    have h := ie_ h c2
    by_cases c10 : μ.1.2.1 a0 = 10
    · have h := it_ h c10
      exact ⟨10, (RX12, TX12, 1), yX12_rank, cX12_rank, 2, rfl, c10, q966, q967, q139, q968, by decide, MN.of hl (by decide +kernel) (Nat.le_of_ble_eq_true rfl) (fun Z C e1 e2 => w_X12_rank C (by rw [e1, e2]; exact ih) h rfl)⟩
    have h := ie_ h c10
    by_cases c11 : μ.1.2.1 a0 = 11
    · have h := it_ h c11
      exact ⟨11, (RX13, TX13, 1), yX13_rank, cX13_rank, 2, rfl, c11, q972, q973, q140, q974, by decide, MN.of hl (by decide +kernel) (Nat.le_of_ble_eq_true rfl) (fun Z C e1 e2 => w_X13_rank C (by rw [e1, e2]; exact ih) h rfl)⟩
    have h := ie_ h c11
    by_cases c12 : μ.1.2.1 a0 = 12
    · have h := it_ h c12
      exact ⟨12, (RX15, TX15, 3), yX14_rank, cX14_rank, 4, rfl, c12, q991, q976, q141, q977, by decide, MN.of hl (by decide +kernel) (Nat.le_of_ble_eq_true rfl) (fun Z C e1 e2 => w_X14_rank_p12 C (by rw [e1, e2]; exact ih) h rfl)⟩
    have h := ie_ h c12
    by_cases c13 : μ.1.2.1 a0 = 13
    · have h := it_ h c13
      exact ⟨13, (RX16, TX16, 2), yX14_rank, cX14_rank, 4, rfl, c13, q993, q976, q141, q977, by decide, MN.of hl (by decide +kernel) (Nat.le_of_ble_eq_true rfl) (fun Z C e1 e2 => w_X14_rank_p13 C (by rw [e1, e2]; exact ih) h rfl)⟩
    have h := ie_ h c13
    by_cases c14 : μ.1.2.1 a0 = 14
    · have h := it_ h c14
      exact ⟨14, (RX17, TX17, 2), yX14_rank, cX14_rank, 4, rfl, c14, q992, q976, q141, q977, by decide, MN.of hl (by decide +kernel) (Nat.le_of_ble_eq_true rfl) (fun Z C e1 e2 => w_X14_rank_p14 C (by rw [e1, e2]; exact ih) h rfl)⟩
    have h := ie_ h c14
    cases h
noncomputable def s_X1_valueOf (a0 : Nat) (a1 : Nat) (a2 : Nat) (μ : Me) : Option (Nat × Me) :=
  (s_val 200 a1 a0 a2 0 μ).bind fun q1 =>
  (gR q1 0 a0 4).bind fun v2 =>
  (aR q1 104 v2 0).bind fun v3 =>
  some (v3, q1)
theorem w_X1_valueOf {Z : Zt} {fin : Nat × Me} {w : Nat × Me} (C : CX Z yX1_valueOf cX1_valueOf (some (.object "LetterForms$Form")) 209 3) {a0 : Nat} {a1 : Nat} {a2 : Nat} {μ : Me} (h : s_X1_valueOf a0 a1 a2 μ = some w) (hK : w = fin) : WL Z (QN Z (some (vO fin.1)) fin.2) μ 0 [(0, vO a0), (1, vO a1), (2, vO a2)] [] := by
  unfold s_X1_valueOf at h
  refine r_aload_n C 1 dX1_valueOf_0 rfl rfl ?_
  refine r_aload_n C 0 dX1_valueOf_1 rfl rfl ?_
  refine r_aload_n C 2 dX1_valueOf_2 rfl rfl ?_
  refine r_iconst C dX1_valueOf_3 ?_
  obtain ⟨q1, eq1, h⟩ := bs h
  refine r_callSg C (As := [vO a0, vO a2, vI 0]) (b := a1) (rest := []) (st1 := []) (v := none) (μ1 := q1) (m_val C.tr 200 _ _ _ _ _ _ eq1) q892 q894 (lw_n q893 rfl) hdxSv rfl rfl (Nat.le_of_ble_eq_true rfl) ⟨by decide, by decide⟩ dX1_valueOf_4 rfl ?_
  refine r_aload_n C 0 dX1_valueOf_7 rfl rfl ?_
  obtain ⟨v2, ev2, h⟩ := bs h
  refine r_getR C (c := 0) (r := (RX1, TX1, 19)) rfl 4 (by decide) rfl ev2 q428 dX1_valueOf_8 ?_
  refine r_iconst C dX1_valueOf_11 ?_
  obtain ⟨v3, ev3, h⟩ := bs h
  refine r_aald C (kt := 3) ev3 rfl rfl ⟨by decide, by decide⟩ dX1_valueOf_12 ?_
  cases h
  exact r_aret C (Or.inl ⟨_, rfl⟩) hK dX1_valueOf_13
theorem hdX1_valueOf : zhd yX1_valueOf 2 := by decide +kernel
theorem m_X1_valueOf {l : Launch} {D : va_G} {b0 : Nat} (hl : l.stackTraces = false) {a0 : Nat} {a1 : Nat} {a2 : Nat} {μ : Me} {w : Nat × Me} (h : s_X1_valueOf a0 a1 a2 μ = some w) : MN l D b0 yX1_valueOf (ws_ yX1_valueOf cX1_valueOf 3 (some (.object "LetterForms$Form"))) 209 [vO a0, vO a1, vO a2] μ (some (vO w.1)) w.2 :=
  MN.of hl (by decide +kernel) (Nat.le_of_ble_eq_true rfl) (fun Z C _ _ => w_X1_valueOf C h rfl)
noncomputable def s_X1_value (a0 : Nat) (x1 : Int) (x2 : Int) (x3 : Int) (μ : Me) : Option (Ex ⊕ (Int × Me)) :=
  (ck μ 0 a0).bind fun _ =>
  xb (s_X1_signAt a0 x1 μ) (fun e2 => some (.inl e2)) fun q1 =>
  (ck q1.2 0 a0).bind fun _ =>
  xb (s_X1_formAt a0 x2 q1.2) (fun e5 => some (.inl e5)) fun q4 =>
  (ck q4.2 0 a0).bind fun _ =>
  (s_X1_valueOf a0 q1.1 q4.1 q4.2).bind fun q7 =>
  (ck q7.2 6 q7.1).bind fun _ =>
  (s_X8_isValue q7.1 q7.2).bind fun q9 =>
  (if w32 q9.1 = 0 then
  some (.inr ((-2), q9.2))
  else
  (s_X1_tells q7.1 x3 q9.2).bind fun q12 =>
  some (.inr (q12.1, q12.2)))
theorem w_X1_value {Z : Zt} {fin : Ex ⊕ (Int × Me)} {w : Ex ⊕ (Int × Me)} (C : CX Z yX1_value cX1_value (some .int) 210 6) (X : XE Z) {a0 : Nat} {x1 : Int} {x2 : Int} {x3 : Int} {μ : Me} (h : s_X1_value a0 x1 x2 x3 μ = some w) (hK : w = fin) : WL Z (XQ Z (zoI fin) (zmI fin)) μ 0 [(0, vO a0), (1, vI x1), (2, vI x2), (3, vI x3)] [] := by
  unfold s_X1_value at h
  refine r_aload_n C 0 dX1_value_0 rfl rfl ?_
  refine r_iload_n C 1 dX1_value_1 rfl rfl ?_
  obtain ⟨u3, eu3, h⟩ := bs h
  rcases xbs h with ⟨e2, eq1, h⟩ | ⟨q1, eq1, h⟩
  · refine r_xVx C (As := [vI x1]) (b := a0) (rest := []) (μ1 := e2.2.2) (r := (RX1, TX1, 19)) (ci := 0) rfl eu3 (m_X1_signAt C.tr eq1) (lw_V q884 q886 qs17 q120 q887) rfl hdX1_signAt rfl rfl (Nat.le_of_ble_eq_true rfl) ⟨by decide, by decide⟩ dX1_value_2 ?_
    cases h
    exact r_xoutI C X hK
  · refine r_xV C (As := [vI x1]) (b := a0) (rest := []) (st1 := [vO q1.1]) (v := some (vO q1.1)) (μ1 := q1.2) (r := (RX1, TX1, 19)) (ci := 0) rfl eu3 (m_X1_signAt C.tr eq1) (lw_V q884 q886 qs17 q120 q887) rfl hdX1_signAt rfl rfl (Nat.le_of_ble_eq_true rfl) ⟨by decide, by decide⟩ dX1_value_2 rfl ?_
    refine r_astore C [(4, vO q1.1), (0, vO a0), (1, vI x1), (2, vI x2), (3, vI x3)] dX1_value_5 (by decide) rfl ?_
    refine r_aload_n C 1 dX1_value_7 rfl rfl ?_
    refine r_aload C 0 dX1_value_8 rfl ?_
    refine r_aload_n C 1 dX1_value_10 rfl rfl ?_
    refine r_iload_n C 3 dX1_value_11 rfl rfl ?_
    obtain ⟨u6, eu6, h⟩ := bs h
    rcases xbs h with ⟨e5, eq4, h⟩ | ⟨q4, eq4, h⟩
    · refine r_xVx C (As := [vI x2]) (b := a0) (rest := [vO q1.1, vO a0]) (μ1 := e5.2.2) (r := (RX1, TX1, 19)) (ci := 0) rfl eu6 (m_X1_formAt C.tr eq4) (lw_V q799 q801 qs15 q120 q802) rfl hdX1_formAt rfl rfl (Nat.le_of_ble_eq_true rfl) ⟨by decide, by decide⟩ dX1_value_12 ?_
      cases h
      exact r_xoutI C X hK
    · refine r_xV C (As := [vI x2]) (b := a0) (rest := [vO q1.1, vO a0]) (st1 := [vO q4.1, vO q1.1, vO a0]) (v := some (vO q4.1)) (μ1 := q4.2) (r := (RX1, TX1, 19)) (ci := 0) rfl eu6 (m_X1_formAt C.tr eq4) (lw_V q799 q801 qs15 q120 q802) rfl hdX1_formAt rfl rfl (Nat.le_of_ble_eq_true rfl) ⟨by decide, by decide⟩ dX1_value_12 rfl ?_
      obtain ⟨u8, eu8, h⟩ := bs h
      obtain ⟨q7, eq7, h⟩ := bs h
      refine r_callV C (As := [vO q1.1, vO q4.1]) (b := a0) (rest := []) (st1 := [vO q7.1]) (v := some (vO q7.1)) (r := (RX1, TX1, 19)) (ci := 0) rfl eu8 (m_X1_valueOf C.tr eq7) (lw_V q888 q890 qs18 q120 q891) rfl hdX1_valueOf rfl rfl (Nat.le_of_ble_eq_true rfl) ⟨by decide, by decide⟩ dX1_value_15 rfl ?_
      refine r_astore C [(5, vO q7.1), (4, vO q1.1), (0, vO a0), (1, vI x1), (2, vI x2), (3, vI x3)] dX1_value_18 (by decide) rfl ?_
      refine r_aload C 0 dX1_value_20 rfl ?_
      obtain ⟨u10, eu10, h⟩ := bs h
      obtain ⟨q9, eq9, h⟩ := bs h
      refine r_callV C (As := []) (b := q7.1) (rest := []) (st1 := [vI q9.1]) (v := some (vI q9.1)) (r := (RX8, TX8, 2)) (ci := 6) rfl eu10 (m_X8_isValue C.tr eq9) (lw_V q955 q912 q913 q130 q914) rfl hdX8_isValue rfl rfl (Nat.le_of_ble_eq_true rfl) ⟨by decide, by decide⟩ dX1_value_22 rfl ?_
      refine r_if_eq C dX1_value_25 (tgt := 37) (by decide) (fun c11 => ?_) (fun c11 => ?_)
      · have h := it_ h c11
        refine r_bipush C dX1_value_37 (by decide) ?_
        cases h
        exact r_xiret C hK dX1_value_39
      · have h := ie_ h c11
        refine r_aload C 0 dX1_value_28 rfl ?_
        refine r_iload_n C 5 dX1_value_30 rfl rfl ?_
        obtain ⟨q12, eq12, h⟩ := bs h
        refine r_callS C (As := [vO q7.1, vI x3]) (rest := []) (st1 := [vI q12.1]) (v := some (vI q12.1)) (m_X1_tells C.tr eq12) (lw_S q821 q822 q120 q823) hdX1_tells rfl rfl (Nat.le_of_ble_eq_true rfl) ⟨by decide, by decide⟩ dX1_value_31 rfl ?_
        refine r_goto C dX1_value_34 (tgt := 39) (by decide) ?_
        cases h
        exact r_xiret C hK dX1_value_39
theorem hdX1_value : zhd yX1_value 3 := by decide +kernel
theorem m_X1_value {l : Launch} {D : va_G} {b0 : Nat} (hl : l.stackTraces = false) {a0 : Nat} {x1 : Int} {x2 : Int} {x3 : Int} {μ : Me} {w : Ex ⊕ (Int × Me)} (h : s_X1_value a0 x1 x2 x3 μ = some w) : XN l D b0 yX1_value (ws_ yX1_value cX1_value 6 (some .int)) 210 [vO a0, vI x1, vI x2, vI x3] μ (zoI w) (zmI w) :=
  XN.of hl (by decide +kernel) (Nat.le_of_ble_eq_true rfl) (fun Z C X _ _ => w_X1_value C X h rfl)
noncomputable def s_X1_rank (a0 : Nat) (x1 : Int) (x2 : Int) (μ : Me) : Option (Ex ⊕ (Int × Me)) :=
  (ck μ 0 a0).bind fun _ =>
  xb (s_X1_signAt a0 x1 μ) (fun e2 => some (.inl e2)) fun q1 =>
  (s_rnk 200 q1.1 x2 q1.2).bind fun q4 =>
  some (.inr (q4.1, q4.2))
theorem w_X1_rank {Z : Zt} {fin : Ex ⊕ (Int × Me)} {w : Ex ⊕ (Int × Me)} (C : CX Z yX1_rank cX1_rank (some .int) 204 3) (X : XE Z) {a0 : Nat} {x1 : Int} {x2 : Int} {μ : Me} (h : s_X1_rank a0 x1 x2 μ = some w) (hK : w = fin) : WL Z (XQ Z (zoI fin) (zmI fin)) μ 0 [(0, vO a0), (1, vI x1), (2, vI x2)] [] := by
  unfold s_X1_rank at h
  refine r_aload_n C 0 dX1_rank_0 rfl rfl ?_
  refine r_iload_n C 1 dX1_rank_1 rfl rfl ?_
  obtain ⟨u3, eu3, h⟩ := bs h
  rcases xbs h with ⟨e2, eq1, h⟩ | ⟨q1, eq1, h⟩
  · refine r_xVx C (As := [vI x1]) (b := a0) (rest := []) (μ1 := e2.2.2) (r := (RX1, TX1, 19)) (ci := 0) rfl eu3 (m_X1_signAt C.tr eq1) (lw_V q884 q886 qs17 q120 q887) rfl hdX1_signAt rfl rfl (Nat.le_of_ble_eq_true rfl) ⟨by decide, by decide⟩ dX1_rank_2 ?_
    cases h
    exact r_xoutI C X hK
  · refine r_xV C (As := [vI x1]) (b := a0) (rest := []) (st1 := [vO q1.1]) (v := some (vO q1.1)) (μ1 := q1.2) (r := (RX1, TX1, 19)) (ci := 0) rfl eu3 (m_X1_signAt C.tr eq1) (lw_V q884 q886 qs17 q120 q887) rfl hdX1_signAt rfl rfl (Nat.le_of_ble_eq_true rfl) ⟨by decide, by decide⟩ dX1_rank_2 rfl ?_
    refine r_iload_n C 2 dX1_rank_5 rfl rfl ?_
    obtain ⟨q4, eq4, h⟩ := bs h
    refine r_callSg C (As := [vI x2]) (b := q1.1) (rest := []) (st1 := [vI q4.1]) (v := some (vI q4.1)) (μ1 := q4.2) (m_rnk C.tr 200 _ _ _ _ eq4) q963 q965 (lw_n q964 rfl) hdxSr rfl rfl (Nat.le_of_ble_eq_true rfl) ⟨by decide, by decide⟩ dX1_rank_6 rfl ?_
    cases h
    exact r_xiret C hK dX1_rank_9
theorem hdX1_rank : zhd yX1_rank 2 := by decide +kernel
theorem m_X1_rank {l : Launch} {D : va_G} {b0 : Nat} (hl : l.stackTraces = false) {a0 : Nat} {x1 : Int} {x2 : Int} {μ : Me} {w : Ex ⊕ (Int × Me)} (h : s_X1_rank a0 x1 x2 μ = some w) : XN l D b0 yX1_rank (ws_ yX1_rank cX1_rank 3 (some .int)) 204 [vO a0, vI x1, vI x2] μ (zoI w) (zmI w) :=
  XN.of hl (by decide +kernel) (Nat.le_of_ble_eq_true rfl) (fun Z C X _ _ => w_X1_rank C X h rfl)
noncomputable def s_X1_stays_b241 (a0 : Nat)  (μ : Me) : Option (Ex ⊕ (Int × Me)) :=
  (gR μ 0 a0 6).bind fun v61 =>
  (gR μ 0 a0 5).bind fun v62 =>
  (ck μ 6 v61).bind fun _ =>
  (s_X8_same v61 v62 μ).bind fun q63 =>
  (bz2 q63.1).bind fun _ =>
  some (.inr (q63.1, q63.2))
theorem w_X1_stays_b241 {Z : Zt} {fin : Ex ⊕ (Int × Me)} {w : (Ex ⊕ (Int × Me))} (C : CX Z yX1_stays cX1_stays (some .boolean) 210 10) (X : XE Z) {a0 : Nat}  {μ : Me} (h : s_X1_stays_b241 a0 μ = some w) (hK : (fun r : Ex ⊕ (Int × Me) => r = fin) w) : WL Z (XQ Z (zoI fin) (zmI fin)) μ 241 [(0, vO a0)] [] := by
  unfold s_X1_stays_b241 at h
  refine r_aload_n C 0 dX1_stays_241 rfl rfl ?_
  obtain ⟨v61, ev61, h⟩ := bs h
  refine r_getR C (c := 0) (r := (RX1, TX1, 19)) rfl 6 (by decide) rfl ev61 q434 dX1_stays_242 ?_
  refine r_aload_n C 0 dX1_stays_245 rfl rfl ?_
  obtain ⟨v62, ev62, h⟩ := bs h
  refine r_getR C (c := 0) (r := (RX1, TX1, 19)) rfl 5 (by decide) rfl ev62 q433 dX1_stays_246 ?_
  obtain ⟨u64, eu64, h⟩ := bs h
  obtain ⟨q63, eq63, h⟩ := bs h
  refine r_callV C (As := [vO v62]) (b := v61) (rest := []) (st1 := [vI q63.1]) (v := some (vI q63.1)) (r := (RX8, TX8, 2)) (ci := 6) rfl eu64 (m_X8_same C.tr eq63) (lw_V q869 q870 q871 q130 q872) rfl hdX8_same rfl rfl (Nat.le_of_ble_eq_true rfl) ⟨by decide, by decide⟩ dX1_stays_249 rfl ?_
  obtain ⟨u65, eu65, h⟩ := bs h
  cases h
  exact r_xzret C (bz2_ok eu65) hK dX1_stays_252
noncomputable def s_X1_stays_l188_st (a0 : Nat) (x8 : Int) (x9 : Int) (μ : Me) : Option ((Int × Me) ⊕ (Ex ⊕ (Int × Me))) :=
  (gR μ 0 a0 6).bind fun v58 =>
  (gI μ 6 v58 1).bind fun v59 =>
  (if w32 v59 < w32 x9 then
  (s_X1_stays_b241 a0 μ).map Sum.inr
  else
  (gR μ 0 a0 6).bind fun v66 =>
  (gR μ 6 v66 0).bind fun v67 =>
  (gR μ 0 a0 1).bind fun v68 =>
  (gR μ 4 v68 0).bind fun v69 =>
  (gR μ 0 a0 6).bind fun v70 =>
  (gR μ 6 v70 0).bind fun v71 =>
  (aI μ 101 v71 x9).bind fun v72 =>
  (ck μ 5 v69).bind fun _ =>
  (s_X7_of v69 ((w32 v72) * (w32 x8)) μ).bind fun q73 =>
  (uI q73.2 v67 x9 q73.1).bind fun m75 =>
  some (.inl ((x9 + 1), m75)))
theorem w_X1_stays_l188_st {Z : Zt} {fin : Ex ⊕ (Int × Me)} {w : ((Int × Me) ⊕ (Ex ⊕ (Int × Me)))} (C : CX Z yX1_stays cX1_stays (some .boolean) 210 10) (X : XE Z) {a0 : Nat} {x8 : Int} {x9 : Int} {μ : Me} (h : s_X1_stays_l188_st a0 x8 x9 μ = some w) (hK : (Sum.elim (fun s : Int × Me => WL Z (XQ Z (zoI fin) (zmI fin)) s.2 188 [(0, vO a0), (8, vI x8), (9, vI s.1)] []) (fun r : Ex ⊕ (Int × Me) => r = fin)) w) : WL Z (XQ Z (zoI fin) (zmI fin)) μ 188 [(0, vO a0), (8, vI x8), (9, vI x9)] [] := by
  unfold s_X1_stays_l188_st at h
  refine r_iload C 2 dX1_stays_188 rfl ?_
  refine r_aload_n C 0 dX1_stays_190 rfl rfl ?_
  obtain ⟨v58, ev58, h⟩ := bs h
  refine r_getR C (c := 0) (r := (RX1, TX1, 19)) rfl 6 (by decide) rfl ev58 q434 dX1_stays_191 ?_
  obtain ⟨v59, ev59, h⟩ := bs h
  refine r_getIN C (c := 6) (r := (RX8, TX8, 2)) rfl 1 (by decide) rfl ev59 (lw_n q309 rfl) dX1_stays_194 ?_
  refine r_icmp_gt C dX1_stays_197 (tgt := 241) (by decide) (fun c60 => ?_) (fun c60 => ?_)
  · have h := it_ h c60
    obtain ⟨z, hz, ez⟩ := ms_ h; clear h; subst ez; have h := hz; clear hz
    refine r_sub [0] rfl ?_
    exact w_X1_stays_b241 (fin := fin) C X h hK
  · have h := ie_ h c60
    refine r_aload_n C 0 dX1_stays_200 rfl rfl ?_
    obtain ⟨v66, ev66, h⟩ := bs h
    refine r_getR C (c := 0) (r := (RX1, TX1, 19)) rfl 6 (by decide) rfl ev66 q434 dX1_stays_201 ?_
    obtain ⟨v67, ev67, h⟩ := bs h
    refine r_getRN C (c := 6) (r := (RX8, TX8, 2)) rfl 0 (by decide) rfl ev67 (lw_n q304 rfl) dX1_stays_204 ?_
    refine r_iload C 2 dX1_stays_207 rfl ?_
    refine r_aload_n C 0 dX1_stays_209 rfl rfl ?_
    obtain ⟨v68, ev68, h⟩ := bs h
    refine r_getR C (c := 0) (r := (RX1, TX1, 19)) rfl 1 (by decide) rfl ev68 q422 dX1_stays_210 ?_
    obtain ⟨v69, ev69, h⟩ := bs h
    refine r_getRN C (c := 4) (r := (RX6, TX6, 6)) rfl 0 (by decide) rfl ev69 (lw_n q320 rfl) dX1_stays_213 ?_
    refine r_aload_n C 0 dX1_stays_216 rfl rfl ?_
    obtain ⟨v70, ev70, h⟩ := bs h
    refine r_getR C (c := 0) (r := (RX1, TX1, 19)) rfl 6 (by decide) rfl ev70 q434 dX1_stays_217 ?_
    obtain ⟨v71, ev71, h⟩ := bs h
    refine r_getRN C (c := 6) (r := (RX8, TX8, 2)) rfl 0 (by decide) rfl ev71 (lw_n q304 rfl) dX1_stays_220 ?_
    refine r_iload C 2 dX1_stays_223 rfl ?_
    obtain ⟨v72, ev72, h⟩ := bs h
    refine r_iald C ev72 dX1_stays_225 ?_
    refine r_i2l C dX1_stays_226 ?_
    refine r_iload C 1 dX1_stays_227 rfl ?_
    refine r_i2l C dX1_stays_229 ?_
    refine r_lmul C dX1_stays_230 ?_
    obtain ⟨u74, eu74, h⟩ := bs h
    obtain ⟨q73, eq73, h⟩ := bs h
    refine r_callV C (As := [vJ ((w32 v72) * (w32 x8))]) (b := v69) (rest := [vI x9, vO v67]) (st1 := [vI q73.1, vI x9, vO v67]) (v := some (vI q73.1)) (r := (RX7, TX7, 1)) (ci := 5) rfl eu74 (m_X7_of C.tr eq73) (lw_V q631 q632 q633 q129 q634) rfl hdX7_of rfl rfl (Nat.le_of_ble_eq_true rfl) ⟨by decide, by decide⟩ dX1_stays_231 rfl ?_
    obtain ⟨m75, em75, h⟩ := bs h
    refine r_iast C em75 dX1_stays_234 ?_
    refine r_iinc C 2 [(9, vI (x9 + 1)), (0, vO a0), (8, vI x8)] dX1_stays_235 rfl (by decide) rfl ?_
    refine r_goto C dX1_stays_238 (tgt := 188) (by decide) ?_
    cases h
    refine r_sub [1, 2, 0] rfl ?_
    exact hK
noncomputable def s_X1_stays_l188 (a0 : Nat) (x8 : Int) (x9 : Int) (μ : Me) : Option (Ex ⊕ (Int × Me)) :=
  whileO (fun s : Int × Me => s_X1_stays_l188_st a0 x8 s.1 s.2) (x9, μ)
theorem e_X1_stays_l188 (a0 : Nat) (x8 : Int) (x9 : Int) (μ : Me) : s_X1_stays_l188 a0 x8 x9 μ = (s_X1_stays_l188_st a0 x8 x9 μ).bind fun x => x.elim (fun s : Int × Me => s_X1_stays_l188 a0 x8 s.1 s.2) some := whileO_eq _ _
theorem w_X1_stays_l188 {Z : Zt} {fin : Ex ⊕ (Int × Me)} {w : (Ex ⊕ (Int × Me))} (C : CX Z yX1_stays cX1_stays (some .boolean) 210 10) (X : XE Z) {a0 : Nat} {x8 : Int} {x9 : Int} {μ : Me} (h : s_X1_stays_l188 a0 x8 x9 μ = some w) (hK : (fun r : Ex ⊕ (Int × Me) => r = fin) w) : WL Z (XQ Z (zoI fin) (zmI fin)) μ 188 [(0, vO a0), (8, vI x8), (9, vI x9)] [] := by
  refine whileO_walk (w := w) (fun s : Int × Me => WL Z (XQ Z (zoI fin) (zmI fin)) s.2 188 [(0, vO a0), (8, vI x8), (9, vI s.1)] []) (fun s v h2 hi hr => ?_) (x9, μ) h
  refine w_X1_stays_l188_st (fin := fin) C X h2 ?_
  cases v with
  | inl s2 => exact hi s2 rfl
  | inr r => have e := hr r rfl; subst e; exact hK
noncomputable def s_X1_stays (a0 : Nat) (x1 : Int) (x2 : Int) (x3 : Int) (μ : Me) : Option (Ex ⊕ (Int × Me)) :=
  (ck μ 0 a0).bind fun _ =>
  xb (s_X1_signAt a0 x1 μ) (fun e2 => some (.inl e2)) fun q1 =>
  (ck q1.2 0 a0).bind fun _ =>
  xb (s_X1_formAt a0 x2 q1.2) (fun e5 => some (.inl e5)) fun q4 =>
  (ck q4.2 0 a0).bind fun _ =>
  xb (s_X1_tableAt a0 x3 q4.2) (fun e8 => some (.inl e8)) fun q7 =>
  (gR q7.2 0 a0 1).bind fun v10 =>
  (aI q7.2 101 q7.1 0).bind fun v11 =>
  (aI q7.2 101 q7.1 1).bind fun v12 =>
  (aI q7.2 101 q7.1 2).bind fun v13 =>
  (aI q7.2 101 q7.1 3).bind fun v14 =>
  (gR q7.2 0 a0 6).bind fun v15 =>
  (ck q7.2 4 v10).bind fun _ =>
  (s_X6_mixed v10 q4.1 v11 v12 v13 v14 v15 q7.2).bind fun q16 =>
  (gR q16 0 a0 5).bind fun v18 =>
  (gR q16 0 a0 6).bind fun v19 =>
  (ck q16 0 a0).bind fun _ =>
  (s_X1_valueOf a0 q1.1 v19 q16).bind fun q20 =>
  (ck q20.2 6 v18).bind fun _ =>
  (s_X8_be v18 q20.1 q20.2).bind fun q22 =>
  (gR q22 0 a0 7).bind fun v24 =>
  (ck q22 0 a0).bind fun _ =>
  (s_X1_valueOf a0 q1.1 q4.1 q22).bind fun q25 =>
  (ck q25.2 6 v24).bind fun _ =>
  (s_X8_be v24 q25.1 q25.2).bind fun q27 =>
  (s_rnk 200 q1.1 1 q27).bind fun q29 =>
  (if w32 q29.1 = w32 (-1) then
  some (.inr (0, q29.2))
  else
  (gR q29.2 0 a0 7).bind fun v31 =>
  (ck q29.2 6 v31).bind fun _ =>
  (s_X8_isValue v31 q29.2).bind fun q32 =>
  (if w32 q32.1 = 0 then
  some (.inr (0, q32.2))
  else
  (gR q32.2 0 a0 5).bind fun v35 =>
  (ck q32.2 6 v35).bind fun _ =>
  (s_X8_isValue v35 q32.2).bind fun q36 =>
  (if w32 q36.1 = 0 then
  some (.inr (0, q36.2))
  else
  (gR q36.2 0 a0 1).bind fun v39 =>
  (gR q36.2 0 a0 7).bind fun v40 =>
  (aI q36.2 101 q7.1 0).bind fun v41 =>
  (aI q36.2 101 q7.1 1).bind fun v42 =>
  (aI q36.2 101 q7.1 2).bind fun v43 =>
  (aI q36.2 101 q7.1 3).bind fun v44 =>
  (gR q36.2 0 a0 6).bind fun v45 =>
  (ck q36.2 4 v39).bind fun _ =>
  (s_X6_mixed v39 v40 v41 v42 v43 v44 v45 q36.2).bind fun q46 =>
  (gR q46 0 a0 1).bind fun v48 =>
  (gR q46 4 v48 0).bind fun v49 =>
  (aI q46 101 q7.1 0).bind fun v50 =>
  (aI q46 101 q7.1 1).bind fun v51 =>
  (aI q46 101 q7.1 2).bind fun v52 =>
  (aI q46 101 q7.1 3).bind fun v53 =>
  (ck q46 0 a0).bind fun _ =>
  (s_X1_detOf a0 v50 v51 v52 v53 q46).bind fun q54 =>
  (ck q54.2 5 v49).bind fun _ =>
  (s_X7_power v49 q54.1 q29.1 q54.2).bind fun q56 =>
  s_X1_stays_l188 a0 q56.1 0 q56.2)))
theorem w_X1_stays {Z : Zt} {fin : Ex ⊕ (Int × Me)} {w : Ex ⊕ (Int × Me)} (C : CX Z yX1_stays cX1_stays (some .boolean) 210 10) (X : XE Z) {a0 : Nat} {x1 : Int} {x2 : Int} {x3 : Int} {μ : Me} (h : s_X1_stays a0 x1 x2 x3 μ = some w) (hK : w = fin) : WL Z (XQ Z (zoI fin) (zmI fin)) μ 0 [(0, vO a0), (1, vI x1), (2, vI x2), (3, vI x3)] [] := by
  unfold s_X1_stays at h
  refine r_aload_n C 0 dX1_stays_0 rfl rfl ?_
  refine r_iload_n C 1 dX1_stays_1 rfl rfl ?_
  obtain ⟨u3, eu3, h⟩ := bs h
  rcases xbs h with ⟨e2, eq1, h⟩ | ⟨q1, eq1, h⟩
  · refine r_xVx C (As := [vI x1]) (b := a0) (rest := []) (μ1 := e2.2.2) (r := (RX1, TX1, 19)) (ci := 0) rfl eu3 (m_X1_signAt C.tr eq1) (lw_V q884 q886 qs17 q120 q887) rfl hdX1_signAt rfl rfl (Nat.le_of_ble_eq_true rfl) ⟨by decide, by decide⟩ dX1_stays_2 ?_
    cases h
    exact r_xoutI C X hK
  · refine r_xV C (As := [vI x1]) (b := a0) (rest := []) (st1 := [vO q1.1]) (v := some (vO q1.1)) (μ1 := q1.2) (r := (RX1, TX1, 19)) (ci := 0) rfl eu3 (m_X1_signAt C.tr eq1) (lw_V q884 q886 qs17 q120 q887) rfl hdX1_signAt rfl rfl (Nat.le_of_ble_eq_true rfl) ⟨by decide, by decide⟩ dX1_stays_2 rfl ?_
    refine r_astore C [(4, vO q1.1), (0, vO a0), (1, vI x1), (2, vI x2), (3, vI x3)] dX1_stays_5 (by decide) rfl ?_
    refine r_aload_n C 1 dX1_stays_7 rfl rfl ?_
    refine r_iload_n C 3 dX1_stays_8 rfl rfl ?_
    obtain ⟨u6, eu6, h⟩ := bs h
    rcases xbs h with ⟨e5, eq4, h⟩ | ⟨q4, eq4, h⟩
    · refine r_xVx C (As := [vI x2]) (b := a0) (rest := []) (μ1 := e5.2.2) (r := (RX1, TX1, 19)) (ci := 0) rfl eu6 (m_X1_formAt C.tr eq4) (lw_V q799 q801 qs15 q120 q802) rfl hdX1_formAt rfl rfl (Nat.le_of_ble_eq_true rfl) ⟨by decide, by decide⟩ dX1_stays_9 ?_
      cases h
      exact r_xoutI C X hK
    · refine r_xV C (As := [vI x2]) (b := a0) (rest := []) (st1 := [vO q4.1]) (v := some (vO q4.1)) (μ1 := q4.2) (r := (RX1, TX1, 19)) (ci := 0) rfl eu6 (m_X1_formAt C.tr eq4) (lw_V q799 q801 qs15 q120 q802) rfl hdX1_formAt rfl rfl (Nat.le_of_ble_eq_true rfl) ⟨by decide, by decide⟩ dX1_stays_9 rfl ?_
      refine r_astore C [(5, vO q4.1), (4, vO q1.1), (0, vO a0), (1, vI x1), (2, vI x2), (3, vI x3)] dX1_stays_12 (by decide) rfl ?_
      refine r_aload_n C 2 dX1_stays_14 rfl rfl ?_
      refine r_iload_n C 5 dX1_stays_15 rfl rfl ?_
      obtain ⟨u9, eu9, h⟩ := bs h
      rcases xbs h with ⟨e8, eq7, h⟩ | ⟨q7, eq7, h⟩
      · refine r_xVx C (As := [vI x3]) (b := a0) (rest := []) (μ1 := e8.2.2) (r := (RX1, TX1, 19)) (ci := 0) rfl eu9 (m_X1_tableAt C.tr eq7) (lw_V q848 q850 qs16 q120 q851) rfl hdX1_tableAt rfl rfl (Nat.le_of_ble_eq_true rfl) ⟨by decide, by decide⟩ dX1_stays_16 ?_
        cases h
        exact r_xoutI C X hK
      · refine r_xV C (As := [vI x3]) (b := a0) (rest := []) (st1 := [vO q7.1]) (v := some (vO q7.1)) (μ1 := q7.2) (r := (RX1, TX1, 19)) (ci := 0) rfl eu9 (m_X1_tableAt C.tr eq7) (lw_V q848 q850 qs16 q120 q851) rfl hdX1_tableAt rfl rfl (Nat.le_of_ble_eq_true rfl) ⟨by decide, by decide⟩ dX1_stays_16 rfl ?_
        refine r_astore C [(6, vO q7.1), (5, vO q4.1), (4, vO q1.1), (0, vO a0), (1, vI x1), (2, vI x2), (3, vI x3)] dX1_stays_19 (by decide) rfl ?_
        refine r_aload_n C 3 dX1_stays_21 rfl rfl ?_
        obtain ⟨v10, ev10, h⟩ := bs h
        refine r_getR C (c := 0) (r := (RX1, TX1, 19)) rfl 1 (by decide) rfl ev10 q422 dX1_stays_22 ?_
        refine r_aload C 1 dX1_stays_25 rfl ?_
        refine r_aload C 0 dX1_stays_27 rfl ?_
        refine r_iconst C dX1_stays_29 ?_
        obtain ⟨v11, ev11, h⟩ := bs h
        refine r_iald C ev11 dX1_stays_30 ?_
        refine r_aload C 0 dX1_stays_31 rfl ?_
        refine r_iconst C dX1_stays_33 ?_
        obtain ⟨v12, ev12, h⟩ := bs h
        refine r_iald C ev12 dX1_stays_34 ?_
        refine r_aload C 0 dX1_stays_35 rfl ?_
        refine r_iconst C dX1_stays_37 ?_
        obtain ⟨v13, ev13, h⟩ := bs h
        refine r_iald C ev13 dX1_stays_38 ?_
        refine r_aload C 0 dX1_stays_39 rfl ?_
        refine r_iconst C dX1_stays_41 ?_
        obtain ⟨v14, ev14, h⟩ := bs h
        refine r_iald C ev14 dX1_stays_42 ?_
        refine r_aload_n C 3 dX1_stays_43 rfl rfl ?_
        obtain ⟨v15, ev15, h⟩ := bs h
        refine r_getR C (c := 0) (r := (RX1, TX1, 19)) rfl 6 (by decide) rfl ev15 q434 dX1_stays_44 ?_
        obtain ⟨u17, eu17, h⟩ := bs h
        obtain ⟨q16, eq16, h⟩ := bs h
        refine r_callV C (As := [vO q4.1, vI v11, vI v12, vI v13, vI v14, vO v15]) (b := v10) (rest := []) (st1 := []) (v := none) (r := (RX6, TX6, 6)) (ci := 4) rfl eu17 (m_X6_mixed C.tr eq16) (lw_V q859 q860 q861 q128 q862) rfl hdX6_mixed rfl rfl (Nat.le_of_ble_eq_true rfl) ⟨by decide, by decide⟩ dX1_stays_47 rfl ?_
        refine r_aload_n C 3 dX1_stays_50 rfl rfl ?_
        obtain ⟨v18, ev18, h⟩ := bs h
        refine r_getR C (c := 0) (r := (RX1, TX1, 19)) rfl 5 (by decide) rfl ev18 q433 dX1_stays_51 ?_
        refine r_aload_n C 3 dX1_stays_54 rfl rfl ?_
        refine r_aload C 2 dX1_stays_55 rfl ?_
        refine r_aload_n C 3 dX1_stays_57 rfl rfl ?_
        obtain ⟨v19, ev19, h⟩ := bs h
        refine r_getR C (c := 0) (r := (RX1, TX1, 19)) rfl 6 (by decide) rfl ev19 q434 dX1_stays_58 ?_
        obtain ⟨u21, eu21, h⟩ := bs h
        obtain ⟨q20, eq20, h⟩ := bs h
        refine r_callV C (As := [vO q1.1, vO v19]) (b := a0) (rest := [vO v18]) (st1 := [vO q20.1, vO v18]) (v := some (vO q20.1)) (r := (RX1, TX1, 19)) (ci := 0) rfl eu21 (m_X1_valueOf C.tr eq20) (lw_V q888 q890 qs18 q120 q891) rfl hdX1_valueOf rfl rfl (Nat.le_of_ble_eq_true rfl) ⟨by decide, by decide⟩ dX1_stays_61 rfl ?_
        obtain ⟨u23, eu23, h⟩ := bs h
        obtain ⟨q22, eq22, h⟩ := bs h
        refine r_callV C (As := [vO q20.1]) (b := v18) (rest := []) (st1 := []) (v := none) (r := (RX8, TX8, 2)) (ci := 6) rfl eu23 (m_X8_be C.tr eq22) (lw_V q510 q511 q512 q130 q513) rfl hdX8_be rfl rfl (Nat.le_of_ble_eq_true rfl) ⟨by decide, by decide⟩ dX1_stays_64 rfl ?_
        refine r_aload_n C 3 dX1_stays_67 rfl rfl ?_
        obtain ⟨v24, ev24, h⟩ := bs h
        refine r_getR C (c := 0) (r := (RX1, TX1, 19)) rfl 7 (by decide) rfl ev24 q435 dX1_stays_68 ?_
        refine r_aload_n C 3 dX1_stays_71 rfl rfl ?_
        refine r_aload C 2 dX1_stays_72 rfl ?_
        refine r_aload C 1 dX1_stays_74 rfl ?_
        obtain ⟨u26, eu26, h⟩ := bs h
        obtain ⟨q25, eq25, h⟩ := bs h
        refine r_callV C (As := [vO q1.1, vO q4.1]) (b := a0) (rest := [vO v24]) (st1 := [vO q25.1, vO v24]) (v := some (vO q25.1)) (r := (RX1, TX1, 19)) (ci := 0) rfl eu26 (m_X1_valueOf C.tr eq25) (lw_V q888 q890 qs18 q120 q891) rfl hdX1_valueOf rfl rfl (Nat.le_of_ble_eq_true rfl) ⟨by decide, by decide⟩ dX1_stays_76 rfl ?_
        obtain ⟨u28, eu28, h⟩ := bs h
        obtain ⟨q27, eq27, h⟩ := bs h
        refine r_callV C (As := [vO q25.1]) (b := v24) (rest := []) (st1 := []) (v := none) (r := (RX8, TX8, 2)) (ci := 6) rfl eu28 (m_X8_be C.tr eq27) (lw_V q510 q511 q512 q130 q513) rfl hdX8_be rfl rfl (Nat.le_of_ble_eq_true rfl) ⟨by decide, by decide⟩ dX1_stays_79 rfl ?_
        refine r_aload C 2 dX1_stays_82 rfl ?_
        refine r_iconst C dX1_stays_84 ?_
        obtain ⟨q29, eq29, h⟩ := bs h
        refine r_callSg C (As := [vI 1]) (b := q1.1) (rest := []) (st1 := [vI q29.1]) (v := some (vI q29.1)) (μ1 := q29.2) (m_rnk C.tr 200 _ _ _ _ eq29) q963 q965 (lw_n q964 rfl) hdxSr rfl rfl (Nat.le_of_ble_eq_true rfl) ⟨by decide, by decide⟩ dX1_stays_85 rfl ?_
        refine r_istore C [(7, vI q29.1), (6, vO q7.1), (5, vO q4.1), (4, vO q1.1), (0, vO a0), (1, vI x1), (2, vI x2), (3, vI x3)] dX1_stays_88 (by decide) rfl ?_
        refine r_iload C 0 dX1_stays_90 rfl ?_
        refine r_iconst C dX1_stays_92 ?_
        refine r_icmp_ne C dX1_stays_93 (tgt := 98) (by decide) (fun c30 => ?_) (fun c30 => ?_)
        · have h := ie_ h c30
          refine r_aload_n C 4 dX1_stays_98 rfl rfl ?_
          obtain ⟨v31, ev31, h⟩ := bs h
          refine r_getR C (c := 0) (r := (RX1, TX1, 19)) rfl 7 (by decide) rfl ev31 q435 dX1_stays_99 ?_
          obtain ⟨u33, eu33, h⟩ := bs h
          obtain ⟨q32, eq32, h⟩ := bs h
          refine r_callV C (As := []) (b := v31) (rest := []) (st1 := [vI q32.1]) (v := some (vI q32.1)) (r := (RX8, TX8, 2)) (ci := 6) rfl eu33 (m_X8_isValue C.tr eq32) (lw_V q955 q912 q913 q130 q914) rfl hdX8_isValue rfl rfl (Nat.le_of_ble_eq_true rfl) ⟨by decide, by decide⟩ dX1_stays_102 rfl ?_
          refine r_if_eq C dX1_stays_105 (tgt := 118) (by decide) (fun c34 => ?_) (fun c34 => ?_)
          · have h := it_ h c34
            refine r_iconst C dX1_stays_118 ?_
            cases h
            exact r_xzret C (Or.inl rfl) hK dX1_stays_119
          · have h := ie_ h c34
            refine r_aload_n C 4 dX1_stays_108 rfl rfl ?_
            obtain ⟨v35, ev35, h⟩ := bs h
            refine r_getR C (c := 0) (r := (RX1, TX1, 19)) rfl 5 (by decide) rfl ev35 q433 dX1_stays_109 ?_
            obtain ⟨u37, eu37, h⟩ := bs h
            obtain ⟨q36, eq36, h⟩ := bs h
            refine r_callV C (As := []) (b := v35) (rest := []) (st1 := [vI q36.1]) (v := some (vI q36.1)) (r := (RX8, TX8, 2)) (ci := 6) rfl eu37 (m_X8_isValue C.tr eq36) (lw_V q955 q912 q913 q130 q914) rfl hdX8_isValue rfl rfl (Nat.le_of_ble_eq_true rfl) ⟨by decide, by decide⟩ dX1_stays_112 rfl ?_
            refine r_if_ne C dX1_stays_115 (tgt := 120) (by decide) (fun c38 => ?_) (fun c38 => ?_)
            · have h := ie_ h c38
              refine r_aload_n C 4 dX1_stays_120 rfl rfl ?_
              obtain ⟨v39, ev39, h⟩ := bs h
              refine r_getR C (c := 0) (r := (RX1, TX1, 19)) rfl 1 (by decide) rfl ev39 q422 dX1_stays_121 ?_
              refine r_aload_n C 4 dX1_stays_124 rfl rfl ?_
              obtain ⟨v40, ev40, h⟩ := bs h
              refine r_getR C (c := 0) (r := (RX1, TX1, 19)) rfl 7 (by decide) rfl ev40 q435 dX1_stays_125 ?_
              refine r_aload C 1 dX1_stays_128 rfl ?_
              refine r_iconst C dX1_stays_130 ?_
              obtain ⟨v41, ev41, h⟩ := bs h
              refine r_iald C ev41 dX1_stays_131 ?_
              refine r_aload C 1 dX1_stays_132 rfl ?_
              refine r_iconst C dX1_stays_134 ?_
              obtain ⟨v42, ev42, h⟩ := bs h
              refine r_iald C ev42 dX1_stays_135 ?_
              refine r_aload C 1 dX1_stays_136 rfl ?_
              refine r_iconst C dX1_stays_138 ?_
              obtain ⟨v43, ev43, h⟩ := bs h
              refine r_iald C ev43 dX1_stays_139 ?_
              refine r_aload C 1 dX1_stays_140 rfl ?_
              refine r_iconst C dX1_stays_142 ?_
              obtain ⟨v44, ev44, h⟩ := bs h
              refine r_iald C ev44 dX1_stays_143 ?_
              refine r_aload_n C 4 dX1_stays_144 rfl rfl ?_
              obtain ⟨v45, ev45, h⟩ := bs h
              refine r_getR C (c := 0) (r := (RX1, TX1, 19)) rfl 6 (by decide) rfl ev45 q434 dX1_stays_145 ?_
              obtain ⟨u47, eu47, h⟩ := bs h
              obtain ⟨q46, eq46, h⟩ := bs h
              refine r_callV C (As := [vO v40, vI v41, vI v42, vI v43, vI v44, vO v45]) (b := v39) (rest := []) (st1 := []) (v := none) (r := (RX6, TX6, 6)) (ci := 4) rfl eu47 (m_X6_mixed C.tr eq46) (lw_V q859 q860 q861 q128 q862) rfl hdX6_mixed rfl rfl (Nat.le_of_ble_eq_true rfl) ⟨by decide, by decide⟩ dX1_stays_148 rfl ?_
              refine r_aload_n C 4 dX1_stays_151 rfl rfl ?_
              obtain ⟨v48, ev48, h⟩ := bs h
              refine r_getR C (c := 0) (r := (RX1, TX1, 19)) rfl 1 (by decide) rfl ev48 q422 dX1_stays_152 ?_
              obtain ⟨v49, ev49, h⟩ := bs h
              refine r_getRN C (c := 4) (r := (RX6, TX6, 6)) rfl 0 (by decide) rfl ev49 (lw_n q320 rfl) dX1_stays_155 ?_
              refine r_aload_n C 4 dX1_stays_158 rfl rfl ?_
              refine r_aload C 1 dX1_stays_159 rfl ?_
              refine r_iconst C dX1_stays_161 ?_
              obtain ⟨v50, ev50, h⟩ := bs h
              refine r_iald C ev50 dX1_stays_162 ?_
              refine r_aload C 1 dX1_stays_163 rfl ?_
              refine r_iconst C dX1_stays_165 ?_
              obtain ⟨v51, ev51, h⟩ := bs h
              refine r_iald C ev51 dX1_stays_166 ?_
              refine r_aload C 1 dX1_stays_167 rfl ?_
              refine r_iconst C dX1_stays_169 ?_
              obtain ⟨v52, ev52, h⟩ := bs h
              refine r_iald C ev52 dX1_stays_170 ?_
              refine r_aload C 1 dX1_stays_171 rfl ?_
              refine r_iconst C dX1_stays_173 ?_
              obtain ⟨v53, ev53, h⟩ := bs h
              refine r_iald C ev53 dX1_stays_174 ?_
              obtain ⟨u55, eu55, h⟩ := bs h
              obtain ⟨q54, eq54, h⟩ := bs h
              refine r_callV C (As := [vI v50, vI v51, vI v52, vI v53]) (b := a0) (rest := [vO v49]) (st1 := [vI q54.1, vO v49]) (v := some (vI q54.1)) (r := (RX1, TX1, 19)) (ci := 0) rfl eu55 (m_X1_detOf C.tr eq54) (lw_V q642 q644 qs3 q120 q645) rfl hdX1_detOf rfl rfl (Nat.le_of_ble_eq_true rfl) ⟨by decide, by decide⟩ dX1_stays_175 rfl ?_
              refine r_iload C 0 dX1_stays_178 rfl ?_
              obtain ⟨u57, eu57, h⟩ := bs h
              obtain ⟨q56, eq56, h⟩ := bs h
              refine r_callV C (As := [vI q54.1, vI q29.1]) (b := v49) (rest := []) (st1 := [vI q56.1]) (v := some (vI q56.1)) (r := (RX7, TX7, 1)) (ci := 5) rfl eu57 (m_X7_power C.tr eq56) (lw_V q1001 q836 q837 q129 q838) rfl hdX7_power rfl rfl (Nat.le_of_ble_eq_true rfl) ⟨by decide, by decide⟩ dX1_stays_180 rfl ?_
              refine r_istore C [(8, vI q56.1), (7, vI q29.1), (6, vO q7.1), (5, vO q4.1), (4, vO q1.1), (0, vO a0), (1, vI x1), (2, vI x2), (3, vI x3)] dX1_stays_183 (by decide) rfl ?_
              refine r_iconst C dX1_stays_185 ?_
              refine r_istore C [(9, vI 0), (8, vI q56.1), (7, vI q29.1), (6, vO q7.1), (5, vO q4.1), (4, vO q1.1), (0, vO a0), (1, vI x1), (2, vI x2), (3, vI x3)] dX1_stays_186 (by decide) rfl ?_
              refine r_sub [6, 1, 0] rfl ?_
              exact w_X1_stays_l188 (fin := fin) C X h hK
            · have h := it_ h c38
              refine r_iconst C dX1_stays_118 ?_
              cases h
              exact r_xzret C (Or.inl rfl) hK dX1_stays_119
        · have h := it_ h c30
          refine r_iconst C dX1_stays_96 ?_
          cases h
          exact r_xzret C (Or.inl rfl) hK dX1_stays_97
theorem hdX1_stays : zhd yX1_stays 3 := by decide +kernel
theorem m_X1_stays {l : Launch} {D : va_G} {b0 : Nat} (hl : l.stackTraces = false) {a0 : Nat} {x1 : Int} {x2 : Int} {x3 : Int} {μ : Me} {w : Ex ⊕ (Int × Me)} (h : s_X1_stays a0 x1 x2 x3 μ = some w) : XN l D b0 yX1_stays (ws_ yX1_stays cX1_stays 10 (some .boolean)) 210 [vO a0, vI x1, vI x2, vI x3] μ (zoI w) (zmI w) :=
  XN.of hl (by decide +kernel) (Nat.le_of_ble_eq_true rfl) (fun Z C X _ _ => w_X1_stays C X h rfl)
noncomputable def s_X1_agree_l29_st (a0 : Nat) (x3 : Int) (a4 : Nat) (a5 : Nat) (x6 : Int) (μ : Me) : Option ((Int × Me) ⊕ (Ex ⊕ (Int × Me))) :=
  (gR μ 0 a0 2).bind fun v10 =>
  (gI μ 7 v10 5).bind fun v11 =>
  (if w32 v11 ≤ w32 x6 then
  some (.inr (.inr ((-1), μ)))
  else
  (gR μ 0 a0 2).bind fun v13 =>
  (gR μ 7 v13 0).bind fun v14 =>
  (aR μ 104 v14 x6).bind fun v15 =>
  (gI μ 6 v15 1).bind fun v16 =>
  (if w32 v16 = w32 x3 then
  (gR μ 0 a0 5).bind fun v18 =>
  (gR μ 0 a0 2).bind fun v19 =>
  (gR μ 7 v19 0).bind fun v20 =>
  (aR μ 104 v20 x6).bind fun v21 =>
  (ck μ 0 a0).bind fun _ =>
  (s_X1_valueOf a0 a4 v21 μ).bind fun q22 =>
  (ck q22.2 6 v18).bind fun _ =>
  (s_X8_be v18 q22.1 q22.2).bind fun q24 =>
  (gR q24 0 a0 5).bind fun v26 =>
  (gR q24 0 a0 2).bind fun v27 =>
  (gR q24 7 v27 0).bind fun v28 =>
  (aR q24 104 v28 x6).bind fun v29 =>
  (ck q24 0 a0).bind fun _ =>
  (s_X1_valueOf a0 a5 v29 q24).bind fun q30 =>
  (ck q30.2 6 v26).bind fun _ =>
  (s_X8_same v26 q30.1 q30.2).bind fun q32 =>
  (if w32 q32.1 = 0 then
  some (.inr (.inr (x6, q32.2)))
  else
  some (.inl ((x6 + 1), q32.2)))
  else
  some (.inl ((x6 + 1), μ))))
theorem w_X1_agree_l29_st {Z : Zt} {fin : Ex ⊕ (Int × Me)} {w : ((Int × Me) ⊕ (Ex ⊕ (Int × Me)))} (C : CX Z yX1_agree cX1_agree (some .int) 210 7) (X : XE Z) {a0 : Nat} {x3 : Int} {a4 : Nat} {a5 : Nat} {x6 : Int} {μ : Me} (h : s_X1_agree_l29_st a0 x3 a4 a5 x6 μ = some w) (hK : (Sum.elim (fun s : Int × Me => WL Z (XQ Z (zoI fin) (zmI fin)) s.2 29 [(0, vO a0), (3, vI x3), (4, vO a4), (5, vO a5), (6, vI s.1)] []) (fun r : Ex ⊕ (Int × Me) => r = fin)) w) : WL Z (XQ Z (zoI fin) (zmI fin)) μ 29 [(0, vO a0), (3, vI x3), (4, vO a4), (5, vO a5), (6, vI x6)] [] := by
  unfold s_X1_agree_l29_st at h
  refine r_iload C 4 dX1_agree_29 rfl ?_
  refine r_aload_n C 0 dX1_agree_31 rfl rfl ?_
  obtain ⟨v10, ev10, h⟩ := bs h
  refine r_getR C (c := 0) (r := (RX1, TX1, 19)) rfl 2 (by decide) rfl ev10 q426 dX1_agree_32 ?_
  obtain ⟨v11, ev11, h⟩ := bs h
  refine r_getIN C (c := 7) (r := (RX9, TX9, 10)) rfl 5 (by decide) rfl ev11 (lw_n q388 rfl) dX1_agree_35 ?_
  refine r_icmp_ge C dX1_agree_38 (tgt := 119) (by decide) (fun c12 => ?_) (fun c12 => ?_)
  · have h := it_ h c12
    refine r_iconst C dX1_agree_119 ?_
    cases h
    exact r_xiret C hK dX1_agree_120
  · have h := ie_ h c12
    refine r_aload_n C 0 dX1_agree_41 rfl rfl ?_
    obtain ⟨v13, ev13, h⟩ := bs h
    refine r_getR C (c := 0) (r := (RX1, TX1, 19)) rfl 2 (by decide) rfl ev13 q426 dX1_agree_42 ?_
    obtain ⟨v14, ev14, h⟩ := bs h
    refine r_getRN C (c := 7) (r := (RX9, TX9, 10)) rfl 0 (by decide) rfl ev14 (lw_n q378 rfl) dX1_agree_45 ?_
    refine r_iload C 4 dX1_agree_48 rfl ?_
    obtain ⟨v15, ev15, h⟩ := bs h
    refine r_aald C (kt := 3) ev15 rfl rfl ⟨by decide, by decide⟩ dX1_agree_50 ?_
    obtain ⟨v16, ev16, h⟩ := bs h
    refine r_getIN C (c := 6) (r := (RX8, TX8, 2)) rfl 1 (by decide) rfl ev16 (lw_n q309 rfl) dX1_agree_51 ?_
    refine r_iload_n C 1 dX1_agree_54 rfl rfl ?_
    refine r_icmp_eq C dX1_agree_55 (tgt := 61) (by decide) (fun c17 => ?_) (fun c17 => ?_)
    · have h := it_ h c17
      refine r_aload_n C 0 dX1_agree_61 rfl rfl ?_
      obtain ⟨v18, ev18, h⟩ := bs h
      refine r_getR C (c := 0) (r := (RX1, TX1, 19)) rfl 5 (by decide) rfl ev18 q433 dX1_agree_62 ?_
      refine r_aload_n C 0 dX1_agree_65 rfl rfl ?_
      refine r_aload C 2 dX1_agree_66 rfl ?_
      refine r_aload_n C 0 dX1_agree_68 rfl rfl ?_
      obtain ⟨v19, ev19, h⟩ := bs h
      refine r_getR C (c := 0) (r := (RX1, TX1, 19)) rfl 2 (by decide) rfl ev19 q426 dX1_agree_69 ?_
      obtain ⟨v20, ev20, h⟩ := bs h
      refine r_getRN C (c := 7) (r := (RX9, TX9, 10)) rfl 0 (by decide) rfl ev20 (lw_n q378 rfl) dX1_agree_72 ?_
      refine r_iload C 4 dX1_agree_75 rfl ?_
      obtain ⟨v21, ev21, h⟩ := bs h
      refine r_aald C (kt := 3) ev21 rfl rfl ⟨by decide, by decide⟩ dX1_agree_77 ?_
      obtain ⟨u23, eu23, h⟩ := bs h
      obtain ⟨q22, eq22, h⟩ := bs h
      refine r_callV C (As := [vO a4, vO v21]) (b := a0) (rest := [vO v18]) (st1 := [vO q22.1, vO v18]) (v := some (vO q22.1)) (r := (RX1, TX1, 19)) (ci := 0) rfl eu23 (m_X1_valueOf C.tr eq22) (lw_V q888 q890 qs18 q120 q891) rfl hdX1_valueOf rfl rfl (Nat.le_of_ble_eq_true rfl) ⟨by decide, by decide⟩ dX1_agree_78 rfl ?_
      obtain ⟨u25, eu25, h⟩ := bs h
      obtain ⟨q24, eq24, h⟩ := bs h
      refine r_callV C (As := [vO q22.1]) (b := v18) (rest := []) (st1 := []) (v := none) (r := (RX8, TX8, 2)) (ci := 6) rfl eu25 (m_X8_be C.tr eq24) (lw_V q510 q511 q512 q130 q513) rfl hdX8_be rfl rfl (Nat.le_of_ble_eq_true rfl) ⟨by decide, by decide⟩ dX1_agree_81 rfl ?_
      refine r_aload_n C 0 dX1_agree_84 rfl rfl ?_
      obtain ⟨v26, ev26, h⟩ := bs h
      refine r_getR C (c := 0) (r := (RX1, TX1, 19)) rfl 5 (by decide) rfl ev26 q433 dX1_agree_85 ?_
      refine r_aload_n C 0 dX1_agree_88 rfl rfl ?_
      refine r_aload C 3 dX1_agree_89 rfl ?_
      refine r_aload_n C 0 dX1_agree_91 rfl rfl ?_
      obtain ⟨v27, ev27, h⟩ := bs h
      refine r_getR C (c := 0) (r := (RX1, TX1, 19)) rfl 2 (by decide) rfl ev27 q426 dX1_agree_92 ?_
      obtain ⟨v28, ev28, h⟩ := bs h
      refine r_getRN C (c := 7) (r := (RX9, TX9, 10)) rfl 0 (by decide) rfl ev28 (lw_n q378 rfl) dX1_agree_95 ?_
      refine r_iload C 4 dX1_agree_98 rfl ?_
      obtain ⟨v29, ev29, h⟩ := bs h
      refine r_aald C (kt := 3) ev29 rfl rfl ⟨by decide, by decide⟩ dX1_agree_100 ?_
      obtain ⟨u31, eu31, h⟩ := bs h
      obtain ⟨q30, eq30, h⟩ := bs h
      refine r_callV C (As := [vO a5, vO v29]) (b := a0) (rest := [vO v26]) (st1 := [vO q30.1, vO v26]) (v := some (vO q30.1)) (r := (RX1, TX1, 19)) (ci := 0) rfl eu31 (m_X1_valueOf C.tr eq30) (lw_V q888 q890 qs18 q120 q891) rfl hdX1_valueOf rfl rfl (Nat.le_of_ble_eq_true rfl) ⟨by decide, by decide⟩ dX1_agree_101 rfl ?_
      obtain ⟨u33, eu33, h⟩ := bs h
      obtain ⟨q32, eq32, h⟩ := bs h
      refine r_callV C (As := [vO q30.1]) (b := v26) (rest := []) (st1 := [vI q32.1]) (v := some (vI q32.1)) (r := (RX8, TX8, 2)) (ci := 6) rfl eu33 (m_X8_same C.tr eq32) (lw_V q869 q870 q871 q130 q872) rfl hdX8_same rfl rfl (Nat.le_of_ble_eq_true rfl) ⟨by decide, by decide⟩ dX1_agree_104 rfl ?_
      refine r_if_ne C dX1_agree_107 (tgt := 113) (by decide) (fun c34 => ?_) (fun c34 => ?_)
      · have h := ie_ h c34
        refine r_iinc C 4 [(6, vI (x6 + 1)), (0, vO a0), (3, vI x3), (4, vO a4), (5, vO a5)] dX1_agree_113 rfl (by decide) rfl ?_
        refine r_goto C dX1_agree_116 (tgt := 29) (by decide) ?_
        cases h
        refine r_sub [1, 2, 3, 4, 0] rfl ?_
        exact hK
      · have h := it_ h c34
        refine r_iload C 4 dX1_agree_110 rfl ?_
        cases h
        exact r_xiret C hK dX1_agree_112
    · have h := ie_ h c17
      refine r_goto C dX1_agree_58 (tgt := 113) (by decide) ?_
      refine r_iinc C 4 [(6, vI (x6 + 1)), (0, vO a0), (3, vI x3), (4, vO a4), (5, vO a5)] dX1_agree_113 rfl (by decide) rfl ?_
      refine r_goto C dX1_agree_116 (tgt := 29) (by decide) ?_
      cases h
      refine r_sub [1, 2, 3, 4, 0] rfl ?_
      exact hK
noncomputable def s_X1_agree_l29 (a0 : Nat) (x3 : Int) (a4 : Nat) (a5 : Nat) (x6 : Int) (μ : Me) : Option (Ex ⊕ (Int × Me)) :=
  whileO (fun s : Int × Me => s_X1_agree_l29_st a0 x3 a4 a5 s.1 s.2) (x6, μ)
theorem e_X1_agree_l29 (a0 : Nat) (x3 : Int) (a4 : Nat) (a5 : Nat) (x6 : Int) (μ : Me) : s_X1_agree_l29 a0 x3 a4 a5 x6 μ = (s_X1_agree_l29_st a0 x3 a4 a5 x6 μ).bind fun x => x.elim (fun s : Int × Me => s_X1_agree_l29 a0 x3 a4 a5 s.1 s.2) some := whileO_eq _ _
theorem w_X1_agree_l29 {Z : Zt} {fin : Ex ⊕ (Int × Me)} {w : (Ex ⊕ (Int × Me))} (C : CX Z yX1_agree cX1_agree (some .int) 210 7) (X : XE Z) {a0 : Nat} {x3 : Int} {a4 : Nat} {a5 : Nat} {x6 : Int} {μ : Me} (h : s_X1_agree_l29 a0 x3 a4 a5 x6 μ = some w) (hK : (fun r : Ex ⊕ (Int × Me) => r = fin) w) : WL Z (XQ Z (zoI fin) (zmI fin)) μ 29 [(0, vO a0), (3, vI x3), (4, vO a4), (5, vO a5), (6, vI x6)] [] := by
  refine whileO_walk (w := w) (fun s : Int × Me => WL Z (XQ Z (zoI fin) (zmI fin)) s.2 29 [(0, vO a0), (3, vI x3), (4, vO a4), (5, vO a5), (6, vI s.1)] []) (fun s v h2 hi hr => ?_) (x6, μ) h
  refine w_X1_agree_l29_st (fin := fin) C X h2 ?_
  cases v with
  | inl s2 => exact hi s2 rfl
  | inr r => have e := hr r rfl; subst e; exact hK
noncomputable def s_X1_agree (a0 : Nat) (x1 : Int) (x2 : Int) (x3 : Int) (μ : Me) : Option (Ex ⊕ (Int × Me)) :=
  (ck μ 0 a0).bind fun _ =>
  xb (s_X1_signAt a0 x1 μ) (fun e2 => some (.inl e2)) fun q1 =>
  (ck q1.2 0 a0).bind fun _ =>
  xb (s_X1_signAt a0 x2 q1.2) (fun e5 => some (.inl e5)) fun q4 =>
  (s_X1_isIn (w32 x3) 0 8 q4.2).bind fun q7 =>
  xb (s_X1_must q7.1 q7.2) (fun e9 => some (.inl e9)) fun q8 =>
  s_X1_agree_l29 a0 x3 q1.1 q4.1 0 q8
theorem w_X1_agree {Z : Zt} {fin : Ex ⊕ (Int × Me)} {w : Ex ⊕ (Int × Me)} (C : CX Z yX1_agree cX1_agree (some .int) 210 7) (X : XE Z) {a0 : Nat} {x1 : Int} {x2 : Int} {x3 : Int} {μ : Me} (h : s_X1_agree a0 x1 x2 x3 μ = some w) (hK : w = fin) : WL Z (XQ Z (zoI fin) (zmI fin)) μ 0 [(0, vO a0), (1, vI x1), (2, vI x2), (3, vI x3)] [] := by
  unfold s_X1_agree at h
  refine r_aload_n C 0 dX1_agree_0 rfl rfl ?_
  refine r_iload_n C 1 dX1_agree_1 rfl rfl ?_
  obtain ⟨u3, eu3, h⟩ := bs h
  rcases xbs h with ⟨e2, eq1, h⟩ | ⟨q1, eq1, h⟩
  · refine r_xVx C (As := [vI x1]) (b := a0) (rest := []) (μ1 := e2.2.2) (r := (RX1, TX1, 19)) (ci := 0) rfl eu3 (m_X1_signAt C.tr eq1) (lw_V q884 q886 qs17 q120 q887) rfl hdX1_signAt rfl rfl (Nat.le_of_ble_eq_true rfl) ⟨by decide, by decide⟩ dX1_agree_2 ?_
    cases h
    exact r_xoutI C X hK
  · refine r_xV C (As := [vI x1]) (b := a0) (rest := []) (st1 := [vO q1.1]) (v := some (vO q1.1)) (μ1 := q1.2) (r := (RX1, TX1, 19)) (ci := 0) rfl eu3 (m_X1_signAt C.tr eq1) (lw_V q884 q886 qs17 q120 q887) rfl hdX1_signAt rfl rfl (Nat.le_of_ble_eq_true rfl) ⟨by decide, by decide⟩ dX1_agree_2 rfl ?_
    refine r_astore C [(4, vO q1.1), (0, vO a0), (1, vI x1), (2, vI x2), (3, vI x3)] dX1_agree_5 (by decide) rfl ?_
    refine r_aload_n C 1 dX1_agree_7 rfl rfl ?_
    refine r_iload_n C 3 dX1_agree_8 rfl rfl ?_
    obtain ⟨u6, eu6, h⟩ := bs h
    rcases xbs h with ⟨e5, eq4, h⟩ | ⟨q4, eq4, h⟩
    · refine r_xVx C (As := [vI x2]) (b := a0) (rest := []) (μ1 := e5.2.2) (r := (RX1, TX1, 19)) (ci := 0) rfl eu6 (m_X1_signAt C.tr eq4) (lw_V q884 q886 qs17 q120 q887) rfl hdX1_signAt rfl rfl (Nat.le_of_ble_eq_true rfl) ⟨by decide, by decide⟩ dX1_agree_9 ?_
      cases h
      exact r_xoutI C X hK
    · refine r_xV C (As := [vI x2]) (b := a0) (rest := []) (st1 := [vO q4.1]) (v := some (vO q4.1)) (μ1 := q4.2) (r := (RX1, TX1, 19)) (ci := 0) rfl eu6 (m_X1_signAt C.tr eq4) (lw_V q884 q886 qs17 q120 q887) rfl hdX1_signAt rfl rfl (Nat.le_of_ble_eq_true rfl) ⟨by decide, by decide⟩ dX1_agree_9 rfl ?_
      refine r_astore C [(5, vO q4.1), (4, vO q1.1), (0, vO a0), (1, vI x1), (2, vI x2), (3, vI x3)] dX1_agree_12 (by decide) rfl ?_
      refine r_iload_n C 5 dX1_agree_14 rfl rfl ?_
      refine r_i2l C dX1_agree_15 ?_
      refine r_lconst (v := 0) C dX1_agree_16 (by decide) ?_
      refine r_ldc2 (n := 8) C q1009 dX1_agree_17 (by decide) ?_
      obtain ⟨q7, eq7, h⟩ := bs h
      refine r_callS C (As := [vJ (w32 x3), vJ 0, vJ 8]) (rest := []) (st1 := [vI q7.1]) (v := some (vI q7.1)) (m_X1_isIn C.tr eq7) (lw_S q499 q500 q120 q501) hdX1_isIn rfl rfl (Nat.le_of_ble_eq_true rfl) ⟨by decide, by decide⟩ dX1_agree_20 rfl ?_
      rcases xbs h with ⟨e9, eq8, h⟩ | ⟨q8, eq8, h⟩
      · refine r_xSx C (As := [vI q7.1]) (rest := []) (μ1 := e9.2.2) (m_X1_must C.tr eq8) (lw_S q557 q558 q120 q559) hdX1_must rfl rfl (Nat.le_of_ble_eq_true rfl) ⟨by decide, by decide⟩ dX1_agree_23 ?_
        cases h
        exact r_xoutI C X hK
      · refine r_xS C (As := [vI q7.1]) (rest := []) (st1 := []) (v := none) (μ1 := q8) (m_X1_must C.tr eq8) (lw_S q557 q558 q120 q559) hdX1_must rfl rfl (Nat.le_of_ble_eq_true rfl) ⟨by decide, by decide⟩ dX1_agree_23 rfl ?_
        refine r_iconst C dX1_agree_26 ?_
        refine r_istore C [(6, vI 0), (5, vO q4.1), (4, vO q1.1), (0, vO a0), (1, vI x1), (2, vI x2), (3, vI x3)] dX1_agree_27 (by decide) rfl ?_
        refine r_sub [3, 6, 2, 1, 0] rfl ?_
        exact w_X1_agree_l29 (fin := fin) C X h hK
theorem hdX1_agree : zhd yX1_agree 3 := by decide +kernel
theorem m_X1_agree {l : Launch} {D : va_G} {b0 : Nat} (hl : l.stackTraces = false) {a0 : Nat} {x1 : Int} {x2 : Int} {x3 : Int} {μ : Me} {w : Ex ⊕ (Int × Me)} (h : s_X1_agree a0 x1 x2 x3 μ = some w) : XN l D b0 yX1_agree (ws_ yX1_agree cX1_agree 7 (some .int)) 210 [vO a0, vI x1, vI x2, vI x3] μ (zoI w) (zmI w) :=
  XN.of hl (by decide +kernel) (Nat.le_of_ble_eq_true rfl) (fun Z C X _ _ => w_X1_agree C X h rfl)
noncomputable def s_X1_spans_b221 (a0 : Nat) (x4 : Int) (x5 : Int)  (μ : Me) : Option (Int × Me) :=
  (ck μ 0 a0).bind fun _ =>
  (s_X1_independent a0 x4 (12 * (x5 + 1)) μ).bind fun q4 =>
  some (q4.1, q4.2)
theorem w_X1_spans_b221 {Z : Zt} {fin : Int × Me} {w : (Int × Me)} (C : CX Z yX1_spans cX1_spans (some .int) 210 11) {a0 : Nat} {x4 : Int} {x5 : Int}  {μ : Me} (h : s_X1_spans_b221 a0 x4 x5 μ = some w) (hK : (fun r : Int × Me => r = fin) w) : WL Z (QN Z (some (vI fin.1)) fin.2) μ 221 [(0, vO a0), (4, vI x4), (5, vI x5)] [] := by
  unfold s_X1_spans_b221 at h
  refine r_aload_n C 0 dX1_spans_221 rfl rfl ?_
  refine r_iload C 1 dX1_spans_222 rfl ?_
  refine r_bipush C dX1_spans_224 (by decide) ?_
  refine r_iload C 2 dX1_spans_226 rfl ?_
  refine r_iconst C dX1_spans_228 ?_
  refine r_iadd C dX1_spans_229 ?_
  refine r_imul C dX1_spans_230 ?_
  obtain ⟨u5, eu5, h⟩ := bs h
  obtain ⟨q4, eq4, h⟩ := bs h
  refine r_callV C (As := [vI x4, vI (12 * (x5 + 1))]) (b := a0) (rest := []) (st1 := [vI q4.1]) (v := some (vI q4.1)) (r := (RX1, TX1, 19)) (ci := 0) rfl eu5 (m_X1_independent C.tr eq4) (lw_V q1035 q1037 qs23 q120 q1038) rfl hdX1_independent rfl rfl (Nat.le_of_ble_eq_true rfl) ⟨by decide, by decide⟩ dX1_spans_231 rfl ?_
  cases h
  exact r_iret C hK dX1_spans_234
noncomputable def s_X1_spans_b212 (a0 : Nat) (x1 : Int) (x2 : Int) (x3 : Int) (x4 : Int) (x5 : Int) (x6 : Int)  (μ : Me) : Option ((Int × Int × Int × Me) ⊕ (Int × Me)) :=
  some (.inl ((x4 + 1), x5, (x6 + 1), μ))
theorem w_X1_spans_b212 {Z : Zt} {fin : Int × Me} {w : ((Int × Int × Int × Me) ⊕ (Int × Me))} (C : CX Z yX1_spans cX1_spans (some .int) 210 11) {a0 : Nat} {x1 : Int} {x2 : Int} {x3 : Int} {x4 : Int} {x5 : Int} {x6 : Int}  {μ : Me} (h : s_X1_spans_b212 a0 x1 x2 x3 x4 x5 x6 μ = some w) (hK : (Sum.elim (fun s : Int × Int × Int × Me => WL Z (QN Z (some (vI fin.1)) fin.2) s.2.2.2 9 [(0, vO a0), (1, vI x1), (2, vI x2), (3, vI x3), (4, vI s.1), (5, vI s.2.1), (6, vI s.2.2.1)] []) (fun r : Int × Me => r = fin)) w) : WL Z (QN Z (some (vI fin.1)) fin.2) μ 212 [(0, vO a0), (1, vI x1), (2, vI x2), (3, vI x3), (4, vI x4), (5, vI x5), (6, vI x6)] [] := by
  unfold s_X1_spans_b212 at h
  refine r_iinc C 4 [(4, vI (x4 + 1)), (0, vO a0), (1, vI x1), (2, vI x2), (3, vI x3), (5, vI x5), (6, vI x6)] dX1_spans_212 rfl (by decide) rfl ?_
  refine r_iinc C 6 [(6, vI (x6 + 1)), (4, vI (x4 + 1)), (0, vO a0), (1, vI x1), (2, vI x2), (3, vI x3), (5, vI x5)] dX1_spans_215 rfl (by decide) rfl ?_
  refine r_goto C dX1_spans_218 (tgt := 9) (by decide) ?_
  cases h
  refine r_sub [2, 3, 4, 5, 1, 6, 0] rfl ?_
  exact hK
noncomputable def s_X1_spans_l167_st (a0 : Nat) (x1 : Int) (x2 : Int) (x3 : Int) (x4 : Int) (x5 : Int) (x6 : Int) (x7 : Int) (x8 : Int) (a9 : Nat) (x10 : Int) (μ : Me) : Option ((Int × Me) ⊕ ((Int × Int × Int × Me) ⊕ ((Int × Int × Int × Me) ⊕ (Int × Me)))) :=
  (if w32 x5 < w32 x10 then
  some (.inr (.inl (x5, x7, (x8 + 1), μ)))
  else
  (gR μ 0 a0 9).bind fun v24 =>
  (aR μ 105 v24 x4).bind fun v25 =>
  (gR μ 6 a9 0).bind fun v26 =>
  (aI μ 101 v26 x10).bind fun v27 =>
  (uI μ v25 (((x5 + 1) * x8) + x10) v27).bind fun m28 =>
  some (.inl ((x10 + 1), m28)))
theorem w_X1_spans_l167_st {Z : Zt} {fin : Int × Me} {w : ((Int × Me) ⊕ ((Int × Int × Int × Me) ⊕ ((Int × Int × Int × Me) ⊕ (Int × Me))))} (C : CX Z yX1_spans cX1_spans (some .int) 210 11) {a0 : Nat} {x1 : Int} {x2 : Int} {x3 : Int} {x4 : Int} {x5 : Int} {x6 : Int} {x7 : Int} {x8 : Int} {a9 : Nat} {x10 : Int} {μ : Me} (h : s_X1_spans_l167_st a0 x1 x2 x3 x4 x5 x6 x7 x8 a9 x10 μ = some w) (hK : (Sum.elim (fun s : Int × Me => WL Z (QN Z (some (vI fin.1)) fin.2) s.2 167 [(0, vO a0), (1, vI x1), (2, vI x2), (3, vI x3), (4, vI x4), (5, vI x5), (6, vI x6), (7, vI x7), (8, vI x8), (9, vO a9), (10, vI s.1)] []) (Sum.elim (fun s : Int × Int × Int × Me => WL Z (QN Z (some (vI fin.1)) fin.2) s.2.2.2 39 [(0, vO a0), (1, vI x1), (2, vI x2), (3, vI x3), (4, vI x4), (5, vI s.1), (6, vI x6), (7, vI s.2.1), (8, vI s.2.2.1)] []) (Sum.elim (fun s : Int × Int × Int × Me => WL Z (QN Z (some (vI fin.1)) fin.2) s.2.2.2 9 [(0, vO a0), (1, vI x1), (2, vI x2), (3, vI x3), (4, vI s.1), (5, vI s.2.1), (6, vI s.2.2.1)] []) (fun r : Int × Me => r = fin)))) w) : WL Z (QN Z (some (vI fin.1)) fin.2) μ 167 [(0, vO a0), (1, vI x1), (2, vI x2), (3, vI x3), (4, vI x4), (5, vI x5), (6, vI x6), (7, vI x7), (8, vI x8), (9, vO a9), (10, vI x10)] [] := by
  unfold s_X1_spans_l167_st at h
  refine r_iload C 10 dX1_spans_167 rfl ?_
  refine r_iload C 5 dX1_spans_169 rfl ?_
  refine r_icmp_gt C dX1_spans_171 (tgt := 206) (by decide) (fun c23 => ?_) (fun c23 => ?_)
  · have h := it_ h c23
    refine r_iinc C 8 [(8, vI (x8 + 1)), (0, vO a0), (1, vI x1), (2, vI x2), (3, vI x3), (4, vI x4), (5, vI x5), (6, vI x6), (7, vI x7), (9, vO a9), (10, vI x10)] dX1_spans_206 rfl (by decide) rfl ?_
    refine r_goto C dX1_spans_209 (tgt := 39) (by decide) ?_
    cases h
    refine r_sub [1, 2, 3, 4, 5, 6, 7, 8, 0] rfl ?_
    exact hK
  · have h := ie_ h c23
    refine r_aload_n C 0 dX1_spans_174 rfl rfl ?_
    obtain ⟨v24, ev24, h⟩ := bs h
    refine r_getR C (c := 0) (r := (RX1, TX1, 19)) rfl 9 (by decide) rfl ev24 q437 dX1_spans_175 ?_
    refine r_iload C 4 dX1_spans_178 rfl ?_
    obtain ⟨v25, ev25, h⟩ := bs h
    refine r_aald C (kt := 4) ev25 rfl rfl ⟨by decide, by decide⟩ dX1_spans_180 ?_
    refine r_iload C 5 dX1_spans_181 rfl ?_
    refine r_iconst C dX1_spans_183 ?_
    refine r_iadd C dX1_spans_184 ?_
    refine r_iload C 8 dX1_spans_185 rfl ?_
    refine r_imul C dX1_spans_187 ?_
    refine r_iload C 10 dX1_spans_188 rfl ?_
    refine r_iadd C dX1_spans_190 ?_
    refine r_aload C 9 dX1_spans_191 rfl ?_
    obtain ⟨v26, ev26, h⟩ := bs h
    refine r_getRN C (c := 6) (r := (RX8, TX8, 2)) rfl 0 (by decide) rfl ev26 (lw_n q304 rfl) dX1_spans_193 ?_
    refine r_iload C 10 dX1_spans_196 rfl ?_
    obtain ⟨v27, ev27, h⟩ := bs h
    refine r_iald C ev27 dX1_spans_198 ?_
    obtain ⟨m28, em28, h⟩ := bs h
    refine r_iast C em28 dX1_spans_199 ?_
    refine r_iinc C 10 [(10, vI (x10 + 1)), (0, vO a0), (1, vI x1), (2, vI x2), (3, vI x3), (4, vI x4), (5, vI x5), (6, vI x6), (7, vI x7), (8, vI x8), (9, vO a9)] dX1_spans_200 rfl (by decide) rfl ?_
    refine r_goto C dX1_spans_203 (tgt := 167) (by decide) ?_
    cases h
    refine r_sub [1, 2, 3, 4, 5, 6, 7, 8, 9, 10, 0] rfl ?_
    exact hK
noncomputable def s_X1_spans_l167 (a0 : Nat) (x1 : Int) (x2 : Int) (x3 : Int) (x4 : Int) (x5 : Int) (x6 : Int) (x7 : Int) (x8 : Int) (a9 : Nat) (x10 : Int) (μ : Me) : Option ((Int × Int × Int × Me) ⊕ ((Int × Int × Int × Me) ⊕ (Int × Me))) :=
  whileO (fun s : Int × Me => s_X1_spans_l167_st a0 x1 x2 x3 x4 x5 x6 x7 x8 a9 s.1 s.2) (x10, μ)
theorem e_X1_spans_l167 (a0 : Nat) (x1 : Int) (x2 : Int) (x3 : Int) (x4 : Int) (x5 : Int) (x6 : Int) (x7 : Int) (x8 : Int) (a9 : Nat) (x10 : Int) (μ : Me) : s_X1_spans_l167 a0 x1 x2 x3 x4 x5 x6 x7 x8 a9 x10 μ = (s_X1_spans_l167_st a0 x1 x2 x3 x4 x5 x6 x7 x8 a9 x10 μ).bind fun x => x.elim (fun s : Int × Me => s_X1_spans_l167 a0 x1 x2 x3 x4 x5 x6 x7 x8 a9 s.1 s.2) some := whileO_eq _ _
theorem w_X1_spans_l167 {Z : Zt} {fin : Int × Me} {w : ((Int × Int × Int × Me) ⊕ ((Int × Int × Int × Me) ⊕ (Int × Me)))} (C : CX Z yX1_spans cX1_spans (some .int) 210 11) {a0 : Nat} {x1 : Int} {x2 : Int} {x3 : Int} {x4 : Int} {x5 : Int} {x6 : Int} {x7 : Int} {x8 : Int} {a9 : Nat} {x10 : Int} {μ : Me} (h : s_X1_spans_l167 a0 x1 x2 x3 x4 x5 x6 x7 x8 a9 x10 μ = some w) (hK : (Sum.elim (fun s : Int × Int × Int × Me => WL Z (QN Z (some (vI fin.1)) fin.2) s.2.2.2 39 [(0, vO a0), (1, vI x1), (2, vI x2), (3, vI x3), (4, vI x4), (5, vI s.1), (6, vI x6), (7, vI s.2.1), (8, vI s.2.2.1)] []) (Sum.elim (fun s : Int × Int × Int × Me => WL Z (QN Z (some (vI fin.1)) fin.2) s.2.2.2 9 [(0, vO a0), (1, vI x1), (2, vI x2), (3, vI x3), (4, vI s.1), (5, vI s.2.1), (6, vI s.2.2.1)] []) (fun r : Int × Me => r = fin))) w) : WL Z (QN Z (some (vI fin.1)) fin.2) μ 167 [(0, vO a0), (1, vI x1), (2, vI x2), (3, vI x3), (4, vI x4), (5, vI x5), (6, vI x6), (7, vI x7), (8, vI x8), (9, vO a9), (10, vI x10)] [] := by
  refine whileO_walk (w := w) (fun s : Int × Me => WL Z (QN Z (some (vI fin.1)) fin.2) s.2 167 [(0, vO a0), (1, vI x1), (2, vI x2), (3, vI x3), (4, vI x4), (5, vI x5), (6, vI x6), (7, vI x7), (8, vI x8), (9, vO a9), (10, vI s.1)] []) (fun s v h2 hi hr => ?_) (x10, μ) h
  refine w_X1_spans_l167_st (fin := fin) C h2 ?_
  cases v with
  | inl s2 => exact hi s2 rfl
  | inr r => have e := hr r rfl; subst e; exact hK
noncomputable def s_X1_spans_b111 (a0 : Nat) (x1 : Int) (x2 : Int) (x3 : Int) (x4 : Int) (x5 : Int) (x6 : Int) (x7 : Int) (x8 : Int)  (μ : Me) : Option ((Int × Int × Int × Me) ⊕ ((Int × Int × Int × Me) ⊕ (Int × Me))) :=
  (gR μ 0 a0 2).bind fun v12 =>
  (gR μ 7 v12 2).bind fun v13 =>
  (aR μ 106 v13 x6).bind fun v14 =>
  (gR μ 0 a0 8).bind fun v15 =>
  (ck μ 0 a0).bind fun _ =>
  (s_X1_valueOf a0 v14 v15 μ).bind fun q16 =>
  (ck q16.2 6 q16.1).bind fun _ =>
  (s_X8_isValue q16.1 q16.2).bind fun q18 =>
  (if w32 q18.1 = 0 then
  some (.inr (.inr ((-1), q18.2)))
  else
  (if w32 x5 = w32 (-1) then
  (gI q18.2 6 q16.1 1).bind fun v22 =>
  s_X1_spans_l167 a0 x1 x2 x3 x4 v22 x6 x7 x8 q16.1 0 q18.2
  else
  (gI q18.2 6 q16.1 1).bind fun v29 =>
  (if w32 v29 = w32 x5 then
  (gI q18.2 6 q16.1 1).bind fun v31 =>
  s_X1_spans_l167 a0 x1 x2 x3 x4 v31 x6 x7 x8 q16.1 0 q18.2
  else
  some (.inr (.inr ((-1), q18.2))))))
theorem w_X1_spans_b111 {Z : Zt} {fin : Int × Me} {w : ((Int × Int × Int × Me) ⊕ ((Int × Int × Int × Me) ⊕ (Int × Me)))} (C : CX Z yX1_spans cX1_spans (some .int) 210 11) {a0 : Nat} {x1 : Int} {x2 : Int} {x3 : Int} {x4 : Int} {x5 : Int} {x6 : Int} {x7 : Int} {x8 : Int}  {μ : Me} (h : s_X1_spans_b111 a0 x1 x2 x3 x4 x5 x6 x7 x8 μ = some w) (hK : (Sum.elim (fun s : Int × Int × Int × Me => WL Z (QN Z (some (vI fin.1)) fin.2) s.2.2.2 39 [(0, vO a0), (1, vI x1), (2, vI x2), (3, vI x3), (4, vI x4), (5, vI s.1), (6, vI x6), (7, vI s.2.1), (8, vI s.2.2.1)] []) (Sum.elim (fun s : Int × Int × Int × Me => WL Z (QN Z (some (vI fin.1)) fin.2) s.2.2.2 9 [(0, vO a0), (1, vI x1), (2, vI x2), (3, vI x3), (4, vI s.1), (5, vI s.2.1), (6, vI s.2.2.1)] []) (fun r : Int × Me => r = fin))) w) : WL Z (QN Z (some (vI fin.1)) fin.2) μ 111 [(0, vO a0), (1, vI x1), (2, vI x2), (3, vI x3), (4, vI x4), (5, vI x5), (6, vI x6), (7, vI x7), (8, vI x8)] [] := by
  unfold s_X1_spans_b111 at h
  refine r_aload_n C 0 dX1_spans_111 rfl rfl ?_
  refine r_aload_n C 0 dX1_spans_112 rfl rfl ?_
  obtain ⟨v12, ev12, h⟩ := bs h
  refine r_getR C (c := 0) (r := (RX1, TX1, 19)) rfl 2 (by decide) rfl ev12 q426 dX1_spans_113 ?_
  obtain ⟨v13, ev13, h⟩ := bs h
  refine r_getRN C (c := 7) (r := (RX9, TX9, 10)) rfl 2 (by decide) rfl ev13 (lw_n q382 rfl) dX1_spans_116 ?_
  refine r_iload C 6 dX1_spans_119 rfl ?_
  obtain ⟨v14, ev14, h⟩ := bs h
  refine r_aald C (kt := 5) ev14 rfl rfl ⟨by decide, by decide⟩ dX1_spans_121 ?_
  refine r_aload_n C 0 dX1_spans_122 rfl rfl ?_
  obtain ⟨v15, ev15, h⟩ := bs h
  refine r_getR C (c := 0) (r := (RX1, TX1, 19)) rfl 8 (by decide) rfl ev15 q436 dX1_spans_123 ?_
  obtain ⟨u17, eu17, h⟩ := bs h
  obtain ⟨q16, eq16, h⟩ := bs h
  refine r_callV C (As := [vO v14, vO v15]) (b := a0) (rest := []) (st1 := [vO q16.1]) (v := some (vO q16.1)) (r := (RX1, TX1, 19)) (ci := 0) rfl eu17 (m_X1_valueOf C.tr eq16) (lw_V q888 q890 qs18 q120 q891) rfl hdX1_valueOf rfl rfl (Nat.le_of_ble_eq_true rfl) ⟨by decide, by decide⟩ dX1_spans_126 rfl ?_
  refine r_astore C [(9, vO q16.1), (0, vO a0), (1, vI x1), (2, vI x2), (3, vI x3), (4, vI x4), (5, vI x5), (6, vI x6), (7, vI x7), (8, vI x8)] dX1_spans_129 (by decide) rfl ?_
  refine r_aload C 0 dX1_spans_131 rfl ?_
  obtain ⟨u19, eu19, h⟩ := bs h
  obtain ⟨q18, eq18, h⟩ := bs h
  refine r_callV C (As := []) (b := q16.1) (rest := []) (st1 := [vI q18.1]) (v := some (vI q18.1)) (r := (RX8, TX8, 2)) (ci := 6) rfl eu19 (m_X8_isValue C.tr eq18) (lw_V q955 q912 q913 q130 q914) rfl hdX8_isValue rfl rfl (Nat.le_of_ble_eq_true rfl) ⟨by decide, by decide⟩ dX1_spans_133 rfl ?_
  refine r_if_eq C dX1_spans_136 (tgt := 155) (by decide) (fun c20 => ?_) (fun c20 => ?_)
  · have h := it_ h c20
    refine r_iconst C dX1_spans_155 ?_
    cases h
    exact r_iret C hK dX1_spans_156
  · have h := ie_ h c20
    refine r_iload C 6 dX1_spans_139 rfl ?_
    refine r_iconst C dX1_spans_141 ?_
    refine r_icmp_eq C dX1_spans_142 (tgt := 157) (by decide) (fun c21 => ?_) (fun c21 => ?_)
    · have h := it_ h c21
      refine r_aload C 0 dX1_spans_157 rfl ?_
      obtain ⟨v22, ev22, h⟩ := bs h
      refine r_getIN C (c := 6) (r := (RX8, TX8, 2)) rfl 1 (by decide) rfl ev22 (lw_n q309 rfl) dX1_spans_159 ?_
      refine r_istore C [(5, vI v22), (9, vO q16.1), (0, vO a0), (1, vI x1), (2, vI x2), (3, vI x3), (4, vI x4), (6, vI x6), (7, vI x7), (8, vI x8)] dX1_spans_162 (by decide) rfl ?_
      refine r_iconst C dX1_spans_164 ?_
      refine r_istore C [(10, vI 0), (5, vI v22), (9, vO q16.1), (0, vO a0), (1, vI x1), (2, vI x2), (3, vI x3), (4, vI x4), (6, vI x6), (7, vI x7), (8, vI x8)] dX1_spans_165 (by decide) rfl ?_
      refine r_sub [3, 4, 5, 6, 7, 1, 8, 9, 10, 2, 0] rfl ?_
      exact w_X1_spans_l167 (fin := fin) C h hK
    · have h := ie_ h c21
      refine r_aload C 0 dX1_spans_145 rfl ?_
      obtain ⟨v29, ev29, h⟩ := bs h
      refine r_getIN C (c := 6) (r := (RX8, TX8, 2)) rfl 1 (by decide) rfl ev29 (lw_n q309 rfl) dX1_spans_147 ?_
      refine r_iload C 6 dX1_spans_150 rfl ?_
      refine r_icmp_eq C dX1_spans_152 (tgt := 157) (by decide) (fun c30 => ?_) (fun c30 => ?_)
      · have h := it_ h c30
        refine r_aload C 0 dX1_spans_157 rfl ?_
        obtain ⟨v31, ev31, h⟩ := bs h
        refine r_getIN C (c := 6) (r := (RX8, TX8, 2)) rfl 1 (by decide) rfl ev31 (lw_n q309 rfl) dX1_spans_159 ?_
        refine r_istore C [(5, vI v31), (9, vO q16.1), (0, vO a0), (1, vI x1), (2, vI x2), (3, vI x3), (4, vI x4), (6, vI x6), (7, vI x7), (8, vI x8)] dX1_spans_162 (by decide) rfl ?_
        refine r_iconst C dX1_spans_164 ?_
        refine r_istore C [(10, vI 0), (5, vI v31), (9, vO q16.1), (0, vO a0), (1, vI x1), (2, vI x2), (3, vI x3), (4, vI x4), (6, vI x6), (7, vI x7), (8, vI x8)] dX1_spans_165 (by decide) rfl ?_
        refine r_sub [3, 4, 5, 6, 7, 1, 8, 9, 10, 2, 0] rfl ?_
        exact w_X1_spans_l167 (fin := fin) C h hK
      · have h := ie_ h c30
        refine r_iconst C dX1_spans_155 ?_
        cases h
        exact r_iret C hK dX1_spans_156
noncomputable def s_X1_spans_l57_st (a0 : Nat) (x1 : Int) (x2 : Int) (x3 : Int) (x4 : Int) (x5 : Int) (x6 : Int) (x7 : Int) (x8 : Int) (x9 : Int) (μ : Me) : Option ((Int × Int × Me) ⊕ ((Int × Int × Int × Me) ⊕ ((Int × Int × Int × Me) ⊕ (Int × Me)))) :=
  (if w32 x2 < w32 x9 then
  (s_X1_spans_b111 a0 x1 x2 x3 x4 x5 x6 x7 x8 μ).map Sum.inr
  else
  (gR μ 0 a0 8).bind fun v32 =>
  (gR μ 6 v32 0).bind fun v33 =>
  (gR μ 0 a0 1).bind fun v34 =>
  (gR μ 4 v34 0).bind fun v35 =>
  (gI μ 5 v35 0).bind fun v36 =>
  (rmI (anI (urI ((1103515245 * x7) + 12345) 16) 32767) v36).bind fun v37 =>
  (uI μ v33 x9 v37).bind fun m38 =>
  some (.inl (((1103515245 * x7) + 12345), (x9 + 1), m38)))
theorem w_X1_spans_l57_st {Z : Zt} {fin : Int × Me} {w : ((Int × Int × Me) ⊕ ((Int × Int × Int × Me) ⊕ ((Int × Int × Int × Me) ⊕ (Int × Me))))} (C : CX Z yX1_spans cX1_spans (some .int) 210 11) {a0 : Nat} {x1 : Int} {x2 : Int} {x3 : Int} {x4 : Int} {x5 : Int} {x6 : Int} {x7 : Int} {x8 : Int} {x9 : Int} {μ : Me} (h : s_X1_spans_l57_st a0 x1 x2 x3 x4 x5 x6 x7 x8 x9 μ = some w) (hK : (Sum.elim (fun s : Int × Int × Me => WL Z (QN Z (some (vI fin.1)) fin.2) s.2.2 57 [(0, vO a0), (1, vI x1), (2, vI x2), (3, vI x3), (4, vI x4), (5, vI x5), (6, vI x6), (7, vI s.1), (8, vI x8), (9, vI s.2.1)] []) (Sum.elim (fun s : Int × Int × Int × Me => WL Z (QN Z (some (vI fin.1)) fin.2) s.2.2.2 39 [(0, vO a0), (1, vI x1), (2, vI x2), (3, vI x3), (4, vI x4), (5, vI s.1), (6, vI x6), (7, vI s.2.1), (8, vI s.2.2.1)] []) (Sum.elim (fun s : Int × Int × Int × Me => WL Z (QN Z (some (vI fin.1)) fin.2) s.2.2.2 9 [(0, vO a0), (1, vI x1), (2, vI x2), (3, vI x3), (4, vI s.1), (5, vI s.2.1), (6, vI s.2.2.1)] []) (fun r : Int × Me => r = fin)))) w) : WL Z (QN Z (some (vI fin.1)) fin.2) μ 57 [(0, vO a0), (1, vI x1), (2, vI x2), (3, vI x3), (4, vI x4), (5, vI x5), (6, vI x6), (7, vI x7), (8, vI x8), (9, vI x9)] [] := by
  unfold s_X1_spans_l57_st at h
  refine r_iload C 9 dX1_spans_57 rfl ?_
  refine r_iload_n C 2 dX1_spans_59 rfl rfl ?_
  refine r_icmp_gt C dX1_spans_60 (tgt := 111) (by decide) (fun c11 => ?_) (fun c11 => ?_)
  · have h := it_ h c11
    obtain ⟨z, hz, ez⟩ := ms_ h; clear h; subst ez; have h := hz; clear hz
    refine r_sub [0, 1, 2, 3, 4, 5, 6, 7, 8] rfl ?_
    exact w_X1_spans_b111 (fin := fin) C h hK
  · have h := ie_ h c11
    refine r_ldc_w (n := 1103515245) C q1034 dX1_spans_63 (by decide) ?_
    refine r_iload C 7 dX1_spans_66 rfl ?_
    refine r_imul C dX1_spans_68 ?_
    refine r_sipush C dX1_spans_69 (by decide) ?_
    refine r_iadd C dX1_spans_72 ?_
    refine r_istore C [(7, vI ((1103515245 * x7) + 12345)), (0, vO a0), (1, vI x1), (2, vI x2), (3, vI x3), (4, vI x4), (5, vI x5), (6, vI x6), (8, vI x8), (9, vI x9)] dX1_spans_73 (by decide) rfl ?_
    refine r_aload_n C 1 dX1_spans_75 rfl rfl ?_
    obtain ⟨v32, ev32, h⟩ := bs h
    refine r_getR C (c := 0) (r := (RX1, TX1, 19)) rfl 8 (by decide) rfl ev32 q436 dX1_spans_76 ?_
    obtain ⟨v33, ev33, h⟩ := bs h
    refine r_getRN C (c := 6) (r := (RX8, TX8, 2)) rfl 0 (by decide) rfl ev33 (lw_n q304 rfl) dX1_spans_79 ?_
    refine r_iload C 9 dX1_spans_82 rfl ?_
    refine r_iload C 0 dX1_spans_84 rfl ?_
    refine r_bipush C dX1_spans_86 (by decide) ?_
    refine r_iushr C dX1_spans_88 ?_
    refine r_sipush C dX1_spans_89 (by decide) ?_
    refine r_iand C dX1_spans_92 ?_
    refine r_aload_n C 1 dX1_spans_93 rfl rfl ?_
    obtain ⟨v34, ev34, h⟩ := bs h
    refine r_getR C (c := 0) (r := (RX1, TX1, 19)) rfl 1 (by decide) rfl ev34 q422 dX1_spans_94 ?_
    obtain ⟨v35, ev35, h⟩ := bs h
    refine r_getRN C (c := 4) (r := (RX6, TX6, 6)) rfl 0 (by decide) rfl ev35 (lw_n q320 rfl) dX1_spans_97 ?_
    obtain ⟨v36, ev36, h⟩ := bs h
    refine r_getIN C (c := 5) (r := (RX7, TX7, 1)) rfl 0 (by decide) rfl ev36 (lw_n q289 rfl) dX1_spans_100 ?_
    obtain ⟨v37, ev37, h⟩ := bs h
    refine r_irem C ev37 dX1_spans_103 ?_
    obtain ⟨m38, em38, h⟩ := bs h
    refine r_iast C em38 dX1_spans_104 ?_
    refine r_iinc C 9 [(9, vI (x9 + 1)), (7, vI ((1103515245 * x7) + 12345)), (0, vO a0), (1, vI x1), (2, vI x2), (3, vI x3), (4, vI x4), (5, vI x5), (6, vI x6), (8, vI x8)] dX1_spans_105 rfl (by decide) rfl ?_
    refine r_goto C dX1_spans_108 (tgt := 57) (by decide) ?_
    cases h
    refine r_sub [2, 3, 4, 5, 6, 7, 8, 1, 9, 0] rfl ?_
    exact hK
noncomputable def s_X1_spans_l57 (a0 : Nat) (x1 : Int) (x2 : Int) (x3 : Int) (x4 : Int) (x5 : Int) (x6 : Int) (x7 : Int) (x8 : Int) (x9 : Int) (μ : Me) : Option ((Int × Int × Int × Me) ⊕ ((Int × Int × Int × Me) ⊕ (Int × Me))) :=
  whileO (fun s : Int × Int × Me => s_X1_spans_l57_st a0 x1 x2 x3 x4 x5 x6 s.1 x8 s.2.1 s.2.2) (x7, x9, μ)
theorem e_X1_spans_l57 (a0 : Nat) (x1 : Int) (x2 : Int) (x3 : Int) (x4 : Int) (x5 : Int) (x6 : Int) (x7 : Int) (x8 : Int) (x9 : Int) (μ : Me) : s_X1_spans_l57 a0 x1 x2 x3 x4 x5 x6 x7 x8 x9 μ = (s_X1_spans_l57_st a0 x1 x2 x3 x4 x5 x6 x7 x8 x9 μ).bind fun x => x.elim (fun s : Int × Int × Me => s_X1_spans_l57 a0 x1 x2 x3 x4 x5 x6 s.1 x8 s.2.1 s.2.2) some := whileO_eq _ _
theorem w_X1_spans_l57 {Z : Zt} {fin : Int × Me} {w : ((Int × Int × Int × Me) ⊕ ((Int × Int × Int × Me) ⊕ (Int × Me)))} (C : CX Z yX1_spans cX1_spans (some .int) 210 11) {a0 : Nat} {x1 : Int} {x2 : Int} {x3 : Int} {x4 : Int} {x5 : Int} {x6 : Int} {x7 : Int} {x8 : Int} {x9 : Int} {μ : Me} (h : s_X1_spans_l57 a0 x1 x2 x3 x4 x5 x6 x7 x8 x9 μ = some w) (hK : (Sum.elim (fun s : Int × Int × Int × Me => WL Z (QN Z (some (vI fin.1)) fin.2) s.2.2.2 39 [(0, vO a0), (1, vI x1), (2, vI x2), (3, vI x3), (4, vI x4), (5, vI s.1), (6, vI x6), (7, vI s.2.1), (8, vI s.2.2.1)] []) (Sum.elim (fun s : Int × Int × Int × Me => WL Z (QN Z (some (vI fin.1)) fin.2) s.2.2.2 9 [(0, vO a0), (1, vI x1), (2, vI x2), (3, vI x3), (4, vI s.1), (5, vI s.2.1), (6, vI s.2.2.1)] []) (fun r : Int × Me => r = fin))) w) : WL Z (QN Z (some (vI fin.1)) fin.2) μ 57 [(0, vO a0), (1, vI x1), (2, vI x2), (3, vI x3), (4, vI x4), (5, vI x5), (6, vI x6), (7, vI x7), (8, vI x8), (9, vI x9)] [] := by
  refine whileO_walk (w := w) (fun s : Int × Int × Me => WL Z (QN Z (some (vI fin.1)) fin.2) s.2.2 57 [(0, vO a0), (1, vI x1), (2, vI x2), (3, vI x3), (4, vI x4), (5, vI x5), (6, vI x6), (7, vI s.1), (8, vI x8), (9, vI s.2.1)] []) (fun s v h2 hi hr => ?_) (x7, x9, μ) h
  refine w_X1_spans_l57_st (fin := fin) C h2 ?_
  cases v with
  | inl s2 => exact hi s2 rfl
  | inr r => have e := hr r rfl; subst e; exact hK
noncomputable def s_X1_spans_l39_st (a0 : Nat) (x1 : Int) (x2 : Int) (x3 : Int) (x4 : Int) (x5 : Int) (x6 : Int) (x7 : Int) (x8 : Int) (μ : Me) : Option ((Int × Int × Int × Me) ⊕ ((Int × Int × Int × Me) ⊕ (Int × Me))) :=
  (if w32 12 ≤ w32 x8 then
  (s_X1_spans_b212 a0 x1 x2 x3 x4 x5 x6 μ).map Sum.inr
  else
  (gR μ 0 a0 8).bind fun v8 =>
  (ck μ 6 v8).bind fun _ =>
  (s_X8_nought v8 x2 μ).bind fun q9 =>
  s_X1_spans_l57 a0 x1 x2 x3 x4 x5 x6 x7 x8 0 q9)
theorem w_X1_spans_l39_st {Z : Zt} {fin : Int × Me} {w : ((Int × Int × Int × Me) ⊕ ((Int × Int × Int × Me) ⊕ (Int × Me)))} (C : CX Z yX1_spans cX1_spans (some .int) 210 11) {a0 : Nat} {x1 : Int} {x2 : Int} {x3 : Int} {x4 : Int} {x5 : Int} {x6 : Int} {x7 : Int} {x8 : Int} {μ : Me} (h : s_X1_spans_l39_st a0 x1 x2 x3 x4 x5 x6 x7 x8 μ = some w) (hK : (Sum.elim (fun s : Int × Int × Int × Me => WL Z (QN Z (some (vI fin.1)) fin.2) s.2.2.2 39 [(0, vO a0), (1, vI x1), (2, vI x2), (3, vI x3), (4, vI x4), (5, vI s.1), (6, vI x6), (7, vI s.2.1), (8, vI s.2.2.1)] []) (Sum.elim (fun s : Int × Int × Int × Me => WL Z (QN Z (some (vI fin.1)) fin.2) s.2.2.2 9 [(0, vO a0), (1, vI x1), (2, vI x2), (3, vI x3), (4, vI s.1), (5, vI s.2.1), (6, vI s.2.2.1)] []) (fun r : Int × Me => r = fin))) w) : WL Z (QN Z (some (vI fin.1)) fin.2) μ 39 [(0, vO a0), (1, vI x1), (2, vI x2), (3, vI x3), (4, vI x4), (5, vI x5), (6, vI x6), (7, vI x7), (8, vI x8)] [] := by
  unfold s_X1_spans_l39_st at h
  refine r_iload C 8 dX1_spans_39 rfl ?_
  refine r_bipush C dX1_spans_41 (by decide) ?_
  refine r_icmp_ge C dX1_spans_43 (tgt := 212) (by decide) (fun c7 => ?_) (fun c7 => ?_)
  · have h := it_ h c7
    obtain ⟨z, hz, ez⟩ := ms_ h; clear h; subst ez; have h := hz; clear hz
    refine r_sub [0, 1, 2, 3, 4, 5, 6] rfl ?_
    exact w_X1_spans_b212 (fin := fin) C h hK
  · have h := ie_ h c7
    refine r_aload_n C 0 dX1_spans_46 rfl rfl ?_
    obtain ⟨v8, ev8, h⟩ := bs h
    refine r_getR C (c := 0) (r := (RX1, TX1, 19)) rfl 8 (by decide) rfl ev8 q436 dX1_spans_47 ?_
    refine r_iload_n C 2 dX1_spans_50 rfl rfl ?_
    obtain ⟨u10, eu10, h⟩ := bs h
    obtain ⟨q9, eq9, h⟩ := bs h
    refine r_callV C (As := [vI x2]) (b := v8) (rest := []) (st1 := []) (v := none) (r := (RX8, TX8, 2)) (ci := 6) rfl eu10 (m_X8_nought C.tr eq9) (lw_V q627 q628 q629 q130 q630) rfl hdX8_nought rfl rfl (Nat.le_of_ble_eq_true rfl) ⟨by decide, by decide⟩ dX1_spans_51 rfl ?_
    refine r_iconst C dX1_spans_54 ?_
    refine r_istore C [(9, vI 0), (0, vO a0), (1, vI x1), (2, vI x2), (3, vI x3), (4, vI x4), (5, vI x5), (6, vI x6), (7, vI x7), (8, vI x8)] dX1_spans_55 (by decide) rfl ?_
    refine r_sub [1, 2, 3, 4, 5, 6, 7, 8, 9, 0] rfl ?_
    exact w_X1_spans_l57 (fin := fin) C h hK
noncomputable def s_X1_spans_l39 (a0 : Nat) (x1 : Int) (x2 : Int) (x3 : Int) (x4 : Int) (x5 : Int) (x6 : Int) (x7 : Int) (x8 : Int) (μ : Me) : Option ((Int × Int × Int × Me) ⊕ (Int × Me)) :=
  whileO (fun s : Int × Int × Int × Me => s_X1_spans_l39_st a0 x1 x2 x3 x4 s.1 x6 s.2.1 s.2.2.1 s.2.2.2) (x5, x7, x8, μ)
theorem e_X1_spans_l39 (a0 : Nat) (x1 : Int) (x2 : Int) (x3 : Int) (x4 : Int) (x5 : Int) (x6 : Int) (x7 : Int) (x8 : Int) (μ : Me) : s_X1_spans_l39 a0 x1 x2 x3 x4 x5 x6 x7 x8 μ = (s_X1_spans_l39_st a0 x1 x2 x3 x4 x5 x6 x7 x8 μ).bind fun x => x.elim (fun s : Int × Int × Int × Me => s_X1_spans_l39 a0 x1 x2 x3 x4 s.1 x6 s.2.1 s.2.2.1 s.2.2.2) some := whileO_eq _ _
theorem w_X1_spans_l39 {Z : Zt} {fin : Int × Me} {w : ((Int × Int × Int × Me) ⊕ (Int × Me))} (C : CX Z yX1_spans cX1_spans (some .int) 210 11) {a0 : Nat} {x1 : Int} {x2 : Int} {x3 : Int} {x4 : Int} {x5 : Int} {x6 : Int} {x7 : Int} {x8 : Int} {μ : Me} (h : s_X1_spans_l39 a0 x1 x2 x3 x4 x5 x6 x7 x8 μ = some w) (hK : (Sum.elim (fun s : Int × Int × Int × Me => WL Z (QN Z (some (vI fin.1)) fin.2) s.2.2.2 9 [(0, vO a0), (1, vI x1), (2, vI x2), (3, vI x3), (4, vI s.1), (5, vI s.2.1), (6, vI s.2.2.1)] []) (fun r : Int × Me => r = fin)) w) : WL Z (QN Z (some (vI fin.1)) fin.2) μ 39 [(0, vO a0), (1, vI x1), (2, vI x2), (3, vI x3), (4, vI x4), (5, vI x5), (6, vI x6), (7, vI x7), (8, vI x8)] [] := by
  refine whileO_walk (w := w) (fun s : Int × Int × Int × Me => WL Z (QN Z (some (vI fin.1)) fin.2) s.2.2.2 39 [(0, vO a0), (1, vI x1), (2, vI x2), (3, vI x3), (4, vI x4), (5, vI s.1), (6, vI x6), (7, vI s.2.1), (8, vI s.2.2.1)] []) (fun s v h2 hi hr => ?_) (x5, x7, x8, μ) h
  refine w_X1_spans_l39_st (fin := fin) C h2 ?_
  cases v with
  | inl s2 => exact hi s2 rfl
  | inr r => have e := hr r rfl; subst e; exact hK
noncomputable def s_X1_spans_l9_st (a0 : Nat) (x1 : Int) (x2 : Int) (x3 : Int) (x4 : Int) (x5 : Int) (x6 : Int) (μ : Me) : Option ((Int × Int × Int × Me) ⊕ (Int × Me)) :=
  (gR μ 0 a0 2).bind fun v1 =>
  (gI μ 7 v1 7).bind fun v2 =>
  (if w32 v2 ≤ w32 x6 then
  (s_X1_spans_b221 a0 x4 x5 μ).map Sum.inr
  else
  (if w32 (anI (srI x1 x6) 1) = 0 then
  some (.inl (x4, x5, (x6 + 1), μ))
  else
  s_X1_spans_l39 a0 x1 x2 x3 x4 x5 x6 x3 0 μ))
theorem w_X1_spans_l9_st {Z : Zt} {fin : Int × Me} {w : ((Int × Int × Int × Me) ⊕ (Int × Me))} (C : CX Z yX1_spans cX1_spans (some .int) 210 11) {a0 : Nat} {x1 : Int} {x2 : Int} {x3 : Int} {x4 : Int} {x5 : Int} {x6 : Int} {μ : Me} (h : s_X1_spans_l9_st a0 x1 x2 x3 x4 x5 x6 μ = some w) (hK : (Sum.elim (fun s : Int × Int × Int × Me => WL Z (QN Z (some (vI fin.1)) fin.2) s.2.2.2 9 [(0, vO a0), (1, vI x1), (2, vI x2), (3, vI x3), (4, vI s.1), (5, vI s.2.1), (6, vI s.2.2.1)] []) (fun r : Int × Me => r = fin)) w) : WL Z (QN Z (some (vI fin.1)) fin.2) μ 9 [(0, vO a0), (1, vI x1), (2, vI x2), (3, vI x3), (4, vI x4), (5, vI x5), (6, vI x6)] [] := by
  unfold s_X1_spans_l9_st at h
  refine r_iload C 6 dX1_spans_9 rfl ?_
  refine r_aload_n C 0 dX1_spans_11 rfl rfl ?_
  obtain ⟨v1, ev1, h⟩ := bs h
  refine r_getR C (c := 0) (r := (RX1, TX1, 19)) rfl 2 (by decide) rfl ev1 q426 dX1_spans_12 ?_
  obtain ⟨v2, ev2, h⟩ := bs h
  refine r_getIN C (c := 7) (r := (RX9, TX9, 10)) rfl 7 (by decide) rfl ev2 (lw_n q392 rfl) dX1_spans_15 ?_
  refine r_icmp_ge C dX1_spans_18 (tgt := 221) (by decide) (fun c3 => ?_) (fun c3 => ?_)
  · have h := it_ h c3
    obtain ⟨z, hz, ez⟩ := ms_ h; clear h; subst ez; have h := hz; clear hz
    refine r_sub [0, 4, 5] rfl ?_
    exact w_X1_spans_b221 (fin := fin) C h hK
  · have h := ie_ h c3
    refine r_iload_n C 1 dX1_spans_21 rfl rfl ?_
    refine r_iload C 6 dX1_spans_22 rfl ?_
    refine r_ishr C dX1_spans_24 ?_
    refine r_iconst C dX1_spans_25 ?_
    refine r_iand C dX1_spans_26 ?_
    refine r_if_ne C dX1_spans_27 (tgt := 33) (by decide) (fun c6 => ?_) (fun c6 => ?_)
    · have h := ie_ h c6
      refine r_iload_n C 3 dX1_spans_33 rfl rfl ?_
      refine r_istore C [(7, vI x3), (0, vO a0), (1, vI x1), (2, vI x2), (3, vI x3), (4, vI x4), (5, vI x5), (6, vI x6)] dX1_spans_34 (by decide) rfl ?_
      refine r_iconst C dX1_spans_36 ?_
      refine r_istore C [(8, vI 0), (7, vI x3), (0, vO a0), (1, vI x1), (2, vI x2), (3, vI x3), (4, vI x4), (5, vI x5), (6, vI x6)] dX1_spans_37 (by decide) rfl ?_
      refine r_sub [2, 3, 4, 5, 6, 7, 8, 1, 0] rfl ?_
      exact w_X1_spans_l39 (fin := fin) C h hK
    · have h := it_ h c6
      refine r_goto C dX1_spans_30 (tgt := 215) (by decide) ?_
      refine r_iinc C 6 [(6, vI (x6 + 1)), (0, vO a0), (1, vI x1), (2, vI x2), (3, vI x3), (4, vI x4), (5, vI x5)] dX1_spans_215 rfl (by decide) rfl ?_
      refine r_goto C dX1_spans_218 (tgt := 9) (by decide) ?_
      cases h
      refine r_sub [1, 2, 3, 4, 5, 6, 0] rfl ?_
      exact hK
noncomputable def s_X1_spans_l9 (a0 : Nat) (x1 : Int) (x2 : Int) (x3 : Int) (x4 : Int) (x5 : Int) (x6 : Int) (μ : Me) : Option (Int × Me) :=
  whileO (fun s : Int × Int × Int × Me => s_X1_spans_l9_st a0 x1 x2 x3 s.1 s.2.1 s.2.2.1 s.2.2.2) (x4, x5, x6, μ)
theorem e_X1_spans_l9 (a0 : Nat) (x1 : Int) (x2 : Int) (x3 : Int) (x4 : Int) (x5 : Int) (x6 : Int) (μ : Me) : s_X1_spans_l9 a0 x1 x2 x3 x4 x5 x6 μ = (s_X1_spans_l9_st a0 x1 x2 x3 x4 x5 x6 μ).bind fun x => x.elim (fun s : Int × Int × Int × Me => s_X1_spans_l9 a0 x1 x2 x3 s.1 s.2.1 s.2.2.1 s.2.2.2) some := whileO_eq _ _
theorem w_X1_spans_l9 {Z : Zt} {fin : Int × Me} {w : (Int × Me)} (C : CX Z yX1_spans cX1_spans (some .int) 210 11) {a0 : Nat} {x1 : Int} {x2 : Int} {x3 : Int} {x4 : Int} {x5 : Int} {x6 : Int} {μ : Me} (h : s_X1_spans_l9 a0 x1 x2 x3 x4 x5 x6 μ = some w) (hK : (fun r : Int × Me => r = fin) w) : WL Z (QN Z (some (vI fin.1)) fin.2) μ 9 [(0, vO a0), (1, vI x1), (2, vI x2), (3, vI x3), (4, vI x4), (5, vI x5), (6, vI x6)] [] := by
  refine whileO_walk (w := w) (fun s : Int × Int × Int × Me => WL Z (QN Z (some (vI fin.1)) fin.2) s.2.2.2 9 [(0, vO a0), (1, vI x1), (2, vI x2), (3, vI x3), (4, vI s.1), (5, vI s.2.1), (6, vI s.2.2.1)] []) (fun s v h2 hi hr => ?_) (x4, x5, x6, μ) h
  refine w_X1_spans_l9_st (fin := fin) C h2 ?_
  cases v with
  | inl s2 => exact hi s2 rfl
  | inr r => have e := hr r rfl; subst e; exact hK
noncomputable def s_X1_spans (a0 : Nat) (x1 : Int) (x2 : Int) (x3 : Int) (μ : Me) : Option (Int × Me) :=
  s_X1_spans_l9 a0 x1 x2 x3 0 (-1) 0 μ
theorem w_X1_spans {Z : Zt} {fin : Int × Me} {w : Int × Me} (C : CX Z yX1_spans cX1_spans (some .int) 210 11) {a0 : Nat} {x1 : Int} {x2 : Int} {x3 : Int} {μ : Me} (h : s_X1_spans a0 x1 x2 x3 μ = some w) (hK : w = fin) : WL Z (QN Z (some (vI fin.1)) fin.2) μ 0 [(0, vO a0), (1, vI x1), (2, vI x2), (3, vI x3)] [] := by
  unfold s_X1_spans at h
  refine r_iconst C dX1_spans_0 ?_
  refine r_istore C [(4, vI 0), (0, vO a0), (1, vI x1), (2, vI x2), (3, vI x3)] dX1_spans_1 (by decide) rfl ?_
  refine r_iconst C dX1_spans_3 ?_
  refine r_istore C [(5, vI (-1)), (4, vI 0), (0, vO a0), (1, vI x1), (2, vI x2), (3, vI x3)] dX1_spans_4 (by decide) rfl ?_
  refine r_iconst C dX1_spans_6 ?_
  refine r_istore C [(6, vI 0), (5, vI (-1)), (4, vI 0), (0, vO a0), (1, vI x1), (2, vI x2), (3, vI x3)] dX1_spans_7 (by decide) rfl ?_
  refine r_sub [3, 4, 5, 6, 2, 1, 0] rfl ?_
  exact w_X1_spans_l9 (fin := fin) C h hK
theorem hdX1_spans : zhd yX1_spans 3 := by decide +kernel
theorem m_X1_spans {l : Launch} {D : va_G} {b0 : Nat} (hl : l.stackTraces = false) {a0 : Nat} {x1 : Int} {x2 : Int} {x3 : Int} {μ : Me} {w : Int × Me} (h : s_X1_spans a0 x1 x2 x3 μ = some w) : MN l D b0 yX1_spans (ws_ yX1_spans cX1_spans 11 (some .int)) 210 [vO a0, vI x1, vI x2, vI x3] μ (some (vI w.1)) w.2 :=
  MN.of hl (by decide +kernel) (Nat.le_of_ble_eq_true rfl) (fun Z C _ _ => w_X1_spans C h rfl)
noncomputable def s_X1_span (a0 : Nat) (x1 : Int) (x2 : Int) (x3 : Int) (μ : Me) : Option (Ex ⊕ (Int × Me)) :=
  (s_X1_isIn (w32 x2) 1 8 μ).bind fun q1 =>
  xb (s_X1_must q1.1 q1.2) (fun e3 => some (.inl e3)) fun q2 =>
  (ck q2 0 a0).bind fun _ =>
  (s_X1_spans a0 x1 x2 x3 q2).bind fun q4 =>
  some (.inr (q4.1, q4.2))
theorem w_X1_span {Z : Zt} {fin : Ex ⊕ (Int × Me)} {w : Ex ⊕ (Int × Me)} (C : CX Z yX1_span cX1_span (some .int) 211 4) (X : XE Z) {a0 : Nat} {x1 : Int} {x2 : Int} {x3 : Int} {μ : Me} (h : s_X1_span a0 x1 x2 x3 μ = some w) (hK : w = fin) : WL Z (XQ Z (zoI fin) (zmI fin)) μ 0 [(0, vO a0), (1, vI x1), (2, vI x2), (3, vI x3)] [] := by
  unfold s_X1_span at h
  refine r_iload_n C 2 dX1_span_0 rfl rfl ?_
  refine r_i2l C dX1_span_1 ?_
  refine r_lconst (v := 1) C dX1_span_2 (by decide) ?_
  refine r_ldc2 (n := 8) C q1009 dX1_span_3 (by decide) ?_
  obtain ⟨q1, eq1, h⟩ := bs h
  refine r_callS C (As := [vJ (w32 x2), vJ 1, vJ 8]) (rest := []) (st1 := [vI q1.1]) (v := some (vI q1.1)) (m_X1_isIn C.tr eq1) (lw_S q499 q500 q120 q501) hdX1_isIn rfl rfl (Nat.le_of_ble_eq_true rfl) ⟨by decide, by decide⟩ dX1_span_6 rfl ?_
  rcases xbs h with ⟨e3, eq2, h⟩ | ⟨q2, eq2, h⟩
  · refine r_xSx C (As := [vI q1.1]) (rest := []) (μ1 := e3.2.2) (m_X1_must C.tr eq2) (lw_S q557 q558 q120 q559) hdX1_must rfl rfl (Nat.le_of_ble_eq_true rfl) ⟨by decide, by decide⟩ dX1_span_9 ?_
    cases h
    exact r_xoutI C X hK
  · refine r_xS C (As := [vI q1.1]) (rest := []) (st1 := []) (v := none) (μ1 := q2) (m_X1_must C.tr eq2) (lw_S q557 q558 q120 q559) hdX1_must rfl rfl (Nat.le_of_ble_eq_true rfl) ⟨by decide, by decide⟩ dX1_span_9 rfl ?_
    refine r_aload_n C 0 dX1_span_12 rfl rfl ?_
    refine r_iload_n C 1 dX1_span_13 rfl rfl ?_
    refine r_iload_n C 2 dX1_span_14 rfl rfl ?_
    refine r_iload_n C 3 dX1_span_15 rfl rfl ?_
    obtain ⟨u5, eu5, h⟩ := bs h
    obtain ⟨q4, eq4, h⟩ := bs h
    refine r_callV C (As := [vI x1, vI x2, vI x3]) (b := a0) (rest := []) (st1 := [vI q4.1]) (v := some (vI q4.1)) (r := (RX1, TX1, 19)) (ci := 0) rfl eu5 (m_X1_spans C.tr eq4) (lw_V q1030 q1032 qs22 q120 q1033) rfl hdX1_spans rfl rfl (Nat.le_of_ble_eq_true rfl) ⟨by decide, by decide⟩ dX1_span_16 rfl ?_
    cases h
    exact r_xiret C hK dX1_span_19
theorem hdX1_span : zhd yX1_span 3 := by decide +kernel
theorem m_X1_span {l : Launch} {D : va_G} {b0 : Nat} (hl : l.stackTraces = false) {a0 : Nat} {x1 : Int} {x2 : Int} {x3 : Int} {μ : Me} {w : Ex ⊕ (Int × Me)} (h : s_X1_span a0 x1 x2 x3 μ = some w) : XN l D b0 yX1_span (ws_ yX1_span cX1_span 4 (some .int)) 211 [vO a0, vI x1, vI x2, vI x3] μ (zoI w) (zmI w) :=
  XN.of hl (by decide +kernel) (Nat.le_of_ble_eq_true rfl) (fun Z C X _ _ => w_X1_span C X h rfl)
noncomputable def s_X1_basis_l34_st (a0 : Nat) (x1 : Int) (x2 : Int) (x3 : Int) (x4 : Int) (x5 : Int) (x6 : Int) (μ : Me) : Option ((Int × Int × Int × Me) ⊕ (Ex ⊕ (Int × Me))) :=
  (gR μ 0 a0 2).bind fun v7 =>
  (gI μ 7 v7 7).bind fun v8 =>
  (if w32 v8 ≤ w32 x6 then
  some (.inr (.inr (x4, μ)))
  else
  (if w32 (anI (srI x1 x6) 1) = 0 then
  some (.inl (x4, x5, (x6 + 1), μ))
  else
  (ck μ 0 a0).bind fun _ =>
  (s_X1_spans a0 (anI x1 ((slI 2 x6) - 1)) x2 x3 μ).bind fun q11 =>
  (if w32 q11.1 ≤ w32 x5 then
  some (.inl ((orI x4 0), q11.1, (x6 + 1), q11.2))
  else
  some (.inl ((orI x4 (slI 1 x6)), q11.1, (x6 + 1), q11.2)))))
theorem w_X1_basis_l34_st {Z : Zt} {fin : Ex ⊕ (Int × Me)} {w : ((Int × Int × Int × Me) ⊕ (Ex ⊕ (Int × Me)))} (C : CX Z yX1_basis cX1_basis (some .int) 211 8) (X : XE Z) {a0 : Nat} {x1 : Int} {x2 : Int} {x3 : Int} {x4 : Int} {x5 : Int} {x6 : Int} {μ : Me} (h : s_X1_basis_l34_st a0 x1 x2 x3 x4 x5 x6 μ = some w) (hK : (Sum.elim (fun s : Int × Int × Int × Me => WL Z (XQ Z (zoI fin) (zmI fin)) s.2.2.2 34 [(0, vO a0), (1, vI x1), (2, vI x2), (3, vI x3), (4, vI s.1), (5, vI s.2.1), (6, vI s.2.2.1)] []) (fun r : Ex ⊕ (Int × Me) => r = fin)) w) : WL Z (XQ Z (zoI fin) (zmI fin)) μ 34 [(0, vO a0), (1, vI x1), (2, vI x2), (3, vI x3), (4, vI x4), (5, vI x5), (6, vI x6)] [] := by
  unfold s_X1_basis_l34_st at h
  refine r_iload C 6 dX1_basis_34 rfl ?_
  refine r_aload_n C 0 dX1_basis_36 rfl rfl ?_
  obtain ⟨v7, ev7, h⟩ := bs h
  refine r_getR C (c := 0) (r := (RX1, TX1, 19)) rfl 2 (by decide) rfl ev7 q426 dX1_basis_37 ?_
  obtain ⟨v8, ev8, h⟩ := bs h
  refine r_getIN C (c := 7) (r := (RX9, TX9, 10)) rfl 7 (by decide) rfl ev8 (lw_n q392 rfl) dX1_basis_40 ?_
  refine r_icmp_ge C dX1_basis_43 (tgt := 104) (by decide) (fun c9 => ?_) (fun c9 => ?_)
  · have h := it_ h c9
    refine r_iload C 4 dX1_basis_104 rfl ?_
    cases h
    exact r_xiret C hK dX1_basis_106
  · have h := ie_ h c9
    refine r_iload_n C 1 dX1_basis_46 rfl rfl ?_
    refine r_iload C 6 dX1_basis_47 rfl ?_
    refine r_ishr C dX1_basis_49 ?_
    refine r_iconst C dX1_basis_50 ?_
    refine r_iand C dX1_basis_51 ?_
    refine r_if_ne C dX1_basis_52 (tgt := 58) (by decide) (fun c10 => ?_) (fun c10 => ?_)
    · have h := ie_ h c10
      refine r_aload_n C 0 dX1_basis_58 rfl rfl ?_
      refine r_iload_n C 1 dX1_basis_59 rfl rfl ?_
      refine r_iconst C dX1_basis_60 ?_
      refine r_iload C 6 dX1_basis_61 rfl ?_
      refine r_ishl C dX1_basis_63 ?_
      refine r_iconst C dX1_basis_64 ?_
      refine r_isub C dX1_basis_65 ?_
      refine r_iand C dX1_basis_66 ?_
      refine r_iload_n C 2 dX1_basis_67 rfl rfl ?_
      refine r_iload_n C 3 dX1_basis_68 rfl rfl ?_
      obtain ⟨u12, eu12, h⟩ := bs h
      obtain ⟨q11, eq11, h⟩ := bs h
      refine r_callV C (As := [vI (anI x1 ((slI 2 x6) - 1)), vI x2, vI x3]) (b := a0) (rest := []) (st1 := [vI q11.1]) (v := some (vI q11.1)) (r := (RX1, TX1, 19)) (ci := 0) rfl eu12 (m_X1_spans C.tr eq11) (lw_V q1030 q1032 qs22 q120 q1033) rfl hdX1_spans rfl rfl (Nat.le_of_ble_eq_true rfl) ⟨by decide, by decide⟩ dX1_basis_69 rfl ?_
      refine r_istore C [(7, vI q11.1), (0, vO a0), (1, vI x1), (2, vI x2), (3, vI x3), (4, vI x4), (5, vI x5), (6, vI x6)] dX1_basis_72 (by decide) rfl ?_
      refine r_iload C 5 dX1_basis_74 rfl ?_
      refine r_iload C 0 dX1_basis_76 rfl ?_
      refine r_iload C 6 dX1_basis_78 rfl ?_
      refine r_icmp_le C dX1_basis_80 (tgt := 90) (by decide) (fun c13 => ?_) (fun c13 => ?_)
      · have h := it_ h c13
        refine r_iconst C dX1_basis_90 ?_
        refine r_ior C dX1_basis_91 ?_
        refine r_istore C [(4, vI (orI x4 0)), (7, vI q11.1), (0, vO a0), (1, vI x1), (2, vI x2), (3, vI x3), (5, vI x5), (6, vI x6)] dX1_basis_92 (by decide) rfl ?_
        refine r_iload C 1 dX1_basis_94 rfl ?_
        refine r_istore C [(5, vI q11.1), (4, vI (orI x4 0)), (7, vI q11.1), (0, vO a0), (1, vI x1), (2, vI x2), (3, vI x3), (6, vI x6)] dX1_basis_96 (by decide) rfl ?_
        refine r_iinc C 7 [(6, vI (x6 + 1)), (5, vI q11.1), (4, vI (orI x4 0)), (7, vI q11.1), (0, vO a0), (1, vI x1), (2, vI x2), (3, vI x3)] dX1_basis_98 rfl (by decide) rfl ?_
        refine r_goto C dX1_basis_101 (tgt := 34) (by decide) ?_
        cases h
        refine r_sub [4, 5, 6, 7, 2, 1, 0] rfl ?_
        exact hK
      · have h := ie_ h c13
        refine r_iconst C dX1_basis_83 ?_
        refine r_iload C 7 dX1_basis_84 rfl ?_
        refine r_ishl C dX1_basis_86 ?_
        refine r_goto C dX1_basis_87 (tgt := 91) (by decide) ?_
        refine r_ior C dX1_basis_91 ?_
        refine r_istore C [(4, vI (orI x4 (slI 1 x6))), (7, vI q11.1), (0, vO a0), (1, vI x1), (2, vI x2), (3, vI x3), (5, vI x5), (6, vI x6)] dX1_basis_92 (by decide) rfl ?_
        refine r_iload C 1 dX1_basis_94 rfl ?_
        refine r_istore C [(5, vI q11.1), (4, vI (orI x4 (slI 1 x6))), (7, vI q11.1), (0, vO a0), (1, vI x1), (2, vI x2), (3, vI x3), (6, vI x6)] dX1_basis_96 (by decide) rfl ?_
        refine r_iinc C 7 [(6, vI (x6 + 1)), (5, vI q11.1), (4, vI (orI x4 (slI 1 x6))), (7, vI q11.1), (0, vO a0), (1, vI x1), (2, vI x2), (3, vI x3)] dX1_basis_98 rfl (by decide) rfl ?_
        refine r_goto C dX1_basis_101 (tgt := 34) (by decide) ?_
        cases h
        refine r_sub [4, 5, 6, 7, 2, 1, 0] rfl ?_
        exact hK
    · have h := it_ h c10
      refine r_goto C dX1_basis_55 (tgt := 98) (by decide) ?_
      refine r_iinc C 6 [(6, vI (x6 + 1)), (0, vO a0), (1, vI x1), (2, vI x2), (3, vI x3), (4, vI x4), (5, vI x5)] dX1_basis_98 rfl (by decide) rfl ?_
      refine r_goto C dX1_basis_101 (tgt := 34) (by decide) ?_
      cases h
      refine r_sub [1, 2, 3, 4, 5, 6, 0] rfl ?_
      exact hK
noncomputable def s_X1_basis_l34 (a0 : Nat) (x1 : Int) (x2 : Int) (x3 : Int) (x4 : Int) (x5 : Int) (x6 : Int) (μ : Me) : Option (Ex ⊕ (Int × Me)) :=
  whileO (fun s : Int × Int × Int × Me => s_X1_basis_l34_st a0 x1 x2 x3 s.1 s.2.1 s.2.2.1 s.2.2.2) (x4, x5, x6, μ)
theorem e_X1_basis_l34 (a0 : Nat) (x1 : Int) (x2 : Int) (x3 : Int) (x4 : Int) (x5 : Int) (x6 : Int) (μ : Me) : s_X1_basis_l34 a0 x1 x2 x3 x4 x5 x6 μ = (s_X1_basis_l34_st a0 x1 x2 x3 x4 x5 x6 μ).bind fun x => x.elim (fun s : Int × Int × Int × Me => s_X1_basis_l34 a0 x1 x2 x3 s.1 s.2.1 s.2.2.1 s.2.2.2) some := whileO_eq _ _
theorem w_X1_basis_l34 {Z : Zt} {fin : Ex ⊕ (Int × Me)} {w : (Ex ⊕ (Int × Me))} (C : CX Z yX1_basis cX1_basis (some .int) 211 8) (X : XE Z) {a0 : Nat} {x1 : Int} {x2 : Int} {x3 : Int} {x4 : Int} {x5 : Int} {x6 : Int} {μ : Me} (h : s_X1_basis_l34 a0 x1 x2 x3 x4 x5 x6 μ = some w) (hK : (fun r : Ex ⊕ (Int × Me) => r = fin) w) : WL Z (XQ Z (zoI fin) (zmI fin)) μ 34 [(0, vO a0), (1, vI x1), (2, vI x2), (3, vI x3), (4, vI x4), (5, vI x5), (6, vI x6)] [] := by
  refine whileO_walk (w := w) (fun s : Int × Int × Int × Me => WL Z (XQ Z (zoI fin) (zmI fin)) s.2.2.2 34 [(0, vO a0), (1, vI x1), (2, vI x2), (3, vI x3), (4, vI s.1), (5, vI s.2.1), (6, vI s.2.2.1)] []) (fun s v h2 hi hr => ?_) (x4, x5, x6, μ) h
  refine w_X1_basis_l34_st (fin := fin) C X h2 ?_
  cases v with
  | inl s2 => exact hi s2 rfl
  | inr r => have e := hr r rfl; subst e; exact hK
noncomputable def s_X1_basis (a0 : Nat) (x1 : Int) (x2 : Int) (x3 : Int) (μ : Me) : Option (Ex ⊕ (Int × Me)) :=
  (s_X1_isIn (w32 x2) 1 8 μ).bind fun q1 =>
  xb (s_X1_must q1.1 q1.2) (fun e3 => some (.inl e3)) fun q2 =>
  (ck q2 0 a0).bind fun _ =>
  (s_X1_spans a0 x1 x2 x3 q2).bind fun q4 =>
  (if w32 q4.1 = w32 (-1) then
  some (.inr ((-1), q4.2))
  else
  s_X1_basis_l34 a0 x1 x2 x3 0 0 0 q4.2)
theorem w_X1_basis {Z : Zt} {fin : Ex ⊕ (Int × Me)} {w : Ex ⊕ (Int × Me)} (C : CX Z yX1_basis cX1_basis (some .int) 211 8) (X : XE Z) {a0 : Nat} {x1 : Int} {x2 : Int} {x3 : Int} {μ : Me} (h : s_X1_basis a0 x1 x2 x3 μ = some w) (hK : w = fin) : WL Z (XQ Z (zoI fin) (zmI fin)) μ 0 [(0, vO a0), (1, vI x1), (2, vI x2), (3, vI x3)] [] := by
  unfold s_X1_basis at h
  refine r_iload_n C 2 dX1_basis_0 rfl rfl ?_
  refine r_i2l C dX1_basis_1 ?_
  refine r_lconst (v := 1) C dX1_basis_2 (by decide) ?_
  refine r_ldc2 (n := 8) C q1009 dX1_basis_3 (by decide) ?_
  obtain ⟨q1, eq1, h⟩ := bs h
  refine r_callS C (As := [vJ (w32 x2), vJ 1, vJ 8]) (rest := []) (st1 := [vI q1.1]) (v := some (vI q1.1)) (m_X1_isIn C.tr eq1) (lw_S q499 q500 q120 q501) hdX1_isIn rfl rfl (Nat.le_of_ble_eq_true rfl) ⟨by decide, by decide⟩ dX1_basis_6 rfl ?_
  rcases xbs h with ⟨e3, eq2, h⟩ | ⟨q2, eq2, h⟩
  · refine r_xSx C (As := [vI q1.1]) (rest := []) (μ1 := e3.2.2) (m_X1_must C.tr eq2) (lw_S q557 q558 q120 q559) hdX1_must rfl rfl (Nat.le_of_ble_eq_true rfl) ⟨by decide, by decide⟩ dX1_basis_9 ?_
    cases h
    exact r_xoutI C X hK
  · refine r_xS C (As := [vI q1.1]) (rest := []) (st1 := []) (v := none) (μ1 := q2) (m_X1_must C.tr eq2) (lw_S q557 q558 q120 q559) hdX1_must rfl rfl (Nat.le_of_ble_eq_true rfl) ⟨by decide, by decide⟩ dX1_basis_9 rfl ?_
    refine r_aload_n C 0 dX1_basis_12 rfl rfl ?_
    refine r_iload_n C 1 dX1_basis_13 rfl rfl ?_
    refine r_iload_n C 2 dX1_basis_14 rfl rfl ?_
    refine r_iload_n C 3 dX1_basis_15 rfl rfl ?_
    obtain ⟨u5, eu5, h⟩ := bs h
    obtain ⟨q4, eq4, h⟩ := bs h
    refine r_callV C (As := [vI x1, vI x2, vI x3]) (b := a0) (rest := []) (st1 := [vI q4.1]) (v := some (vI q4.1)) (r := (RX1, TX1, 19)) (ci := 0) rfl eu5 (m_X1_spans C.tr eq4) (lw_V q1030 q1032 qs22 q120 q1033) rfl hdX1_spans rfl rfl (Nat.le_of_ble_eq_true rfl) ⟨by decide, by decide⟩ dX1_basis_16 rfl ?_
    refine r_iconst C dX1_basis_19 ?_
    refine r_icmp_ne C dX1_basis_20 (tgt := 25) (by decide) (fun c6 => ?_) (fun c6 => ?_)
    · have h := ie_ h c6
      refine r_iconst C dX1_basis_25 ?_
      refine r_istore C [(4, vI 0), (0, vO a0), (1, vI x1), (2, vI x2), (3, vI x3)] dX1_basis_26 (by decide) rfl ?_
      refine r_iconst C dX1_basis_28 ?_
      refine r_istore C [(5, vI 0), (4, vI 0), (0, vO a0), (1, vI x1), (2, vI x2), (3, vI x3)] dX1_basis_29 (by decide) rfl ?_
      refine r_iconst C dX1_basis_31 ?_
      refine r_istore C [(6, vI 0), (5, vI 0), (4, vI 0), (0, vO a0), (1, vI x1), (2, vI x2), (3, vI x3)] dX1_basis_32 (by decide) rfl ?_
      refine r_sub [3, 4, 5, 6, 2, 1, 0] rfl ?_
      exact w_X1_basis_l34 (fin := fin) C X h hK
    · have h := it_ h c6
      refine r_iconst C dX1_basis_23 ?_
      cases h
      exact r_xiret C hK dX1_basis_24
theorem hdX1_basis : zhd yX1_basis 3 := by decide +kernel
theorem m_X1_basis {l : Launch} {D : va_G} {b0 : Nat} (hl : l.stackTraces = false) {a0 : Nat} {x1 : Int} {x2 : Int} {x3 : Int} {μ : Me} {w : Ex ⊕ (Int × Me)} (h : s_X1_basis a0 x1 x2 x3 μ = some w) : XN l D b0 yX1_basis (ws_ yX1_basis cX1_basis 8 (some .int)) 211 [vO a0, vI x1, vI x2, vI x3] μ (zoI w) (zmI w) :=
  XN.of hl (by decide +kernel) (Nat.le_of_ble_eq_true rfl) (fun Z C X _ _ => w_X1_basis C X h rfl)
