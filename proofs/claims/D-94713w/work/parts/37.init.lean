/-! printed by gen/walk.py -/
set_option maxRecDepth 100000
set_option maxHeartbeats 4000000

noncomputable def s_X2_init (a0 : Nat) (μ : Me) : Option (Me) :=
  (nA μ 102 400).bind fun q1 =>
  (pR q1.2 1 a0 0 q1.1).bind fun m2 =>
  (nO m2 2 0).bind fun q3 =>
  (s_X4_init q3.1  q3.2).bind fun q4 =>
  (pR q4 1 a0 1 q3.1).bind fun m5 =>
  (nO m5 3 7).bind fun q6 =>
  (s_X5_init q6.1  q6.2).bind fun q7 =>
  (pR q7 1 a0 2 q6.1).bind fun m8 =>
  some m8
theorem w_X2_init {Z : Zt} {fin : Me} {w : Me} (C : CX Z yX2_init cX2_init none 5 1) {a0 : Nat} {μ : Me} (h : s_X2_init a0 μ = some w) (hK : w = fin) : WL Z (QN Z none fin) μ 0 [(0, vO a0)] [] := by
  unfold s_X2_init at h
  refine r_aload_n C 0 dX2_init_0 rfl rfl ?_
  refine r_objInit C q163 q156 q157 (by decide) (Nat.le_of_ble_eq_true rfl) dX2_init_1 ?_
  refine r_aload_n C 0 dX2_init_4 rfl rfl ?_
  refine r_sipush C dX2_init_5 (by decide) ?_
  obtain ⟨q1, eq1, h⟩ := bs h
  refine r_newa C (t := 102) (kt := 1) (ty := .byte) eq1 rfl (Or.inr (Or.inl ⟨rfl, rfl, rfl⟩)) q174 dX2_init_8 ?_
  obtain ⟨m2, em2, h⟩ := bs h
  refine r_putRF C (c := 1) (r := (RX2, TX2, 8)) rfl 0 (by decide) rfl rfl rfl rfl em2 q249 dX2_init_10 ?_
  refine r_aload_n C 0 dX2_init_13 rfl rfl ?_
  obtain ⟨q3, eq3, h⟩ := bs h
  refine r_new C (c := 2) (r := (RX4, zT0, 0)) rfl eq3 q164 q165 q123 dX2_init_14 ?_
  refine r_dup C dX2_init_17 rfl ?_
  obtain ⟨q4, eq4, h⟩ := bs h
  refine r_callIN C (As := []) (b := q3.1) (rest := [vO q3.1, vO a0]) (st1 := [vO q3.1, vO a0]) (v := none) (m_X4_init C.tr eq4) (lw_n q166 rfl) q168 q123 q167 rfl hdX4_init rfl rfl (Nat.le_of_ble_eq_true rfl) ⟨by decide, by decide⟩ dX2_init_18 rfl ?_
  obtain ⟨m5, em5, h⟩ := bs h
  refine r_putRF C (c := 1) (r := (RX2, TX2, 8)) rfl 1 (by decide) rfl rfl rfl rfl em5 q251 dX2_init_21 ?_
  refine r_aload_n C 0 dX2_init_24 rfl rfl ?_
  obtain ⟨q6, eq6, h⟩ := bs h
  refine r_new C (c := 3) (r := (RX5, TX5, 7)) rfl eq6 q175 q176 q127 dX2_init_25 ?_
  refine r_dup C dX2_init_28 rfl ?_
  obtain ⟨q7, eq7, h⟩ := bs h
  refine r_callI C (As := []) (b := q6.1) (rest := [vO q6.1, vO a0]) (st1 := [vO q6.1, vO a0]) (v := none) (m_X5_init C.tr eq7) q220 q222 q127 q221 rfl hdX5_init rfl rfl (Nat.le_of_ble_eq_true rfl) ⟨by decide, by decide⟩ dX2_init_29 rfl ?_
  obtain ⟨m8, em8, h⟩ := bs h
  refine r_putRF C (c := 1) (r := (RX2, TX2, 8)) rfl 2 (by decide) rfl rfl rfl rfl em8 q252 dX2_init_32 ?_
  cases h
  exact r_vret C hK dX2_init_35
theorem hdX2_init : zhd yX2_init 0 := by decide +kernel
theorem m_X2_init {l : Launch} {D : va_G} {b0 : Nat} (hl : l.stackTraces = false) {a0 : Nat} {μ : Me} {w : Me} (h : s_X2_init a0 μ = some w) : MN l D b0 yX2_init (ws_ yX2_init cX2_init 1 none) 5 [vO a0] μ none w :=
  MN.of hl (by decide +kernel) (Nat.le_of_ble_eq_true rfl) (fun Z C _ _ => w_X2_init C h rfl)
noncomputable def s_X9_init_l77_st (a0 : Nat) (x1 : Int) (μ : Me) : Option ((Int × Me) ⊕ (Me)) :=
  (if w32 40 ≤ w32 x1 then
  some (.inr μ)
  else
  (gR μ 7 a0 3).bind fun v12 =>
  (nO μ 8 3).bind fun q13 =>
  (s_X10_init q13.1  q13.2).bind fun q14 =>
  (uR q14 107 8 v12 x1 q13.1).bind fun m15 =>
  some (.inl ((x1 + 1), m15)))
theorem w_X9_init_l77_st {Z : Zt} {fin : Me} {w : ((Int × Me) ⊕ (Me))} (C : CX Z yX9_init cX9_init none 3 2) {a0 : Nat} {x1 : Int} {μ : Me} (h : s_X9_init_l77_st a0 x1 μ = some w) (hK : (Sum.elim (fun s : Int × Me => WL Z (QN Z none fin) s.2 77 [(0, vO a0), (1, vI s.1)] []) (fun r : Me => r = fin)) w) : WL Z (QN Z none fin) μ 77 [(0, vO a0), (1, vI x1)] [] := by
  unfold s_X9_init_l77_st at h
  refine r_iload_n C 1 dX9_init_77 rfl rfl ?_
  refine r_bipush C dX9_init_78 (by decide) ?_
  refine r_icmp_ge C dX9_init_80 (tgt := 102) (by decide) (fun c11 => ?_) (fun c11 => ?_)
  · have h := it_ h c11
    cases h
    exact r_vret C hK dX9_init_102
  · have h := ie_ h c11
    refine r_aload_n C 0 dX9_init_83 rfl rfl ?_
    obtain ⟨v12, ev12, h⟩ := bs h
    refine r_getR C (c := 7) (r := (RX9, TX9, 10)) rfl 3 (by decide) rfl ev12 q383 dX9_init_84 ?_
    refine r_iload_n C 1 dX9_init_87 rfl rfl ?_
    obtain ⟨q13, eq13, h⟩ := bs h
    refine r_new C (c := 8) (r := (RX10, TX10, 3)) rfl eq13 q351 q354 q132 dX9_init_88 ?_
    refine r_dup C dX9_init_91 rfl ?_
    obtain ⟨q14, eq14, h⟩ := bs h
    refine r_callIN C (As := []) (b := q13.1) (rest := [vO q13.1, vI x1, vO v12]) (st1 := [vO q13.1, vI x1, vO v12]) (v := none) (m_X10_init C.tr eq14) (lw_n q355 rfl) q357 q132 q356 rfl hdX10_init rfl rfl (Nat.le_of_ble_eq_true rfl) ⟨by decide, by decide⟩ dX9_init_92 rfl ?_
    obtain ⟨m15, em15, h⟩ := bs h
    refine r_aast C (r := (RX10, TX10, 3)) em15 rfl ⟨by decide, by decide⟩ (kt := 6) rfl (Or.inl rfl) dX9_init_95 ?_
    refine r_iinc C 1 [(1, vI (x1 + 1)), (0, vO a0)] dX9_init_96 rfl (by decide) rfl ?_
    refine r_goto C dX9_init_99 (tgt := 77) (by decide) ?_
    cases h
    refine r_sub [1, 0] rfl ?_
    exact hK
noncomputable def s_X9_init_l77 (a0 : Nat) (x1 : Int) (μ : Me) : Option (Me) :=
  whileO (fun s : Int × Me => s_X9_init_l77_st a0 s.1 s.2) (x1, μ)
theorem e_X9_init_l77 (a0 : Nat) (x1 : Int) (μ : Me) : s_X9_init_l77 a0 x1 μ = (s_X9_init_l77_st a0 x1 μ).bind fun x => x.elim (fun s : Int × Me => s_X9_init_l77 a0 s.1 s.2) some := whileO_eq _ _
theorem w_X9_init_l77 {Z : Zt} {fin : Me} {w : (Me)} (C : CX Z yX9_init cX9_init none 3 2) {a0 : Nat} {x1 : Int} {μ : Me} (h : s_X9_init_l77 a0 x1 μ = some w) (hK : (fun r : Me => r = fin) w) : WL Z (QN Z none fin) μ 77 [(0, vO a0), (1, vI x1)] [] := by
  refine whileO_walk (w := w) (fun s : Int × Me => WL Z (QN Z none fin) s.2 77 [(0, vO a0), (1, vI s.1)] []) (fun s v h2 hi hr => ?_) (x1, μ) h
  refine w_X9_init_l77_st (fin := fin) C h2 ?_
  cases v with
  | inl s2 => exact hi s2 rfl
  | inr r => have e := hr r rfl; subst e; exact hK
noncomputable def s_X9_init_l50_st (a0 : Nat) (x1 : Int) (μ : Me) : Option ((Int × Me) ⊕ (Me)) :=
  (if w32 16 ≤ w32 x1 then
  (s_X9_init_l77 a0 0 μ).map Sum.inr
  else
  (gR μ 7 a0 0).bind fun v16 =>
  (nO μ 6 2).bind fun q17 =>
  (s_X8_init q17.1  q17.2).bind fun q18 =>
  (uR q18 104 6 v16 x1 q17.1).bind fun m19 =>
  some (.inl ((x1 + 1), m19)))
theorem w_X9_init_l50_st {Z : Zt} {fin : Me} {w : ((Int × Me) ⊕ (Me))} (C : CX Z yX9_init cX9_init none 3 2) {a0 : Nat} {x1 : Int} {μ : Me} (h : s_X9_init_l50_st a0 x1 μ = some w) (hK : (Sum.elim (fun s : Int × Me => WL Z (QN Z none fin) s.2 50 [(0, vO a0), (1, vI s.1)] []) (fun r : Me => r = fin)) w) : WL Z (QN Z none fin) μ 50 [(0, vO a0), (1, vI x1)] [] := by
  unfold s_X9_init_l50_st at h
  refine r_iload_n C 1 dX9_init_50 rfl rfl ?_
  refine r_bipush C dX9_init_51 (by decide) ?_
  refine r_icmp_ge C dX9_init_53 (tgt := 75) (by decide) (fun c10 => ?_) (fun c10 => ?_)
  · have h := it_ h c10
    refine r_iconst C dX9_init_75 ?_
    refine r_istore_n C [(1, vI 0), (0, vO a0)] dX9_init_76 rfl (by decide) rfl ?_
    obtain ⟨z, hz, ez⟩ := ms_ h; clear h; subst ez; have h := hz; clear hz
    refine r_sub [1, 0] rfl ?_
    exact w_X9_init_l77 (fin := fin) C h hK
  · have h := ie_ h c10
    refine r_aload_n C 0 dX9_init_56 rfl rfl ?_
    obtain ⟨v16, ev16, h⟩ := bs h
    refine r_getR C (c := 7) (r := (RX9, TX9, 10)) rfl 0 (by decide) rfl ev16 q377 dX9_init_57 ?_
    refine r_iload_n C 1 dX9_init_60 rfl rfl ?_
    obtain ⟨q17, eq17, h⟩ := bs h
    refine r_new C (c := 6) (r := (RX8, TX8, 2)) rfl eq17 q345 q294 q130 dX9_init_61 ?_
    refine r_dup C dX9_init_64 rfl ?_
    obtain ⟨q18, eq18, h⟩ := bs h
    refine r_callIN C (As := []) (b := q17.1) (rest := [vO q17.1, vI x1, vO v16]) (st1 := [vO q17.1, vI x1, vO v16]) (v := none) (m_X8_init C.tr eq18) (lw_n q353 rfl) q297 q130 q296 rfl hdX8_init rfl rfl (Nat.le_of_ble_eq_true rfl) ⟨by decide, by decide⟩ dX9_init_65 rfl ?_
    obtain ⟨m19, em19, h⟩ := bs h
    refine r_aast C (r := (RX8, TX8, 2)) em19 rfl ⟨by decide, by decide⟩ (kt := 3) rfl (Or.inl rfl) dX9_init_68 ?_
    refine r_iinc C 1 [(1, vI (x1 + 1)), (0, vO a0)] dX9_init_69 rfl (by decide) rfl ?_
    refine r_goto C dX9_init_72 (tgt := 50) (by decide) ?_
    cases h
    refine r_sub [1, 0] rfl ?_
    exact hK
noncomputable def s_X9_init_l50 (a0 : Nat) (x1 : Int) (μ : Me) : Option (Me) :=
  whileO (fun s : Int × Me => s_X9_init_l50_st a0 s.1 s.2) (x1, μ)
theorem e_X9_init_l50 (a0 : Nat) (x1 : Int) (μ : Me) : s_X9_init_l50 a0 x1 μ = (s_X9_init_l50_st a0 x1 μ).bind fun x => x.elim (fun s : Int × Me => s_X9_init_l50 a0 s.1 s.2) some := whileO_eq _ _
theorem w_X9_init_l50 {Z : Zt} {fin : Me} {w : (Me)} (C : CX Z yX9_init cX9_init none 3 2) {a0 : Nat} {x1 : Int} {μ : Me} (h : s_X9_init_l50 a0 x1 μ = some w) (hK : (fun r : Me => r = fin) w) : WL Z (QN Z none fin) μ 50 [(0, vO a0), (1, vI x1)] [] := by
  refine whileO_walk (w := w) (fun s : Int × Me => WL Z (QN Z none fin) s.2 50 [(0, vO a0), (1, vI s.1)] []) (fun s v h2 hi hr => ?_) (x1, μ) h
  refine w_X9_init_l50_st (fin := fin) C h2 ?_
  cases v with
  | inl s2 => exact hi s2 rfl
  | inr r => have e := hr r rfl; subst e; exact hK
noncomputable def s_X9_init (a0 : Nat) (μ : Me) : Option (Me) :=
  (nA μ 104 16).bind fun q1 =>
  (pR q1.2 7 a0 0 q1.1).bind fun m2 =>
  (nM m2 8 4).bind fun q3 =>
  (pR q3.2 7 a0 1 q3.1).bind fun m4 =>
  (nA m4 106 8).bind fun q5 =>
  (pR q5.2 7 a0 2 q5.1).bind fun m6 =>
  (nA m6 107 40).bind fun q7 =>
  (pR q7.2 7 a0 3 q7.1).bind fun m8 =>
  (pI m8 7 a0 4 11).bind fun m9 =>
  s_X9_init_l50 a0 0 m9
theorem w_X9_init {Z : Zt} {fin : Me} {w : Me} (C : CX Z yX9_init cX9_init none 3 2) {a0 : Nat} {μ : Me} (h : s_X9_init a0 μ = some w) (hK : w = fin) : WL Z (QN Z none fin) μ 0 [(0, vO a0)] [] := by
  unfold s_X9_init at h
  refine r_aload_n C 0 dX9_init_0 rfl rfl ?_
  refine r_objInit C q344 q156 q157 (by decide) (Nat.le_of_ble_eq_true rfl) dX9_init_1 ?_
  refine r_aload_n C 0 dX9_init_4 rfl rfl ?_
  refine r_bipush C dX9_init_5 (by decide) ?_
  obtain ⟨q1, eq1, h⟩ := bs h
  refine r_anew C (t := 104) (kt := 3) eq1 rfl ⟨by decide, by decide⟩ C.kt.2.2.1 q345 dX9_init_7 ?_
  obtain ⟨m2, em2, h⟩ := bs h
  refine r_putRF C (c := 7) (r := (RX9, TX9, 10)) rfl 0 (by decide) rfl rfl rfl rfl em2 q377 dX9_init_10 ?_
  refine r_aload_n C 0 dX9_init_13 rfl rfl ?_
  refine r_bipush C dX9_init_14 (by decide) ?_
  refine r_iconst C dX9_init_16 ?_
  obtain ⟨q3, eq3, h⟩ := bs h
  refine r_multi C eq3 q347 q315 dX9_init_17 ?_
  obtain ⟨m4, em4, h⟩ := bs h
  refine r_putRF C (c := 7) (r := (RX9, TX9, 10)) rfl 1 (by decide) rfl rfl rfl rfl em4 q379 dX9_init_21 ?_
  refine r_aload_n C 0 dX9_init_24 rfl rfl ?_
  refine r_bipush C dX9_init_25 (by decide) ?_
  obtain ⟨q5, eq5, h⟩ := bs h
  refine r_anew C (t := 106) (kt := 5) eq5 rfl ⟨by decide, by decide⟩ C.kt.2.2.2.1 q349 dX9_init_27 ?_
  obtain ⟨m6, em6, h⟩ := bs h
  refine r_putRF C (c := 7) (r := (RX9, TX9, 10)) rfl 2 (by decide) rfl rfl rfl rfl em6 q381 dX9_init_30 ?_
  refine r_aload_n C 0 dX9_init_33 rfl rfl ?_
  refine r_bipush C dX9_init_34 (by decide) ?_
  obtain ⟨q7, eq7, h⟩ := bs h
  refine r_anew C (t := 107) (kt := 6) eq7 rfl ⟨by decide, by decide⟩ C.kt.2.2.2.2.1 q351 dX9_init_36 ?_
  obtain ⟨m8, em8, h⟩ := bs h
  refine r_putRF C (c := 7) (r := (RX9, TX9, 10)) rfl 3 (by decide) rfl rfl rfl rfl em8 q383 dX9_init_39 ?_
  refine r_aload_n C 0 dX9_init_42 rfl rfl ?_
  refine r_bipush C dX9_init_43 (by decide) ?_
  obtain ⟨m9, em9, h⟩ := bs h
  refine r_putI C (c := 7) (r := (RX9, TX9, 10)) rfl 4 (by decide) rfl ⟨rfl, rfl⟩ rfl em9 q385 dX9_init_45 ?_
  refine r_iconst C dX9_init_48 ?_
  refine r_istore_n C [(1, vI 0), (0, vO a0)] dX9_init_49 rfl (by decide) rfl ?_
  refine r_sub [1, 0] rfl ?_
  exact w_X9_init_l50 (fin := fin) C h hK
theorem hdX9_init : zhd yX9_init 0 := by decide +kernel
theorem m_X9_init {l : Launch} {D : va_G} {b0 : Nat} (hl : l.stackTraces = false) {a0 : Nat} {μ : Me} {w : Me} (h : s_X9_init a0 μ = some w) : MN l D b0 yX9_init (ws_ yX9_init cX9_init 2 none) 3 [vO a0] μ none w :=
  MN.of hl (by decide +kernel) (Nat.le_of_ble_eq_true rfl) (fun Z C _ _ => w_X9_init C h rfl)
noncomputable def s_X1_init_l169_st (a0 : Nat) (x1 : Int) (μ : Me) : Option ((Int × Me) ⊕ (Me)) :=
  (if w32 64 ≤ w32 x1 then
  some (.inr μ)
  else
  (gR μ 0 a0 4).bind fun v43 =>
  (nO μ 6 2).bind fun q44 =>
  (s_X8_init q44.1  q44.2).bind fun q45 =>
  (uR q45 104 6 v43 x1 q44.1).bind fun m46 =>
  some (.inl ((x1 + 1), m46)))
theorem w_X1_init_l169_st {Z : Zt} {fin : Me} {w : ((Int × Me) ⊕ (Me))} (C : CX Z yX1_init cX1_init none 6 2) {a0 : Nat} {x1 : Int} {μ : Me} (h : s_X1_init_l169_st a0 x1 μ = some w) (hK : (Sum.elim (fun s : Int × Me => WL Z (QN Z none fin) s.2 169 [(0, vO a0), (1, vI s.1)] []) (fun r : Me => r = fin)) w) : WL Z (QN Z none fin) μ 169 [(0, vO a0), (1, vI x1)] [] := by
  unfold s_X1_init_l169_st at h
  refine r_iload_n C 1 dX1_init_169 rfl rfl ?_
  refine r_bipush C dX1_init_170 (by decide) ?_
  refine r_icmp_ge C dX1_init_172 (tgt := 194) (by decide) (fun c42 => ?_) (fun c42 => ?_)
  · have h := it_ h c42
    cases h
    exact r_vret C hK dX1_init_194
  · have h := ie_ h c42
    refine r_aload_n C 0 dX1_init_175 rfl rfl ?_
    obtain ⟨v43, ev43, h⟩ := bs h
    refine r_getR C (c := 0) (r := (RX1, TX1, 19)) rfl 4 (by decide) rfl ev43 q428 dX1_init_176 ?_
    refine r_iload_n C 1 dX1_init_179 rfl rfl ?_
    obtain ⟨q44, eq44, h⟩ := bs h
    refine r_new C (c := 6) (r := (RX8, TX8, 2)) rfl eq44 q418 q294 q130 dX1_init_180 ?_
    refine r_dup C dX1_init_183 rfl ?_
    obtain ⟨q45, eq45, h⟩ := bs h
    refine r_callIN C (As := []) (b := q44.1) (rest := [vO q44.1, vI x1, vO v43]) (st1 := [vO q44.1, vI x1, vO v43]) (v := none) (m_X8_init C.tr eq45) (lw_n q419 rfl) q297 q130 q296 rfl hdX8_init rfl rfl (Nat.le_of_ble_eq_true rfl) ⟨by decide, by decide⟩ dX1_init_184 rfl ?_
    obtain ⟨m46, em46, h⟩ := bs h
    refine r_aast C (r := (RX8, TX8, 2)) em46 rfl ⟨by decide, by decide⟩ (kt := 3) rfl (Or.inl rfl) dX1_init_187 ?_
    refine r_iinc C 1 [(1, vI (x1 + 1)), (0, vO a0)] dX1_init_188 rfl (by decide) rfl ?_
    refine r_goto C dX1_init_191 (tgt := 169) (by decide) ?_
    cases h
    refine r_sub [1, 0] rfl ?_
    exact hK
noncomputable def s_X1_init_l169 (a0 : Nat) (x1 : Int) (μ : Me) : Option (Me) :=
  whileO (fun s : Int × Me => s_X1_init_l169_st a0 s.1 s.2) (x1, μ)
theorem e_X1_init_l169 (a0 : Nat) (x1 : Int) (μ : Me) : s_X1_init_l169 a0 x1 μ = (s_X1_init_l169_st a0 x1 μ).bind fun x => x.elim (fun s : Int × Me => s_X1_init_l169 a0 s.1 s.2) some := whileO_eq _ _
theorem w_X1_init_l169 {Z : Zt} {fin : Me} {w : (Me)} (C : CX Z yX1_init cX1_init none 6 2) {a0 : Nat} {x1 : Int} {μ : Me} (h : s_X1_init_l169 a0 x1 μ = some w) (hK : (fun r : Me => r = fin) w) : WL Z (QN Z none fin) μ 169 [(0, vO a0), (1, vI x1)] [] := by
  refine whileO_walk (w := w) (fun s : Int × Me => WL Z (QN Z none fin) s.2 169 [(0, vO a0), (1, vI s.1)] []) (fun s v h2 hi hr => ?_) (x1, μ) h
  refine w_X1_init_l169_st (fin := fin) C h2 ?_
  cases v with
  | inl s2 => exact hi s2 rfl
  | inr r => have e := hr r rfl; subst e; exact hK
noncomputable def s_X1_init (a0 : Nat) (μ : Me) : Option (Me) :=
  (nO μ 1 8).bind fun q1 =>
  (s_X2_init q1.1  q1.2).bind fun q2 =>
  (pR q2 0 a0 0 q1.1).bind fun m3 =>
  (nO m3 4 6).bind fun q4 =>
  (s_X6_init q4.1  q4.2).bind fun q5 =>
  (pR q5 0 a0 1 q4.1).bind fun m6 =>
  (nO m6 7 10).bind fun q7 =>
  (s_X9_init q7.1  q7.2).bind fun q8 =>
  (pR q8 0 a0 2 q7.1).bind fun m9 =>
  (nO m9 7 10).bind fun q10 =>
  (s_X9_init q10.1  q10.2).bind fun q11 =>
  (pR q11 0 a0 3 q10.1).bind fun m12 =>
  (nA m12 104 64).bind fun q13 =>
  (pR q13.2 0 a0 4 q13.1).bind fun m14 =>
  (nO m14 6 2).bind fun q15 =>
  (s_X8_init q15.1  q15.2).bind fun q16 =>
  (pR q16 0 a0 5 q15.1).bind fun m17 =>
  (nO m17 6 2).bind fun q18 =>
  (s_X8_init q18.1  q18.2).bind fun q19 =>
  (pR q19 0 a0 6 q18.1).bind fun m20 =>
  (nO m20 6 2).bind fun q21 =>
  (s_X8_init q21.1  q21.2).bind fun q22 =>
  (pR q22 0 a0 7 q21.1).bind fun m23 =>
  (nO m23 6 2).bind fun q24 =>
  (s_X8_init q24.1  q24.2).bind fun q25 =>
  (pR q25 0 a0 8 q24.1).bind fun m26 =>
  (nM m26 8 492).bind fun q27 =>
  (pR q27.2 0 a0 9 q27.1).bind fun m28 =>
  (nM m28 20 9).bind fun q29 =>
  (pR q29.2 0 a0 10 q29.1).bind fun m30 =>
  (nA m30 101 3).bind fun q31 =>
  (pR q31.2 0 a0 11 q31.1).bind fun m32 =>
  (nA m32 101 3).bind fun q33 =>
  (pR q33.2 0 a0 12 q33.1).bind fun m34 =>
  (nA m34 103 3).bind fun q35 =>
  (pR q35.2 0 a0 13 q35.1).bind fun m36 =>
  (nA m36 103 4).bind fun q37 =>
  (pR q37.2 0 a0 14 q37.1).bind fun m38 =>
  (nA m38 101 20).bind fun q39 =>
  (pR q39.2 0 a0 15 q39.1).bind fun m40 =>
  (pI m40 0 a0 16 (-1)).bind fun m41 =>
  s_X1_init_l169 a0 0 m41
theorem w_X1_init {Z : Zt} {fin : Me} {w : Me} (C : CX Z yX1_init cX1_init none 6 2) {a0 : Nat} {μ : Me} (h : s_X1_init a0 μ = some w) (hK : w = fin) : WL Z (QN Z none fin) μ 0 [(0, vO a0)] [] := by
  unfold s_X1_init at h
  refine r_aload_n C 0 dX1_init_0 rfl rfl ?_
  refine r_objInit C q155 q156 q157 (by decide) (Nat.le_of_ble_eq_true rfl) dX1_init_1 ?_
  refine r_aload_n C 0 dX1_init_4 rfl rfl ?_
  obtain ⟨q1, eq1, h⟩ := bs h
  refine r_new C (c := 1) (r := (RX2, TX2, 8)) rfl eq1 q158 q159 q121 dX1_init_5 ?_
  refine r_dup C dX1_init_8 rfl ?_
  obtain ⟨q2, eq2, h⟩ := bs h
  refine r_callIN C (As := []) (b := q1.1) (rest := [vO q1.1, vO a0]) (st1 := [vO q1.1, vO a0]) (v := none) (m_X2_init C.tr eq2) (lw_n q160 rfl) q162 q121 q161 rfl hdX2_init rfl rfl (Nat.le_of_ble_eq_true rfl) ⟨by decide, by decide⟩ dX1_init_9 rfl ?_
  obtain ⟨m3, em3, h⟩ := bs h
  refine r_putRF C (c := 0) (r := (RX1, TX1, 19)) rfl 0 (by decide) rfl rfl rfl rfl em3 q421 dX1_init_12 ?_
  refine r_aload_n C 0 dX1_init_15 rfl rfl ?_
  obtain ⟨q4, eq4, h⟩ := bs h
  refine r_new C (c := 4) (r := (RX6, TX6, 6)) rfl eq4 q275 q276 q128 dX1_init_16 ?_
  refine r_dup C dX1_init_19 rfl ?_
  obtain ⟨q5, eq5, h⟩ := bs h
  refine r_callIN C (As := []) (b := q4.1) (rest := [vO q4.1, vO a0]) (st1 := [vO q4.1, vO a0]) (v := none) (m_X6_init C.tr eq5) (lw_n q277 rfl) q279 q128 q278 rfl hdX6_init rfl rfl (Nat.le_of_ble_eq_true rfl) ⟨by decide, by decide⟩ dX1_init_20 rfl ?_
  obtain ⟨m6, em6, h⟩ := bs h
  refine r_putRF C (c := 0) (r := (RX1, TX1, 19)) rfl 1 (by decide) rfl rfl rfl rfl em6 q422 dX1_init_23 ?_
  refine r_aload_n C 0 dX1_init_26 rfl rfl ?_
  obtain ⟨q7, eq7, h⟩ := bs h
  refine r_new C (c := 7) (r := (RX9, TX9, 10)) rfl eq7 q339 q340 q131 dX1_init_27 ?_
  refine r_dup C dX1_init_30 rfl ?_
  obtain ⟨q8, eq8, h⟩ := bs h
  refine r_callI C (As := []) (b := q7.1) (rest := [vO q7.1, vO a0]) (st1 := [vO q7.1, vO a0]) (v := none) (m_X9_init C.tr eq8) q341 q343 q131 q342 rfl hdX9_init rfl rfl (Nat.le_of_ble_eq_true rfl) ⟨by decide, by decide⟩ dX1_init_31 rfl ?_
  obtain ⟨m9, em9, h⟩ := bs h
  refine r_putRF C (c := 0) (r := (RX1, TX1, 19)) rfl 2 (by decide) rfl rfl rfl rfl em9 q426 dX1_init_34 ?_
  refine r_aload_n C 0 dX1_init_37 rfl rfl ?_
  obtain ⟨q10, eq10, h⟩ := bs h
  refine r_new C (c := 7) (r := (RX9, TX9, 10)) rfl eq10 q339 q340 q131 dX1_init_38 ?_
  refine r_dup C dX1_init_41 rfl ?_
  obtain ⟨q11, eq11, h⟩ := bs h
  refine r_callI C (As := []) (b := q10.1) (rest := [vO q10.1, vO a0]) (st1 := [vO q10.1, vO a0]) (v := none) (m_X9_init C.tr eq11) q341 q343 q131 q342 rfl hdX9_init rfl rfl (Nat.le_of_ble_eq_true rfl) ⟨by decide, by decide⟩ dX1_init_42 rfl ?_
  obtain ⟨m12, em12, h⟩ := bs h
  refine r_putRF C (c := 0) (r := (RX1, TX1, 19)) rfl 3 (by decide) rfl rfl rfl rfl em12 q427 dX1_init_45 ?_
  refine r_aload_n C 0 dX1_init_48 rfl rfl ?_
  refine r_bipush C dX1_init_49 (by decide) ?_
  obtain ⟨q13, eq13, h⟩ := bs h
  refine r_anew C (t := 104) (kt := 3) eq13 rfl ⟨by decide, by decide⟩ C.kt.2.2.1 q418 dX1_init_51 ?_
  obtain ⟨m14, em14, h⟩ := bs h
  refine r_putRF C (c := 0) (r := (RX1, TX1, 19)) rfl 4 (by decide) rfl rfl rfl rfl em14 q428 dX1_init_54 ?_
  refine r_aload_n C 0 dX1_init_57 rfl rfl ?_
  obtain ⟨q15, eq15, h⟩ := bs h
  refine r_new C (c := 6) (r := (RX8, TX8, 2)) rfl eq15 q418 q294 q130 dX1_init_58 ?_
  refine r_dup C dX1_init_61 rfl ?_
  obtain ⟨q16, eq16, h⟩ := bs h
  refine r_callIN C (As := []) (b := q15.1) (rest := [vO q15.1, vO a0]) (st1 := [vO q15.1, vO a0]) (v := none) (m_X8_init C.tr eq16) (lw_n q419 rfl) q297 q130 q296 rfl hdX8_init rfl rfl (Nat.le_of_ble_eq_true rfl) ⟨by decide, by decide⟩ dX1_init_62 rfl ?_
  obtain ⟨m17, em17, h⟩ := bs h
  refine r_putRF C (c := 0) (r := (RX1, TX1, 19)) rfl 5 (by decide) rfl rfl rfl rfl em17 q433 dX1_init_65 ?_
  refine r_aload_n C 0 dX1_init_68 rfl rfl ?_
  obtain ⟨q18, eq18, h⟩ := bs h
  refine r_new C (c := 6) (r := (RX8, TX8, 2)) rfl eq18 q418 q294 q130 dX1_init_69 ?_
  refine r_dup C dX1_init_72 rfl ?_
  obtain ⟨q19, eq19, h⟩ := bs h
  refine r_callIN C (As := []) (b := q18.1) (rest := [vO q18.1, vO a0]) (st1 := [vO q18.1, vO a0]) (v := none) (m_X8_init C.tr eq19) (lw_n q419 rfl) q297 q130 q296 rfl hdX8_init rfl rfl (Nat.le_of_ble_eq_true rfl) ⟨by decide, by decide⟩ dX1_init_73 rfl ?_
  obtain ⟨m20, em20, h⟩ := bs h
  refine r_putRF C (c := 0) (r := (RX1, TX1, 19)) rfl 6 (by decide) rfl rfl rfl rfl em20 q434 dX1_init_76 ?_
  refine r_aload_n C 0 dX1_init_79 rfl rfl ?_
  obtain ⟨q21, eq21, h⟩ := bs h
  refine r_new C (c := 6) (r := (RX8, TX8, 2)) rfl eq21 q418 q294 q130 dX1_init_80 ?_
  refine r_dup C dX1_init_83 rfl ?_
  obtain ⟨q22, eq22, h⟩ := bs h
  refine r_callIN C (As := []) (b := q21.1) (rest := [vO q21.1, vO a0]) (st1 := [vO q21.1, vO a0]) (v := none) (m_X8_init C.tr eq22) (lw_n q419 rfl) q297 q130 q296 rfl hdX8_init rfl rfl (Nat.le_of_ble_eq_true rfl) ⟨by decide, by decide⟩ dX1_init_84 rfl ?_
  obtain ⟨m23, em23, h⟩ := bs h
  refine r_putRF C (c := 0) (r := (RX1, TX1, 19)) rfl 7 (by decide) rfl rfl rfl rfl em23 q435 dX1_init_87 ?_
  refine r_aload_n C 0 dX1_init_90 rfl rfl ?_
  obtain ⟨q24, eq24, h⟩ := bs h
  refine r_new C (c := 6) (r := (RX8, TX8, 2)) rfl eq24 q418 q294 q130 dX1_init_91 ?_
  refine r_dup C dX1_init_94 rfl ?_
  obtain ⟨q25, eq25, h⟩ := bs h
  refine r_callIN C (As := []) (b := q24.1) (rest := [vO q24.1, vO a0]) (st1 := [vO q24.1, vO a0]) (v := none) (m_X8_init C.tr eq25) (lw_n q419 rfl) q297 q130 q296 rfl hdX8_init rfl rfl (Nat.le_of_ble_eq_true rfl) ⟨by decide, by decide⟩ dX1_init_95 rfl ?_
  obtain ⟨m26, em26, h⟩ := bs h
  refine r_putRF C (c := 0) (r := (RX1, TX1, 19)) rfl 8 (by decide) rfl rfl rfl rfl em26 q436 dX1_init_98 ?_
  refine r_aload_n C 0 dX1_init_101 rfl rfl ?_
  refine r_bipush C dX1_init_102 (by decide) ?_
  refine r_sipush C dX1_init_104 (by decide) ?_
  obtain ⟨q27, eq27, h⟩ := bs h
  refine r_multi C eq27 q420 q315 dX1_init_107 ?_
  obtain ⟨m28, em28, h⟩ := bs h
  refine r_putRF C (c := 0) (r := (RX1, TX1, 19)) rfl 9 (by decide) rfl rfl rfl rfl em28 q437 dX1_init_111 ?_
  refine r_aload_n C 0 dX1_init_114 rfl rfl ?_
  refine r_bipush C dX1_init_115 (by decide) ?_
  refine r_bipush C dX1_init_117 (by decide) ?_
  obtain ⟨q29, eq29, h⟩ := bs h
  refine r_multi C eq29 q420 q315 dX1_init_119 ?_
  obtain ⟨m30, em30, h⟩ := bs h
  refine r_putRF C (c := 0) (r := (RX1, TX1, 19)) rfl 10 (by decide) rfl rfl rfl rfl em30 q438 dX1_init_123 ?_
  refine r_aload_n C 0 dX1_init_126 rfl rfl ?_
  refine r_iconst C dX1_init_127 ?_
  obtain ⟨q31, eq31, h⟩ := bs h
  refine r_newa C (t := 101) (kt := 0) (ty := .int) eq31 rfl (Or.inl ⟨rfl, rfl, rfl⟩) q315 dX1_init_128 ?_
  obtain ⟨m32, em32, h⟩ := bs h
  refine r_putRF C (c := 0) (r := (RX1, TX1, 19)) rfl 11 (by decide) rfl rfl rfl rfl em32 q439 dX1_init_130 ?_
  refine r_aload_n C 0 dX1_init_133 rfl rfl ?_
  refine r_iconst C dX1_init_134 ?_
  obtain ⟨q33, eq33, h⟩ := bs h
  refine r_newa C (t := 101) (kt := 0) (ty := .int) eq33 rfl (Or.inl ⟨rfl, rfl, rfl⟩) q315 dX1_init_135 ?_
  obtain ⟨m34, em34, h⟩ := bs h
  refine r_putRF C (c := 0) (r := (RX1, TX1, 19)) rfl 12 (by decide) rfl rfl rfl rfl em34 q440 dX1_init_137 ?_
  refine r_aload_n C 0 dX1_init_140 rfl rfl ?_
  refine r_iconst C dX1_init_141 ?_
  obtain ⟨q35, eq35, h⟩ := bs h
  refine r_newa C (t := 103) (kt := 2) (ty := .long) eq35 rfl (Or.inr (Or.inr ⟨rfl, rfl, rfl⟩)) q486 dX1_init_142 ?_
  obtain ⟨m36, em36, h⟩ := bs h
  refine r_putRF C (c := 0) (r := (RX1, TX1, 19)) rfl 13 (by decide) rfl rfl rfl rfl em36 q441 dX1_init_144 ?_
  refine r_aload_n C 0 dX1_init_147 rfl rfl ?_
  refine r_iconst C dX1_init_148 ?_
  obtain ⟨q37, eq37, h⟩ := bs h
  refine r_newa C (t := 103) (kt := 2) (ty := .long) eq37 rfl (Or.inr (Or.inr ⟨rfl, rfl, rfl⟩)) q486 dX1_init_149 ?_
  obtain ⟨m38, em38, h⟩ := bs h
  refine r_putRF C (c := 0) (r := (RX1, TX1, 19)) rfl 14 (by decide) rfl rfl rfl rfl em38 q442 dX1_init_151 ?_
  refine r_aload_n C 0 dX1_init_154 rfl rfl ?_
  refine r_bipush C dX1_init_155 (by decide) ?_
  obtain ⟨q39, eq39, h⟩ := bs h
  refine r_newa C (t := 101) (kt := 0) (ty := .int) eq39 rfl (Or.inl ⟨rfl, rfl, rfl⟩) q315 dX1_init_157 ?_
  obtain ⟨m40, em40, h⟩ := bs h
  refine r_putRF C (c := 0) (r := (RX1, TX1, 19)) rfl 15 (by decide) rfl rfl rfl rfl em40 q443 dX1_init_159 ?_
  refine r_aload_n C 0 dX1_init_162 rfl rfl ?_
  refine r_iconst C dX1_init_163 ?_
  obtain ⟨m41, em41, h⟩ := bs h
  refine r_putI C (c := 0) (r := (RX1, TX1, 19)) rfl 16 (by decide) rfl ⟨rfl, rfl⟩ rfl em41 q444 dX1_init_164 ?_
  refine r_iconst C dX1_init_167 ?_
  refine r_istore_n C [(1, vI 0), (0, vO a0)] dX1_init_168 rfl (by decide) rfl ?_
  refine r_sub [1, 0] rfl ?_
  exact w_X1_init_l169 (fin := fin) C h hK
theorem hdX1_init : zhd yX1_init 0 := by decide +kernel
theorem m_X1_init {l : Launch} {D : va_G} {b0 : Nat} (hl : l.stackTraces = false) {a0 : Nat} {μ : Me} {w : Me} (h : s_X1_init a0 μ = some w) : MN l D b0 yX1_init (ws_ yX1_init cX1_init 2 none) 6 [vO a0] μ none w :=
  MN.of hl (by decide +kernel) (Nat.le_of_ble_eq_true rfl) (fun Z C _ _ => w_X1_init C h rfl)
noncomputable def s_X11_init (a0 : Nat) (μ : Me) : Option (Me) :=
  (nA μ 101 4007).bind fun q1 =>
  (pR q1.2 9 a0 1 q1.1).bind fun m2 =>
  (nA m2 101 3606).bind fun q3 =>
  (pR q3.2 9 a0 2 q3.1).bind fun m4 =>
  (nA m4 101 48).bind fun q5 =>
  (pR q5.2 9 a0 4 q5.1).bind fun m6 =>
  (nA m6 101 1968).bind fun q7 =>
  (pR q7.2 9 a0 5 q7.1).bind fun m8 =>
  (nA m8 102 400).bind fun q9 =>
  (pR q9.2 9 a0 10 q9.1).bind fun m10 =>
  (pI m10 9 a0 17 (-1)).bind fun m11 =>
  (nA m11 101 5).bind fun q12 =>
  (pR q12.2 9 a0 18 q12.1).bind fun m13 =>
  (nA m13 101 48).bind fun q14 =>
  (pR q14.2 9 a0 20 q14.1).bind fun m15 =>
  (nA m15 103 1261).bind fun q16 =>
  (pR q16.2 9 a0 21 q16.1).bind fun m17 =>
  (nA m17 101 3936).bind fun q18 =>
  (pR q18.2 9 a0 22 q18.1).bind fun m19 =>
  (nA m19 101 108).bind fun q20 =>
  (pR q20.2 9 a0 23 q20.1).bind fun m21 =>
  (nA m21 101 361).bind fun q22 =>
  (pR q22.2 9 a0 25 q22.1).bind fun m23 =>
  (nA m23 101 180).bind fun q24 =>
  (pR q24.2 9 a0 26 q24.1).bind fun m25 =>
  (nA m25 101 3).bind fun q26 =>
  (pR q26.2 9 a0 27 q26.1).bind fun m27 =>
  (nA m27 101 3).bind fun q28 =>
  (pR q28.2 9 a0 28 q28.1).bind fun m29 =>
  (nA m29 103 4).bind fun q30 =>
  (pR q30.2 9 a0 34 q30.1).bind fun m31 =>
  (gR m31 9 a0 1).bind fun v32 =>
  (uI m31 v32 0 11).bind fun m33 =>
  some m33
theorem w_X11_init {Z : Zt} {fin : Me} {w : Me} (C : CX Z yX11_init cX11_init none 1 1) {a0 : Nat} {μ : Me} (h : s_X11_init a0 μ = some w) (hK : w = fin) : WL Z (QN Z none fin) μ 0 [(0, vO a0)] [] := by
  unfold s_X11_init at h
  refine r_aload_n C 0 dX11_init_0 rfl rfl ?_
  refine r_objInit C q1312 q156 q157 (by decide) (Nat.le_of_ble_eq_true rfl) dX11_init_1 ?_
  refine r_aload_n C 0 dX11_init_4 rfl rfl ?_
  refine r_sipush C dX11_init_5 (by decide) ?_
  obtain ⟨q1, eq1, h⟩ := bs h
  refine r_newa C (t := 101) (kt := 0) (ty := .int) eq1 rfl (Or.inl ⟨rfl, rfl, rfl⟩) q315 dX11_init_8 ?_
  obtain ⟨m2, em2, h⟩ := bs h
  refine r_putRF C (c := 9) (r := (RX11, TX11, 38)) rfl 1 (by decide) rfl rfl rfl rfl em2 q1314 dX11_init_10 ?_
  refine r_aload_n C 0 dX11_init_13 rfl rfl ?_
  refine r_sipush C dX11_init_14 (by decide) ?_
  obtain ⟨q3, eq3, h⟩ := bs h
  refine r_newa C (t := 101) (kt := 0) (ty := .int) eq3 rfl (Or.inl ⟨rfl, rfl, rfl⟩) q315 dX11_init_17 ?_
  obtain ⟨m4, em4, h⟩ := bs h
  refine r_putRF C (c := 9) (r := (RX11, TX11, 38)) rfl 2 (by decide) rfl rfl rfl rfl em4 q1315 dX11_init_19 ?_
  refine r_aload_n C 0 dX11_init_22 rfl rfl ?_
  refine r_bipush C dX11_init_23 (by decide) ?_
  obtain ⟨q5, eq5, h⟩ := bs h
  refine r_newa C (t := 101) (kt := 0) (ty := .int) eq5 rfl (Or.inl ⟨rfl, rfl, rfl⟩) q315 dX11_init_25 ?_
  obtain ⟨m6, em6, h⟩ := bs h
  refine r_putRF C (c := 9) (r := (RX11, TX11, 38)) rfl 4 (by decide) rfl rfl rfl rfl em6 q1317 dX11_init_27 ?_
  refine r_aload_n C 0 dX11_init_30 rfl rfl ?_
  refine r_sipush C dX11_init_31 (by decide) ?_
  obtain ⟨q7, eq7, h⟩ := bs h
  refine r_newa C (t := 101) (kt := 0) (ty := .int) eq7 rfl (Or.inl ⟨rfl, rfl, rfl⟩) q315 dX11_init_34 ?_
  obtain ⟨m8, em8, h⟩ := bs h
  refine r_putRF C (c := 9) (r := (RX11, TX11, 38)) rfl 5 (by decide) rfl rfl rfl rfl em8 q1318 dX11_init_36 ?_
  refine r_aload_n C 0 dX11_init_39 rfl rfl ?_
  refine r_sipush C dX11_init_40 (by decide) ?_
  obtain ⟨q9, eq9, h⟩ := bs h
  refine r_newa C (t := 102) (kt := 1) (ty := .byte) eq9 rfl (Or.inr (Or.inl ⟨rfl, rfl, rfl⟩)) q174 dX11_init_43 ?_
  obtain ⟨m10, em10, h⟩ := bs h
  refine r_putRF C (c := 9) (r := (RX11, TX11, 38)) rfl 10 (by decide) rfl rfl rfl rfl em10 q1323 dX11_init_45 ?_
  refine r_aload_n C 0 dX11_init_48 rfl rfl ?_
  refine r_iconst C dX11_init_49 ?_
  obtain ⟨m11, em11, h⟩ := bs h
  refine r_putI C (c := 9) (r := (RX11, TX11, 38)) rfl 17 (by decide) rfl ⟨rfl, rfl⟩ rfl em11 q1330 dX11_init_50 ?_
  refine r_aload_n C 0 dX11_init_53 rfl rfl ?_
  refine r_iconst C dX11_init_54 ?_
  obtain ⟨q12, eq12, h⟩ := bs h
  refine r_newa C (t := 101) (kt := 0) (ty := .int) eq12 rfl (Or.inl ⟨rfl, rfl, rfl⟩) q315 dX11_init_55 ?_
  obtain ⟨m13, em13, h⟩ := bs h
  refine r_putRF C (c := 9) (r := (RX11, TX11, 38)) rfl 18 (by decide) rfl rfl rfl rfl em13 q1331 dX11_init_57 ?_
  refine r_aload_n C 0 dX11_init_60 rfl rfl ?_
  refine r_bipush C dX11_init_61 (by decide) ?_
  obtain ⟨q14, eq14, h⟩ := bs h
  refine r_newa C (t := 101) (kt := 0) (ty := .int) eq14 rfl (Or.inl ⟨rfl, rfl, rfl⟩) q315 dX11_init_63 ?_
  obtain ⟨m15, em15, h⟩ := bs h
  refine r_putRF C (c := 9) (r := (RX11, TX11, 38)) rfl 20 (by decide) rfl rfl rfl rfl em15 q1333 dX11_init_65 ?_
  refine r_aload_n C 0 dX11_init_68 rfl rfl ?_
  refine r_sipush C dX11_init_69 (by decide) ?_
  obtain ⟨q16, eq16, h⟩ := bs h
  refine r_newa C (t := 103) (kt := 2) (ty := .long) eq16 rfl (Or.inr (Or.inr ⟨rfl, rfl, rfl⟩)) q486 dX11_init_72 ?_
  obtain ⟨m17, em17, h⟩ := bs h
  refine r_putRF C (c := 9) (r := (RX11, TX11, 38)) rfl 21 (by decide) rfl rfl rfl rfl em17 q1334 dX11_init_74 ?_
  refine r_aload_n C 0 dX11_init_77 rfl rfl ?_
  refine r_sipush C dX11_init_78 (by decide) ?_
  obtain ⟨q18, eq18, h⟩ := bs h
  refine r_newa C (t := 101) (kt := 0) (ty := .int) eq18 rfl (Or.inl ⟨rfl, rfl, rfl⟩) q315 dX11_init_81 ?_
  obtain ⟨m19, em19, h⟩ := bs h
  refine r_putRF C (c := 9) (r := (RX11, TX11, 38)) rfl 22 (by decide) rfl rfl rfl rfl em19 q1335 dX11_init_83 ?_
  refine r_aload_n C 0 dX11_init_86 rfl rfl ?_
  refine r_bipush C dX11_init_87 (by decide) ?_
  obtain ⟨q20, eq20, h⟩ := bs h
  refine r_newa C (t := 101) (kt := 0) (ty := .int) eq20 rfl (Or.inl ⟨rfl, rfl, rfl⟩) q315 dX11_init_89 ?_
  obtain ⟨m21, em21, h⟩ := bs h
  refine r_putRF C (c := 9) (r := (RX11, TX11, 38)) rfl 23 (by decide) rfl rfl rfl rfl em21 q1336 dX11_init_91 ?_
  refine r_aload_n C 0 dX11_init_94 rfl rfl ?_
  refine r_sipush C dX11_init_95 (by decide) ?_
  obtain ⟨q22, eq22, h⟩ := bs h
  refine r_newa C (t := 101) (kt := 0) (ty := .int) eq22 rfl (Or.inl ⟨rfl, rfl, rfl⟩) q315 dX11_init_98 ?_
  obtain ⟨m23, em23, h⟩ := bs h
  refine r_putRF C (c := 9) (r := (RX11, TX11, 38)) rfl 25 (by decide) rfl rfl rfl rfl em23 q1338 dX11_init_100 ?_
  refine r_aload_n C 0 dX11_init_103 rfl rfl ?_
  refine r_sipush C dX11_init_104 (by decide) ?_
  obtain ⟨q24, eq24, h⟩ := bs h
  refine r_newa C (t := 101) (kt := 0) (ty := .int) eq24 rfl (Or.inl ⟨rfl, rfl, rfl⟩) q315 dX11_init_107 ?_
  obtain ⟨m25, em25, h⟩ := bs h
  refine r_putRF C (c := 9) (r := (RX11, TX11, 38)) rfl 26 (by decide) rfl rfl rfl rfl em25 q1339 dX11_init_109 ?_
  refine r_aload_n C 0 dX11_init_112 rfl rfl ?_
  refine r_iconst C dX11_init_113 ?_
  obtain ⟨q26, eq26, h⟩ := bs h
  refine r_newa C (t := 101) (kt := 0) (ty := .int) eq26 rfl (Or.inl ⟨rfl, rfl, rfl⟩) q315 dX11_init_114 ?_
  obtain ⟨m27, em27, h⟩ := bs h
  refine r_putRF C (c := 9) (r := (RX11, TX11, 38)) rfl 27 (by decide) rfl rfl rfl rfl em27 q1340 dX11_init_116 ?_
  refine r_aload_n C 0 dX11_init_119 rfl rfl ?_
  refine r_iconst C dX11_init_120 ?_
  obtain ⟨q28, eq28, h⟩ := bs h
  refine r_newa C (t := 101) (kt := 0) (ty := .int) eq28 rfl (Or.inl ⟨rfl, rfl, rfl⟩) q315 dX11_init_121 ?_
  obtain ⟨m29, em29, h⟩ := bs h
  refine r_putRF C (c := 9) (r := (RX11, TX11, 38)) rfl 28 (by decide) rfl rfl rfl rfl em29 q1341 dX11_init_123 ?_
  refine r_aload_n C 0 dX11_init_126 rfl rfl ?_
  refine r_iconst C dX11_init_127 ?_
  obtain ⟨q30, eq30, h⟩ := bs h
  refine r_newa C (t := 103) (kt := 2) (ty := .long) eq30 rfl (Or.inr (Or.inr ⟨rfl, rfl, rfl⟩)) q486 dX11_init_128 ?_
  obtain ⟨m31, em31, h⟩ := bs h
  refine r_putRF C (c := 9) (r := (RX11, TX11, 38)) rfl 34 (by decide) rfl rfl rfl rfl em31 q1347 dX11_init_130 ?_
  refine r_aload_n C 0 dX11_init_133 rfl rfl ?_
  obtain ⟨v32, ev32, h⟩ := bs h
  refine r_getR C (c := 9) (r := (RX11, TX11, 38)) rfl 1 (by decide) rfl ev32 q1314 dX11_init_134 ?_
  refine r_iconst C dX11_init_137 ?_
  refine r_bipush C dX11_init_138 (by decide) ?_
  obtain ⟨m33, em33, h⟩ := bs h
  refine r_iast C em33 dX11_init_140 ?_
  cases h
  exact r_vret C hK dX11_init_141
theorem hdX11_init : zhd yX11_init 0 := by decide +kernel
theorem m_X11_init {l : Launch} {D : va_G} {b0 : Nat} (hl : l.stackTraces = false) {a0 : Nat} {μ : Me} {w : Me} (h : s_X11_init a0 μ = some w) : MN l D b0 yX11_init (ws_ yX11_init cX11_init 1 none) 1 [vO a0] μ none w :=
  MN.of hl (by decide +kernel) (Nat.le_of_ble_eq_true rfl) (fun Z C _ _ => w_X11_init C h rfl)
