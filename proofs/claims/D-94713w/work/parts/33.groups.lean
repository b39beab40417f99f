/-! printed by gen/walk.py -/
set_option maxRecDepth 100000
set_option maxHeartbeats 4000000

def HF_rd (l : Launch) (D : va_G) (b0 n : Nat) (F : Nat → Nat → Me → Option (Int × Me)) : Prop :=
  (∀ (a0 : Nat)  (μ : Me) (w : Int × Me), F 0 a0 μ = some w → MN l D b0 yX11_readSum (ws_ yX11_readSum cX11_readSum 1 (some .boolean)) (6 + n) [vO a0] μ (some (vI w.1)) w.2) ∧
  (∀ (a0 : Nat)  (μ : Me) (w : Int × Me), F 1 a0 μ = some w → MN l D b0 yX11_readProduct (ws_ yX11_readProduct cX11_readProduct 1 (some .boolean)) (6 + n) [vO a0] μ (some (vI w.1)) w.2) ∧
  (∀ (a0 : Nat)  (μ : Me) (w : Int × Me), F 2 a0 μ = some w → MN l D b0 yX11_readUnit (ws_ yX11_readUnit cX11_readUnit 2 (some .boolean)) (6 + n) [vO a0] μ (some (vI w.1)) w.2) ∧
  (∀ (a0 : Nat)  (μ : Me) (w : Int × Me), F 3 a0 μ = some w → MN l D b0 yX11_readOverlap (ws_ yX11_readOverlap cX11_readOverlap 2 (some .boolean)) (6 + n) [vO a0] μ (some (vI w.1)) w.2)
theorem hdX11_readSum : zhd yX11_readSum 0 := by decide +kernel
theorem hdX11_readProduct : zhd yX11_readProduct 0 := by decide +kernel
theorem hdX11_readUnit : zhd yX11_readUnit 0 := by decide +kernel
theorem hdX11_readOverlap : zhd yX11_readOverlap 0 := by decide +kernel
noncomputable def s_X11_readSum_l9_st (F : Nat → Nat → Me → Option (Int × Me)) (a0 : Nat) (μ : Me) : Option ((Me) ⊕ (Int × Me)) :=
  (ck μ 9 a0).bind fun _ =>
  (s_X11_counts a0 43 μ).bind fun q4 =>
  (if w32 q4.1 = 0 then
  some (.inr (1, q4.2))
  else
  (ck q4.2 9 a0).bind fun _ =>
  (F 1 a0 q4.2).bind fun q7 =>
  (if w32 q7.1 = 0 then
  some (.inr (0, q7.2))
  else
  (ck q7.2 9 a0).bind fun _ =>
  (s_X11_emits a0 2 0 q7.2).bind fun q10 =>
  (if w32 q10.1 = 0 then
  some (.inr (0, q10.2))
  else
  some (.inl q10.2))))
theorem w_X11_readSum_l9_st {Z : Zt} {F : Nat → Nat → Me → Option (Int × Me)} {n : Nat} {fin : Int × Me} {w : ((Me) ⊕ (Int × Me))} (C : CX Z yX11_readSum cX11_readSum (some .boolean) (6 + (n + 1)) 1) (hF : HF_rd Z.2.1 Z.2.2.2.2.2.2.2.2.2.2.1 Z.2.2.2.2.2.2.2.2.2.2.2.1 n F) {a0 : Nat} {μ : Me} (h : s_X11_readSum_l9_st F a0 μ = some w) (hK : (Sum.elim (fun s : Me => WL Z (QN Z (some (vI fin.1)) fin.2) s 9 [(0, vO a0)] []) (fun r : Int × Me => r = fin)) w) : WL Z (QN Z (some (vI fin.1)) fin.2) μ 9 [(0, vO a0)] [] := by
  unfold s_X11_readSum_l9_st at h
  refine r_aload_n C 0 dX11_readSum_9 rfl rfl ?_
  refine r_bipush C dX11_readSum_10 (by decide) ?_
  obtain ⟨u5, eu5, h⟩ := bs h
  obtain ⟨q4, eq4, h⟩ := bs h
  refine r_callV C (As := [vI 43]) (b := a0) (rest := []) (st1 := [vI q4.1]) (v := some (vI q4.1)) (r := (RX11, TX11, 38)) (ci := 9) rfl eu5 (m_X11_counts C.tr eq4) (lw_V q1496 q1498 qs48 q133 q1499) rfl hdX11_counts rfl rfl (Nat.le_of_ble_eq_true rfl) ⟨by omega, by omega⟩ dX11_readSum_12 rfl ?_
  refine r_if_eq C dX11_readSum_15 (tgt := 36) (by decide) (fun c6 => ?_) (fun c6 => ?_)
  · have h := it_ h c6
    refine r_iconst C dX11_readSum_36 ?_
    cases h
    exact r_zret C (Or.inr rfl) hK dX11_readSum_37
  · have h := ie_ h c6
    refine r_aload_n C 0 dX11_readSum_18 rfl rfl ?_
    obtain ⟨u8, eu8, h⟩ := bs h
    obtain ⟨q7, eq7, h⟩ := bs h
    refine r_callV C (As := []) (b := a0) (rest := []) (st1 := [vI q7.1]) (v := some (vI q7.1)) (r := (RX11, TX11, 38)) (ci := 9) rfl eu8 (hF.2.1 _ _ _ eq7) (lw_V q1460 q1462 qs39 q133 q1463) rfl hdX11_readProduct rfl rfl (Nat.le_of_ble_eq_true rfl) ⟨by omega, by omega⟩ dX11_readSum_19 rfl ?_
    refine r_if_eq C dX11_readSum_22 (tgt := 34) (by decide) (fun c9 => ?_) (fun c9 => ?_)
    · have h := it_ h c9
      refine r_iconst C dX11_readSum_34 ?_
      cases h
      exact r_zret C (Or.inl rfl) hK dX11_readSum_35
    · have h := ie_ h c9
      refine r_aload_n C 0 dX11_readSum_25 rfl rfl ?_
      refine r_iconst C dX11_readSum_26 ?_
      refine r_iconst C dX11_readSum_27 ?_
      obtain ⟨u11, eu11, h⟩ := bs h
      obtain ⟨q10, eq10, h⟩ := bs h
      refine r_callV C (As := [vI 2, vI 0]) (b := a0) (rest := []) (st1 := [vI q10.1]) (v := some (vI q10.1)) (r := (RX11, TX11, 38)) (ci := 9) rfl eu11 (m_X11_emits C.tr eq10) (lw_V q1484 q1486 qs45 q133 q1487) rfl hdX11_emits rfl rfl (Nat.le_of_ble_eq_true rfl) ⟨by omega, by omega⟩ dX11_readSum_28 rfl ?_
      refine r_if_ne C dX11_readSum_31 (tgt := 9) (by decide) (fun c12 => ?_) (fun c12 => ?_)
      · have h := ie_ h c12
        cases h
        exact hK
      · have h := it_ h c12
        refine r_iconst C dX11_readSum_34 ?_
        cases h
        exact r_zret C (Or.inl rfl) hK dX11_readSum_35
noncomputable def s_X11_readSum_l9 (F : Nat → Nat → Me → Option (Int × Me)) (a0 : Nat) (μ : Me) : Option (Int × Me) :=
  whileO (fun s : Me => s_X11_readSum_l9_st F a0 s) μ
theorem e_X11_readSum_l9 (F : Nat → Nat → Me → Option (Int × Me)) (a0 : Nat) (μ : Me) : s_X11_readSum_l9 F a0 μ = (s_X11_readSum_l9_st F a0 μ).bind fun x => x.elim (fun s : Me => s_X11_readSum_l9 F a0 s) some := whileO_eq _ _
theorem w_X11_readSum_l9 {Z : Zt} {F : Nat → Nat → Me → Option (Int × Me)} {n : Nat} {fin : Int × Me} {w : (Int × Me)} (C : CX Z yX11_readSum cX11_readSum (some .boolean) (6 + (n + 1)) 1) (hF : HF_rd Z.2.1 Z.2.2.2.2.2.2.2.2.2.2.1 Z.2.2.2.2.2.2.2.2.2.2.2.1 n F) {a0 : Nat} {μ : Me} (h : s_X11_readSum_l9 F a0 μ = some w) (hK : (fun r : Int × Me => r = fin) w) : WL Z (QN Z (some (vI fin.1)) fin.2) μ 9 [(0, vO a0)] [] := by
  refine whileO_walk (w := w) (fun s : Me => WL Z (QN Z (some (vI fin.1)) fin.2) s 9 [(0, vO a0)] []) (fun s v h2 hi hr => ?_) μ h
  refine w_X11_readSum_l9_st (fin := fin) C hF h2 ?_
  cases v with
  | inl s2 => exact hi s2 rfl
  | inr r => have e := hr r rfl; subst e; exact hK
noncomputable def s_X11_readSum (F : Nat → Nat → Me → Option (Int × Me)) (a0 : Nat) (μ : Me) : Option (Int × Me) :=
  (ck μ 9 a0).bind fun _ =>
  (F 1 a0 μ).bind fun q1 =>
  (if w32 q1.1 = 0 then
  some (0, q1.2)
  else
  s_X11_readSum_l9 F a0 q1.2)
theorem w_X11_readSum {Z : Zt} {F : Nat → Nat → Me → Option (Int × Me)} {n : Nat} {fin : Int × Me} {w : Int × Me} (C : CX Z yX11_readSum cX11_readSum (some .boolean) (6 + (n + 1)) 1) (hF : HF_rd Z.2.1 Z.2.2.2.2.2.2.2.2.2.2.1 Z.2.2.2.2.2.2.2.2.2.2.2.1 n F) {a0 : Nat} {μ : Me} (h : s_X11_readSum F a0 μ = some w) (hK : w = fin) : WL Z (QN Z (some (vI fin.1)) fin.2) μ 0 [(0, vO a0)] [] := by
  unfold s_X11_readSum at h
  refine r_aload_n C 0 dX11_readSum_0 rfl rfl ?_
  obtain ⟨u2, eu2, h⟩ := bs h
  obtain ⟨q1, eq1, h⟩ := bs h
  refine r_callV C (As := []) (b := a0) (rest := []) (st1 := [vI q1.1]) (v := some (vI q1.1)) (r := (RX11, TX11, 38)) (ci := 9) rfl eu2 (hF.2.1 _ _ _ eq1) (lw_V q1460 q1462 qs39 q133 q1463) rfl hdX11_readProduct rfl rfl (Nat.le_of_ble_eq_true rfl) ⟨by omega, by omega⟩ dX11_readSum_1 rfl ?_
  refine r_if_ne C dX11_readSum_4 (tgt := 9) (by decide) (fun c3 => ?_) (fun c3 => ?_)
  · have h := ie_ h c3
    exact w_X11_readSum_l9 (fin := fin) C hF h hK
  · have h := it_ h c3
    refine r_iconst C dX11_readSum_7 ?_
    cases h
    exact r_zret C (Or.inl rfl) hK dX11_readSum_8
noncomputable def s_X11_readProduct_l9_st (F : Nat → Nat → Me → Option (Int × Me)) (a0 : Nat) (μ : Me) : Option ((Me) ⊕ (Int × Me)) :=
  (ck μ 9 a0).bind fun _ =>
  (s_X11_counts a0 42 μ).bind fun q4 =>
  (if w32 q4.1 = 0 then
  some (.inr (1, q4.2))
  else
  (ck q4.2 9 a0).bind fun _ =>
  (F 2 a0 q4.2).bind fun q7 =>
  (if w32 q7.1 = 0 then
  some (.inr (0, q7.2))
  else
  (ck q7.2 9 a0).bind fun _ =>
  (s_X11_emits a0 3 0 q7.2).bind fun q10 =>
  (if w32 q10.1 = 0 then
  some (.inr (0, q10.2))
  else
  some (.inl q10.2))))
theorem w_X11_readProduct_l9_st {Z : Zt} {F : Nat → Nat → Me → Option (Int × Me)} {n : Nat} {fin : Int × Me} {w : ((Me) ⊕ (Int × Me))} (C : CX Z yX11_readProduct cX11_readProduct (some .boolean) (6 + (n + 1)) 1) (hF : HF_rd Z.2.1 Z.2.2.2.2.2.2.2.2.2.2.1 Z.2.2.2.2.2.2.2.2.2.2.2.1 n F) {a0 : Nat} {μ : Me} (h : s_X11_readProduct_l9_st F a0 μ = some w) (hK : (Sum.elim (fun s : Me => WL Z (QN Z (some (vI fin.1)) fin.2) s 9 [(0, vO a0)] []) (fun r : Int × Me => r = fin)) w) : WL Z (QN Z (some (vI fin.1)) fin.2) μ 9 [(0, vO a0)] [] := by
  unfold s_X11_readProduct_l9_st at h
  refine r_aload_n C 0 dX11_readProduct_9 rfl rfl ?_
  refine r_bipush C dX11_readProduct_10 (by decide) ?_
  obtain ⟨u5, eu5, h⟩ := bs h
  obtain ⟨q4, eq4, h⟩ := bs h
  refine r_callV C (As := [vI 42]) (b := a0) (rest := []) (st1 := [vI q4.1]) (v := some (vI q4.1)) (r := (RX11, TX11, 38)) (ci := 9) rfl eu5 (m_X11_counts C.tr eq4) (lw_V q1496 q1498 qs48 q133 q1499) rfl hdX11_counts rfl rfl (Nat.le_of_ble_eq_true rfl) ⟨by omega, by omega⟩ dX11_readProduct_12 rfl ?_
  refine r_if_eq C dX11_readProduct_15 (tgt := 36) (by decide) (fun c6 => ?_) (fun c6 => ?_)
  · have h := it_ h c6
    refine r_iconst C dX11_readProduct_36 ?_
    cases h
    exact r_zret C (Or.inr rfl) hK dX11_readProduct_37
  · have h := ie_ h c6
    refine r_aload_n C 0 dX11_readProduct_18 rfl rfl ?_
    obtain ⟨u8, eu8, h⟩ := bs h
    obtain ⟨q7, eq7, h⟩ := bs h
    refine r_callV C (As := []) (b := a0) (rest := []) (st1 := [vI q7.1]) (v := some (vI q7.1)) (r := (RX11, TX11, 38)) (ci := 9) rfl eu8 (hF.2.2.1 _ _ _ eq7) (lw_V q1464 q1466 qs40 q133 q1467) rfl hdX11_readUnit rfl rfl (Nat.le_of_ble_eq_true rfl) ⟨by omega, by omega⟩ dX11_readProduct_19 rfl ?_
    refine r_if_eq C dX11_readProduct_22 (tgt := 34) (by decide) (fun c9 => ?_) (fun c9 => ?_)
    · have h := it_ h c9
      refine r_iconst C dX11_readProduct_34 ?_
      cases h
      exact r_zret C (Or.inl rfl) hK dX11_readProduct_35
    · have h := ie_ h c9
      refine r_aload_n C 0 dX11_readProduct_25 rfl rfl ?_
      refine r_iconst C dX11_readProduct_26 ?_
      refine r_iconst C dX11_readProduct_27 ?_
      obtain ⟨u11, eu11, h⟩ := bs h
      obtain ⟨q10, eq10, h⟩ := bs h
      refine r_callV C (As := [vI 3, vI 0]) (b := a0) (rest := []) (st1 := [vI q10.1]) (v := some (vI q10.1)) (r := (RX11, TX11, 38)) (ci := 9) rfl eu11 (m_X11_emits C.tr eq10) (lw_V q1484 q1486 qs45 q133 q1487) rfl hdX11_emits rfl rfl (Nat.le_of_ble_eq_true rfl) ⟨by omega, by omega⟩ dX11_readProduct_28 rfl ?_
      refine r_if_ne C dX11_readProduct_31 (tgt := 9) (by decide) (fun c12 => ?_) (fun c12 => ?_)
      · have h := ie_ h c12
        cases h
        exact hK
      · have h := it_ h c12
        refine r_iconst C dX11_readProduct_34 ?_
        cases h
        exact r_zret C (Or.inl rfl) hK dX11_readProduct_35
noncomputable def s_X11_readProduct_l9 (F : Nat → Nat → Me → Option (Int × Me)) (a0 : Nat) (μ : Me) : Option (Int × Me) :=
  whileO (fun s : Me => s_X11_readProduct_l9_st F a0 s) μ
theorem e_X11_readProduct_l9 (F : Nat → Nat → Me → Option (Int × Me)) (a0 : Nat) (μ : Me) : s_X11_readProduct_l9 F a0 μ = (s_X11_readProduct_l9_st F a0 μ).bind fun x => x.elim (fun s : Me => s_X11_readProduct_l9 F a0 s) some := whileO_eq _ _
theorem w_X11_readProduct_l9 {Z : Zt} {F : Nat → Nat → Me → Option (Int × Me)} {n : Nat} {fin : Int × Me} {w : (Int × Me)} (C : CX Z yX11_readProduct cX11_readProduct (some .boolean) (6 + (n + 1)) 1) (hF : HF_rd Z.2.1 Z.2.2.2.2.2.2.2.2.2.2.1 Z.2.2.2.2.2.2.2.2.2.2.2.1 n F) {a0 : Nat} {μ : Me} (h : s_X11_readProduct_l9 F a0 μ = some w) (hK : (fun r : Int × Me => r = fin) w) : WL Z (QN Z (some (vI fin.1)) fin.2) μ 9 [(0, vO a0)] [] := by
  refine whileO_walk (w := w) (fun s : Me => WL Z (QN Z (some (vI fin.1)) fin.2) s 9 [(0, vO a0)] []) (fun s v h2 hi hr => ?_) μ h
  refine w_X11_readProduct_l9_st (fin := fin) C hF h2 ?_
  cases v with
  | inl s2 => exact hi s2 rfl
  | inr r => have e := hr r rfl; subst e; exact hK
noncomputable def s_X11_readProduct (F : Nat → Nat → Me → Option (Int × Me)) (a0 : Nat) (μ : Me) : Option (Int × Me) :=
  (ck μ 9 a0).bind fun _ =>
  (F 2 a0 μ).bind fun q1 =>
  (if w32 q1.1 = 0 then
  some (0, q1.2)
  else
  s_X11_readProduct_l9 F a0 q1.2)
theorem w_X11_readProduct {Z : Zt} {F : Nat → Nat → Me → Option (Int × Me)} {n : Nat} {fin : Int × Me} {w : Int × Me} (C : CX Z yX11_readProduct cX11_readProduct (some .boolean) (6 + (n + 1)) 1) (hF : HF_rd Z.2.1 Z.2.2.2.2.2.2.2.2.2.2.1 Z.2.2.2.2.2.2.2.2.2.2.2.1 n F) {a0 : Nat} {μ : Me} (h : s_X11_readProduct F a0 μ = some w) (hK : w = fin) : WL Z (QN Z (some (vI fin.1)) fin.2) μ 0 [(0, vO a0)] [] := by
  unfold s_X11_readProduct at h
  refine r_aload_n C 0 dX11_readProduct_0 rfl rfl ?_
  obtain ⟨u2, eu2, h⟩ := bs h
  obtain ⟨q1, eq1, h⟩ := bs h
  refine r_callV C (As := []) (b := a0) (rest := []) (st1 := [vI q1.1]) (v := some (vI q1.1)) (r := (RX11, TX11, 38)) (ci := 9) rfl eu2 (hF.2.2.1 _ _ _ eq1) (lw_V q1464 q1466 qs40 q133 q1467) rfl hdX11_readUnit rfl rfl (Nat.le_of_ble_eq_true rfl) ⟨by omega, by omega⟩ dX11_readProduct_1 rfl ?_
  refine r_if_ne C dX11_readProduct_4 (tgt := 9) (by decide) (fun c3 => ?_) (fun c3 => ?_)
  · have h := ie_ h c3
    exact w_X11_readProduct_l9 (fin := fin) C hF h hK
  · have h := it_ h c3
    refine r_iconst C dX11_readProduct_7 ?_
    cases h
    exact r_zret C (Or.inl rfl) hK dX11_readProduct_8
noncomputable def s_X11_readUnit_b185 (F : Nat → Nat → Me → Option (Int × Me)) (a0 : Nat)  (μ : Me) : Option (Int × Me) :=
  (gI μ 9 a0 12).bind fun v18 =>
  (gI μ 9 a0 14).bind fun v19 =>
  (if w32 (v18 - v19) = w32 1 then
  (gR μ 9 a0 10).bind fun v21 =>
  (gI μ 9 a0 14).bind fun v22 =>
  (aI μ 102 v21 v22).bind fun v23 =>
  (if w32 v23 = w32 102 then
  (gI μ 9 a0 16).bind fun v25 =>
  (if w32 v25 = w32 40 then
  some (0, μ)
  else
  (gI μ 9 a0 16).bind fun v27 =>
  (pI μ 9 a0 16 (v27 + 1)).bind fun m28 =>
  (ck m28 9 a0).bind fun _ =>
  (s_X11_emits a0 0 0 m28).bind fun q29 =>
  (bz2 q29.1).bind fun _ =>
  some (q29.1, q29.2))
  else
  some (0, μ))
  else
  some (0, μ))
theorem w_X11_readUnit_b185 {Z : Zt} {F : Nat → Nat → Me → Option (Int × Me)} {n : Nat} {fin : Int × Me} {w : (Int × Me)} (C : CX Z yX11_readUnit cX11_readUnit (some .boolean) (6 + (n + 1)) 2) (hF : HF_rd Z.2.1 Z.2.2.2.2.2.2.2.2.2.2.1 Z.2.2.2.2.2.2.2.2.2.2.2.1 n F) {a0 : Nat}  {μ : Me} (h : s_X11_readUnit_b185 F a0 μ = some w) (hK : (fun r : Int × Me => r = fin) w) : WL Z (QN Z (some (vI fin.1)) fin.2) μ 185 [(0, vO a0)] [] := by
  unfold s_X11_readUnit_b185 at h
  refine r_aload_n C 0 dX11_readUnit_185 rfl rfl ?_
  obtain ⟨v18, ev18, h⟩ := bs h
  refine r_getI C (c := 9) (r := (RX11, TX11, 38)) rfl 12 (by decide) rfl ev18 q1325 dX11_readUnit_186 ?_
  refine r_aload_n C 0 dX11_readUnit_189 rfl rfl ?_
  obtain ⟨v19, ev19, h⟩ := bs h
  refine r_getI C (c := 9) (r := (RX11, TX11, 38)) rfl 14 (by decide) rfl ev19 q1327 dX11_readUnit_190 ?_
  refine r_isub C dX11_readUnit_193 ?_
  refine r_iconst C dX11_readUnit_194 ?_
  refine r_icmp_ne C dX11_readUnit_195 (tgt := 221) (by decide) (fun c20 => ?_) (fun c20 => ?_)
  · have h := ie_ h c20
    refine r_iconst C dX11_readUnit_221 ?_
    cases h
    exact r_zret C (Or.inl rfl) hK dX11_readUnit_222
  · have h := it_ h c20
    refine r_aload_n C 0 dX11_readUnit_198 rfl rfl ?_
    obtain ⟨v21, ev21, h⟩ := bs h
    refine r_getR C (c := 9) (r := (RX11, TX11, 38)) rfl 10 (by decide) rfl ev21 q1323 dX11_readUnit_199 ?_
    refine r_aload_n C 0 dX11_readUnit_202 rfl rfl ?_
    obtain ⟨v22, ev22, h⟩ := bs h
    refine r_getI C (c := 9) (r := (RX11, TX11, 38)) rfl 14 (by decide) rfl ev22 q1327 dX11_readUnit_203 ?_
    obtain ⟨v23, ev23, h⟩ := bs h
    refine r_bald C ev23 dX11_readUnit_206 ?_
    refine r_bipush C dX11_readUnit_207 (by decide) ?_
    refine r_icmp_ne C dX11_readUnit_209 (tgt := 221) (by decide) (fun c24 => ?_) (fun c24 => ?_)
    · have h := ie_ h c24
      refine r_iconst C dX11_readUnit_221 ?_
      cases h
      exact r_zret C (Or.inl rfl) hK dX11_readUnit_222
    · have h := it_ h c24
      refine r_aload_n C 0 dX11_readUnit_212 rfl rfl ?_
      obtain ⟨v25, ev25, h⟩ := bs h
      refine r_getI C (c := 9) (r := (RX11, TX11, 38)) rfl 16 (by decide) rfl ev25 q1329 dX11_readUnit_213 ?_
      refine r_bipush C dX11_readUnit_216 (by decide) ?_
      refine r_icmp_ne C dX11_readUnit_218 (tgt := 223) (by decide) (fun c26 => ?_) (fun c26 => ?_)
      · have h := ie_ h c26
        refine r_aload_n C 0 dX11_readUnit_223 rfl rfl ?_
        refine r_dup C dX11_readUnit_224 rfl ?_
        obtain ⟨v27, ev27, h⟩ := bs h
        refine r_getI C (c := 9) (r := (RX11, TX11, 38)) rfl 16 (by decide) rfl ev27 q1329 dX11_readUnit_225 ?_
        refine r_iconst C dX11_readUnit_228 ?_
        refine r_iadd C dX11_readUnit_229 ?_
        obtain ⟨m28, em28, h⟩ := bs h
        refine r_putI C (c := 9) (r := (RX11, TX11, 38)) rfl 16 (by decide) rfl ⟨rfl, rfl⟩ rfl em28 q1329 dX11_readUnit_230 ?_
        refine r_aload_n C 0 dX11_readUnit_233 rfl rfl ?_
        refine r_iconst C dX11_readUnit_234 ?_
        refine r_iconst C dX11_readUnit_235 ?_
        obtain ⟨u30, eu30, h⟩ := bs h
        obtain ⟨q29, eq29, h⟩ := bs h
        refine r_callV C (As := [vI 0, vI 0]) (b := a0) (rest := []) (st1 := [vI q29.1]) (v := some (vI q29.1)) (r := (RX11, TX11, 38)) (ci := 9) rfl eu30 (m_X11_emits C.tr eq29) (lw_V q1484 q1486 qs45 q133 q1487) rfl hdX11_emits rfl rfl (Nat.le_of_ble_eq_true rfl) ⟨by omega, by omega⟩ dX11_readUnit_236 rfl ?_
        obtain ⟨u31, eu31, h⟩ := bs h
        cases h
        exact r_zret C (bz2_ok eu31) hK dX11_readUnit_239
      · have h := it_ h c26
        refine r_iconst C dX11_readUnit_221 ?_
        cases h
        exact r_zret C (Or.inl rfl) hK dX11_readUnit_222
noncomputable def s_X11_readUnit_l161_st (F : Nat → Nat → Me → Option (Int × Me)) (a0 : Nat) (μ : Me) : Option ((Me) ⊕ (Int × Me)) :=
  (ck μ 9 a0).bind fun _ =>
  (s_X11_isAt a0 97 122 μ).bind fun q15 =>
  (if w32 q15.1 = 0 then
  (s_X11_readUnit_b185 F a0 q15.2).map Sum.inr
  else
  (gI q15.2 9 a0 12).bind fun v32 =>
  (pI q15.2 9 a0 12 (v32 + 1)).bind fun m33 =>
  some (.inl m33))
theorem w_X11_readUnit_l161_st {Z : Zt} {F : Nat → Nat → Me → Option (Int × Me)} {n : Nat} {fin : Int × Me} {w : ((Me) ⊕ (Int × Me))} (C : CX Z yX11_readUnit cX11_readUnit (some .boolean) (6 + (n + 1)) 2) (hF : HF_rd Z.2.1 Z.2.2.2.2.2.2.2.2.2.2.1 Z.2.2.2.2.2.2.2.2.2.2.2.1 n F) {a0 : Nat} {μ : Me} (h : s_X11_readUnit_l161_st F a0 μ = some w) (hK : (Sum.elim (fun s : Me => WL Z (QN Z (some (vI fin.1)) fin.2) s 161 [(0, vO a0)] []) (fun r : Int × Me => r = fin)) w) : WL Z (QN Z (some (vI fin.1)) fin.2) μ 161 [(0, vO a0)] [] := by
  unfold s_X11_readUnit_l161_st at h
  refine r_aload_n C 0 dX11_readUnit_161 rfl rfl ?_
  refine r_bipush C dX11_readUnit_162 (by decide) ?_
  refine r_bipush C dX11_readUnit_164 (by decide) ?_
  obtain ⟨u16, eu16, h⟩ := bs h
  obtain ⟨q15, eq15, h⟩ := bs h
  refine r_callV C (As := [vI 97, vI 122]) (b := a0) (rest := []) (st1 := [vI q15.1]) (v := some (vI q15.1)) (r := (RX11, TX11, 38)) (ci := 9) rfl eu16 (m_X11_isAt C.tr eq15) (lw_V q1476 q1478 qs43 q133 q1479) rfl hdX11_isAt rfl rfl (Nat.le_of_ble_eq_true rfl) ⟨by omega, by omega⟩ dX11_readUnit_166 rfl ?_
  refine r_if_eq C dX11_readUnit_169 (tgt := 185) (by decide) (fun c17 => ?_) (fun c17 => ?_)
  · have h := it_ h c17
    obtain ⟨z, hz, ez⟩ := ms_ h; clear h; subst ez; have h := hz; clear hz
    exact w_X11_readUnit_b185 (fin := fin) C hF h hK
  · have h := ie_ h c17
    refine r_aload_n C 0 dX11_readUnit_172 rfl rfl ?_
    refine r_dup C dX11_readUnit_173 rfl ?_
    obtain ⟨v32, ev32, h⟩ := bs h
    refine r_getI C (c := 9) (r := (RX11, TX11, 38)) rfl 12 (by decide) rfl ev32 q1325 dX11_readUnit_174 ?_
    refine r_iconst C dX11_readUnit_177 ?_
    refine r_iadd C dX11_readUnit_178 ?_
    obtain ⟨m33, em33, h⟩ := bs h
    refine r_putI C (c := 9) (r := (RX11, TX11, 38)) rfl 12 (by decide) rfl ⟨rfl, rfl⟩ rfl em33 q1325 dX11_readUnit_179 ?_
    refine r_goto C dX11_readUnit_182 (tgt := 161) (by decide) ?_
    cases h
    exact hK
noncomputable def s_X11_readUnit_l161 (F : Nat → Nat → Me → Option (Int × Me)) (a0 : Nat) (μ : Me) : Option (Int × Me) :=
  whileO (fun s : Me => s_X11_readUnit_l161_st F a0 s) μ
theorem e_X11_readUnit_l161 (F : Nat → Nat → Me → Option (Int × Me)) (a0 : Nat) (μ : Me) : s_X11_readUnit_l161 F a0 μ = (s_X11_readUnit_l161_st F a0 μ).bind fun x => x.elim (fun s : Me => s_X11_readUnit_l161 F a0 s) some := whileO_eq _ _
theorem w_X11_readUnit_l161 {Z : Zt} {F : Nat → Nat → Me → Option (Int × Me)} {n : Nat} {fin : Int × Me} {w : (Int × Me)} (C : CX Z yX11_readUnit cX11_readUnit (some .boolean) (6 + (n + 1)) 2) (hF : HF_rd Z.2.1 Z.2.2.2.2.2.2.2.2.2.2.1 Z.2.2.2.2.2.2.2.2.2.2.2.1 n F) {a0 : Nat} {μ : Me} (h : s_X11_readUnit_l161 F a0 μ = some w) (hK : (fun r : Int × Me => r = fin) w) : WL Z (QN Z (some (vI fin.1)) fin.2) μ 161 [(0, vO a0)] [] := by
  refine whileO_walk (w := w) (fun s : Me => WL Z (QN Z (some (vI fin.1)) fin.2) s 161 [(0, vO a0)] []) (fun s v h2 hi hr => ?_) μ h
  refine w_X11_readUnit_l161_st (fin := fin) C hF h2 ?_
  cases v with
  | inl s2 => exact hi s2 rfl
  | inr r => have e := hr r rfl; subst e; exact hK
noncomputable def s_X11_readUnit (F : Nat → Nat → Me → Option (Int × Me)) (a0 : Nat) (μ : Me) : Option (Int × Me) :=
  (ck μ 9 a0).bind fun _ =>
  (s_X11_has a0 45 μ).bind fun q1 =>
  (if w32 q1.1 = 0 then
  (ck q1.2 9 a0).bind fun _ =>
  (s_X11_has a0 40 q1.2).bind fun q4 =>
  (if w32 q4.1 = 0 then
  (ck q4.2 9 a0).bind fun _ =>
  (s_X11_has a0 91 q4.2).bind fun q7 =>
  (if w32 q7.1 = 0 then
  (ck q7.2 9 a0).bind fun _ =>
  (s_X11_blanks a0 q7.2).bind fun q10 =>
  (ck q10 9 a0).bind fun _ =>
  (s_X11_isAt a0 48 57 q10).bind fun q12 =>
  (if w32 q12.1 = 0 then
  s_X11_readUnit_l161 F a0 q12.2
  else
  (gI q12.2 9 a0 16).bind fun v34 =>
  (if w32 v34 = w32 40 then
  some (0, q12.2)
  else
  (gI q12.2 9 a0 16).bind fun v36 =>
  (pI q12.2 9 a0 16 (v36 + 1)).bind fun m37 =>
  (ck m37 9 a0).bind fun _ =>
  (s_X11_number a0 999 m37).bind fun q38 =>
  (if w32 q38.1 < 0 then
  some (0, q38.2)
  else
  (ck q38.2 9 a0).bind fun _ =>
  (s_X11_emits a0 1 q38.1 q38.2).bind fun q41 =>
  (if w32 q41.1 = 0 then
  some (0, q41.2)
  else
  some (1, q41.2)))))
  else
  (ck q7.2 9 a0).bind fun _ =>
  (F 3 a0 q7.2).bind fun q44 =>
  (bz2 q44.1).bind fun _ =>
  some (q44.1, q44.2))
  else
  (ck q4.2 9 a0).bind fun _ =>
  (s_X11_deeper a0 q4.2).bind fun q47 =>
  (if w32 q47.1 = 0 then
  some (0, q47.2)
  else
  (ck q47.2 9 a0).bind fun _ =>
  (F 0 a0 q47.2).bind fun q50 =>
  (if w32 q50.1 = 0 then
  some (0, q50.2)
  else
  (gI q50.2 9 a0 15).bind fun v53 =>
  (pI q50.2 9 a0 15 (v53 - 1)).bind fun m54 =>
  (ck m54 9 a0).bind fun _ =>
  (s_X11_has a0 41 m54).bind fun q55 =>
  (bz2 q55.1).bind fun _ =>
  some (q55.1, q55.2))))
  else
  (ck q1.2 9 a0).bind fun _ =>
  (s_X11_deeper a0 q1.2).bind fun q58 =>
  (if w32 q58.1 = 0 then
  some (0, q58.2)
  else
  (ck q58.2 9 a0).bind fun _ =>
  (F 2 a0 q58.2).bind fun q61 =>
  (if w32 q61.1 = 0 then
  some (0, q61.2)
  else
  (gI q61.2 9 a0 15).bind fun v64 =>
  (pI q61.2 9 a0 15 (v64 - 1)).bind fun m65 =>
  (ck m65 9 a0).bind fun _ =>
  (s_X11_emits a0 5 0 m65).bind fun q66 =>
  (bz2 q66.1).bind fun _ =>
  some (q66.1, q66.2))))
theorem w_X11_readUnit {Z : Zt} {F : Nat → Nat → Me → Option (Int × Me)} {n : Nat} {fin : Int × Me} {w : Int × Me} (C : CX Z yX11_readUnit cX11_readUnit (some .boolean) (6 + (n + 1)) 2) (hF : HF_rd Z.2.1 Z.2.2.2.2.2.2.2.2.2.2.1 Z.2.2.2.2.2.2.2.2.2.2.2.1 n F) {a0 : Nat} {μ : Me} (h : s_X11_readUnit F a0 μ = some w) (hK : w = fin) : WL Z (QN Z (some (vI fin.1)) fin.2) μ 0 [(0, vO a0)] [] := by
  unfold s_X11_readUnit at h
  refine r_aload_n C 0 dX11_readUnit_0 rfl rfl ?_
  refine r_bipush C dX11_readUnit_1 (by decide) ?_
  obtain ⟨u2, eu2, h⟩ := bs h
  obtain ⟨q1, eq1, h⟩ := bs h
  refine r_callV C (As := [vI 45]) (b := a0) (rest := []) (st1 := [vI q1.1]) (v := some (vI q1.1)) (r := (RX11, TX11, 38)) (ci := 9) rfl eu2 (m_X11_has C.tr eq1) (lw_V q1468 q1470 qs41 q133 q1471) rfl hdX11_has rfl rfl (Nat.le_of_ble_eq_true rfl) ⟨by omega, by omega⟩ dX11_readUnit_3 rfl ?_
  refine r_if_eq C dX11_readUnit_6 (tgt := 42) (by decide) (fun c3 => ?_) (fun c3 => ?_)
  · have h := it_ h c3
    refine r_aload_n C 0 dX11_readUnit_42 rfl rfl ?_
    refine r_bipush C dX11_readUnit_43 (by decide) ?_
    obtain ⟨u5, eu5, h⟩ := bs h
    obtain ⟨q4, eq4, h⟩ := bs h
    refine r_callV C (As := [vI 40]) (b := a0) (rest := []) (st1 := [vI q4.1]) (v := some (vI q4.1)) (r := (RX11, TX11, 38)) (ci := 9) rfl eu5 (m_X11_has C.tr eq4) (lw_V q1468 q1470 qs41 q133 q1471) rfl hdX11_has rfl rfl (Nat.le_of_ble_eq_true rfl) ⟨by omega, by omega⟩ dX11_readUnit_45 rfl ?_
    refine r_if_eq C dX11_readUnit_48 (tgt := 84) (by decide) (fun c6 => ?_) (fun c6 => ?_)
    · have h := it_ h c6
      refine r_aload_n C 0 dX11_readUnit_84 rfl rfl ?_
      refine r_bipush C dX11_readUnit_85 (by decide) ?_
      obtain ⟨u8, eu8, h⟩ := bs h
      obtain ⟨q7, eq7, h⟩ := bs h
      refine r_callV C (As := [vI 91]) (b := a0) (rest := []) (st1 := [vI q7.1]) (v := some (vI q7.1)) (r := (RX11, TX11, 38)) (ci := 9) rfl eu8 (m_X11_has C.tr eq7) (lw_V q1468 q1470 qs41 q133 q1471) rfl hdX11_has rfl rfl (Nat.le_of_ble_eq_true rfl) ⟨by omega, by omega⟩ dX11_readUnit_87 rfl ?_
      refine r_if_eq C dX11_readUnit_90 (tgt := 98) (by decide) (fun c9 => ?_) (fun c9 => ?_)
      · have h := it_ h c9
        refine r_aload_n C 0 dX11_readUnit_98 rfl rfl ?_
        obtain ⟨u11, eu11, h⟩ := bs h
        obtain ⟨q10, eq10, h⟩ := bs h
        refine r_callV C (As := []) (b := a0) (rest := []) (st1 := []) (v := none) (r := (RX11, TX11, 38)) (ci := 9) rfl eu11 (m_X11_blanks C.tr eq10) (lw_V q1472 q1474 qs42 q133 q1475) rfl hdX11_blanks rfl rfl (Nat.le_of_ble_eq_true rfl) ⟨by omega, by omega⟩ dX11_readUnit_99 rfl ?_
        refine r_aload_n C 0 dX11_readUnit_102 rfl rfl ?_
        refine r_bipush C dX11_readUnit_103 (by decide) ?_
        refine r_bipush C dX11_readUnit_105 (by decide) ?_
        obtain ⟨u13, eu13, h⟩ := bs h
        obtain ⟨q12, eq12, h⟩ := bs h
        refine r_callV C (As := [vI 48, vI 57]) (b := a0) (rest := []) (st1 := [vI q12.1]) (v := some (vI q12.1)) (r := (RX11, TX11, 38)) (ci := 9) rfl eu13 (m_X11_isAt C.tr eq12) (lw_V q1476 q1478 qs43 q133 q1479) rfl hdX11_isAt rfl rfl (Nat.le_of_ble_eq_true rfl) ⟨by omega, by omega⟩ dX11_readUnit_107 rfl ?_
        refine r_if_eq C dX11_readUnit_110 (tgt := 161) (by decide) (fun c14 => ?_) (fun c14 => ?_)
        · have h := it_ h c14
          exact w_X11_readUnit_l161 (fin := fin) C hF h hK
        · have h := ie_ h c14
          refine r_aload_n C 0 dX11_readUnit_113 rfl rfl ?_
          obtain ⟨v34, ev34, h⟩ := bs h
          refine r_getI C (c := 9) (r := (RX11, TX11, 38)) rfl 16 (by decide) rfl ev34 q1329 dX11_readUnit_114 ?_
          refine r_bipush C dX11_readUnit_117 (by decide) ?_
          refine r_icmp_ne C dX11_readUnit_119 (tgt := 124) (by decide) (fun c35 => ?_) (fun c35 => ?_)
          · have h := ie_ h c35
            refine r_aload_n C 0 dX11_readUnit_124 rfl rfl ?_
            refine r_dup C dX11_readUnit_125 rfl ?_
            obtain ⟨v36, ev36, h⟩ := bs h
            refine r_getI C (c := 9) (r := (RX11, TX11, 38)) rfl 16 (by decide) rfl ev36 q1329 dX11_readUnit_126 ?_
            refine r_iconst C dX11_readUnit_129 ?_
            refine r_iadd C dX11_readUnit_130 ?_
            obtain ⟨m37, em37, h⟩ := bs h
            refine r_putI C (c := 9) (r := (RX11, TX11, 38)) rfl 16 (by decide) rfl ⟨rfl, rfl⟩ rfl em37 q1329 dX11_readUnit_131 ?_
            refine r_aload_n C 0 dX11_readUnit_134 rfl rfl ?_
            refine r_sipush C dX11_readUnit_135 (by decide) ?_
            obtain ⟨u39, eu39, h⟩ := bs h
            obtain ⟨q38, eq38, h⟩ := bs h
            refine r_callV C (As := [vI 999]) (b := a0) (rest := []) (st1 := [vI q38.1]) (v := some (vI q38.1)) (r := (RX11, TX11, 38)) (ci := 9) rfl eu39 (m_X11_number C.tr eq38) (lw_V q1492 q1494 qs47 q133 q1495) rfl hdX11_number rfl rfl (Nat.le_of_ble_eq_true rfl) ⟨by omega, by omega⟩ dX11_readUnit_138 rfl ?_
            refine r_istore_n C [(1, vI q38.1), (0, vO a0)] dX11_readUnit_141 rfl (by decide) rfl ?_
            refine r_iload_n C 0 dX11_readUnit_142 rfl rfl ?_
            refine r_if_lt C dX11_readUnit_143 (tgt := 159) (by decide) (fun c40 => ?_) (fun c40 => ?_)
            · have h := it_ h c40
              refine r_iconst C dX11_readUnit_159 ?_
              cases h
              exact r_zret C (Or.inl rfl) hK dX11_readUnit_160
            · have h := ie_ h c40
              refine r_aload_n C 1 dX11_readUnit_146 rfl rfl ?_
              refine r_iconst C dX11_readUnit_147 ?_
              refine r_iload_n C 0 dX11_readUnit_148 rfl rfl ?_
              obtain ⟨u42, eu42, h⟩ := bs h
              obtain ⟨q41, eq41, h⟩ := bs h
              refine r_callV C (As := [vI 1, vI q38.1]) (b := a0) (rest := []) (st1 := [vI q41.1]) (v := some (vI q41.1)) (r := (RX11, TX11, 38)) (ci := 9) rfl eu42 (m_X11_emits C.tr eq41) (lw_V q1484 q1486 qs45 q133 q1487) rfl hdX11_emits rfl rfl (Nat.le_of_ble_eq_true rfl) ⟨by omega, by omega⟩ dX11_readUnit_149 rfl ?_
              refine r_if_eq C dX11_readUnit_152 (tgt := 159) (by decide) (fun c43 => ?_) (fun c43 => ?_)
              · have h := it_ h c43
                refine r_iconst C dX11_readUnit_159 ?_
                cases h
                exact r_zret C (Or.inl rfl) hK dX11_readUnit_160
              · have h := ie_ h c43
                refine r_iconst C dX11_readUnit_155 ?_
                refine r_goto C dX11_readUnit_156 (tgt := 160) (by decide) ?_
                cases h
                exact r_zret C (Or.inr rfl) hK dX11_readUnit_160
          · have h := it_ h c35
            refine r_iconst C dX11_readUnit_122 ?_
            cases h
            exact r_zret C (Or.inl rfl) hK dX11_readUnit_123
      · have h := ie_ h c9
        refine r_aload_n C 0 dX11_readUnit_93 rfl rfl ?_
        obtain ⟨u45, eu45, h⟩ := bs h
        obtain ⟨q44, eq44, h⟩ := bs h
        refine r_callV C (As := []) (b := a0) (rest := []) (st1 := [vI q44.1]) (v := some (vI q44.1)) (r := (RX11, TX11, 38)) (ci := 9) rfl eu45 (hF.2.2.2 _ _ _ eq44) (lw_V q1488 q1490 qs46 q133 q1491) rfl hdX11_readOverlap rfl rfl (Nat.le_of_ble_eq_true rfl) ⟨by omega, by omega⟩ dX11_readUnit_94 rfl ?_
        obtain ⟨u46, eu46, h⟩ := bs h
        cases h
        exact r_zret C (bz2_ok eu46) hK dX11_readUnit_97
    · have h := ie_ h c6
      refine r_aload_n C 0 dX11_readUnit_51 rfl rfl ?_
      obtain ⟨u48, eu48, h⟩ := bs h
      obtain ⟨q47, eq47, h⟩ := bs h
      refine r_callV C (As := []) (b := a0) (rest := []) (st1 := [vI q47.1]) (v := some (vI q47.1)) (r := (RX11, TX11, 38)) (ci := 9) rfl eu48 (m_X11_deeper C.tr eq47) (lw_V q1480 q1482 qs44 q133 q1483) rfl hdX11_deeper rfl rfl (Nat.le_of_ble_eq_true rfl) ⟨by omega, by omega⟩ dX11_readUnit_52 rfl ?_
      refine r_if_eq C dX11_readUnit_55 (tgt := 65) (by decide) (fun c49 => ?_) (fun c49 => ?_)
      · have h := it_ h c49
        refine r_iconst C dX11_readUnit_65 ?_
        cases h
        exact r_zret C (Or.inl rfl) hK dX11_readUnit_66
      · have h := ie_ h c49
        refine r_aload_n C 0 dX11_readUnit_58 rfl rfl ?_
        obtain ⟨u51, eu51, h⟩ := bs h
        obtain ⟨q50, eq50, h⟩ := bs h
        refine r_callV C (As := []) (b := a0) (rest := []) (st1 := [vI q50.1]) (v := some (vI q50.1)) (r := (RX11, TX11, 38)) (ci := 9) rfl eu51 (hF.1 _ _ _ eq50) (lw_V q1456 q1458 qs38 q133 q1459) rfl hdX11_readSum rfl rfl (Nat.le_of_ble_eq_true rfl) ⟨by omega, by omega⟩ dX11_readUnit_59 rfl ?_
        refine r_if_ne C dX11_readUnit_62 (tgt := 67) (by decide) (fun c52 => ?_) (fun c52 => ?_)
        · have h := ie_ h c52
          refine r_aload_n C 0 dX11_readUnit_67 rfl rfl ?_
          refine r_dup C dX11_readUnit_68 rfl ?_
          obtain ⟨v53, ev53, h⟩ := bs h
          refine r_getI C (c := 9) (r := (RX11, TX11, 38)) rfl 15 (by decide) rfl ev53 q1328 dX11_readUnit_69 ?_
          refine r_iconst C dX11_readUnit_72 ?_
          refine r_isub C dX11_readUnit_73 ?_
          obtain ⟨m54, em54, h⟩ := bs h
          refine r_putI C (c := 9) (r := (RX11, TX11, 38)) rfl 15 (by decide) rfl ⟨rfl, rfl⟩ rfl em54 q1328 dX11_readUnit_74 ?_
          refine r_aload_n C 0 dX11_readUnit_77 rfl rfl ?_
          refine r_bipush C dX11_readUnit_78 (by decide) ?_
          obtain ⟨u56, eu56, h⟩ := bs h
          obtain ⟨q55, eq55, h⟩ := bs h
          refine r_callV C (As := [vI 41]) (b := a0) (rest := []) (st1 := [vI q55.1]) (v := some (vI q55.1)) (r := (RX11, TX11, 38)) (ci := 9) rfl eu56 (m_X11_has C.tr eq55) (lw_V q1468 q1470 qs41 q133 q1471) rfl hdX11_has rfl rfl (Nat.le_of_ble_eq_true rfl) ⟨by omega, by omega⟩ dX11_readUnit_80 rfl ?_
          obtain ⟨u57, eu57, h⟩ := bs h
          cases h
          exact r_zret C (bz2_ok eu57) hK dX11_readUnit_83
        · have h := it_ h c52
          refine r_iconst C dX11_readUnit_65 ?_
          cases h
          exact r_zret C (Or.inl rfl) hK dX11_readUnit_66
  · have h := ie_ h c3
    refine r_aload_n C 0 dX11_readUnit_9 rfl rfl ?_
    obtain ⟨u59, eu59, h⟩ := bs h
    obtain ⟨q58, eq58, h⟩ := bs h
    refine r_callV C (As := []) (b := a0) (rest := []) (st1 := [vI q58.1]) (v := some (vI q58.1)) (r := (RX11, TX11, 38)) (ci := 9) rfl eu59 (m_X11_deeper C.tr eq58) (lw_V q1480 q1482 qs44 q133 q1483) rfl hdX11_deeper rfl rfl (Nat.le_of_ble_eq_true rfl) ⟨by omega, by omega⟩ dX11_readUnit_10 rfl ?_
    refine r_if_eq C dX11_readUnit_13 (tgt := 23) (by decide) (fun c60 => ?_) (fun c60 => ?_)
    · have h := it_ h c60
      refine r_iconst C dX11_readUnit_23 ?_
      cases h
      exact r_zret C (Or.inl rfl) hK dX11_readUnit_24
    · have h := ie_ h c60
      refine r_aload_n C 0 dX11_readUnit_16 rfl rfl ?_
      obtain ⟨u62, eu62, h⟩ := bs h
      obtain ⟨q61, eq61, h⟩ := bs h
      refine r_callV C (As := []) (b := a0) (rest := []) (st1 := [vI q61.1]) (v := some (vI q61.1)) (r := (RX11, TX11, 38)) (ci := 9) rfl eu62 (hF.2.2.1 _ _ _ eq61) (lw_V q1464 q1466 qs40 q133 q1467) rfl hdX11_readUnit rfl rfl (Nat.le_of_ble_eq_true rfl) ⟨by omega, by omega⟩ dX11_readUnit_17 rfl ?_
      refine r_if_ne C dX11_readUnit_20 (tgt := 25) (by decide) (fun c63 => ?_) (fun c63 => ?_)
      · have h := ie_ h c63
        refine r_aload_n C 0 dX11_readUnit_25 rfl rfl ?_
        refine r_dup C dX11_readUnit_26 rfl ?_
        obtain ⟨v64, ev64, h⟩ := bs h
        refine r_getI C (c := 9) (r := (RX11, TX11, 38)) rfl 15 (by decide) rfl ev64 q1328 dX11_readUnit_27 ?_
        refine r_iconst C dX11_readUnit_30 ?_
        refine r_isub C dX11_readUnit_31 ?_
        obtain ⟨m65, em65, h⟩ := bs h
        refine r_putI C (c := 9) (r := (RX11, TX11, 38)) rfl 15 (by decide) rfl ⟨rfl, rfl⟩ rfl em65 q1328 dX11_readUnit_32 ?_
        refine r_aload_n C 0 dX11_readUnit_35 rfl rfl ?_
        refine r_iconst C dX11_readUnit_36 ?_
        refine r_iconst C dX11_readUnit_37 ?_
        obtain ⟨u67, eu67, h⟩ := bs h
        obtain ⟨q66, eq66, h⟩ := bs h
        refine r_callV C (As := [vI 5, vI 0]) (b := a0) (rest := []) (st1 := [vI q66.1]) (v := some (vI q66.1)) (r := (RX11, TX11, 38)) (ci := 9) rfl eu67 (m_X11_emits C.tr eq66) (lw_V q1484 q1486 qs45 q133 q1487) rfl hdX11_emits rfl rfl (Nat.le_of_ble_eq_true rfl) ⟨by omega, by omega⟩ dX11_readUnit_38 rfl ?_
        obtain ⟨u68, eu68, h⟩ := bs h
        cases h
        exact r_zret C (bz2_ok eu68) hK dX11_readUnit_41
      · have h := it_ h c63
        refine r_iconst C dX11_readUnit_23 ?_
        cases h
        exact r_zret C (Or.inl rfl) hK dX11_readUnit_24
noncomputable def s_X11_readOverlap (F : Nat → Nat → Me → Option (Int × Me)) (a0 : Nat) (μ : Me) : Option (Int × Me) :=
  (gI μ 9 a0 16).bind fun v1 =>
  (if w32 v1 = w32 40 then
  some (0, μ)
  else
  (ck μ 9 a0).bind fun _ =>
  (s_X11_deeper a0 μ).bind fun q3 =>
  (if w32 q3.1 = 0 then
  some (0, q3.2)
  else
  (gI q3.2 9 a0 16).bind fun v6 =>
  (pI q3.2 9 a0 16 (v6 + 1)).bind fun m7 =>
  (ck m7 9 a0).bind fun _ =>
  (F 0 a0 m7).bind fun q8 =>
  (if w32 q8.1 = 0 then
  some (0, q8.2)
  else
  (ck q8.2 9 a0).bind fun _ =>
  (s_X11_has a0 44 q8.2).bind fun q11 =>
  (if w32 q11.1 = 0 then
  some (0, q11.2)
  else
  (ck q11.2 9 a0).bind fun _ =>
  (F 0 a0 q11.2).bind fun q14 =>
  (if w32 q14.1 = 0 then
  some (0, q14.2)
  else
  (ck q14.2 9 a0).bind fun _ =>
  (s_X11_has a0 93 q14.2).bind fun q17 =>
  (if w32 q17.1 = 0 then
  some (0, q17.2)
  else
  (gI q17.2 9 a0 15).bind fun v20 =>
  (pI q17.2 9 a0 15 (v20 - 1)).bind fun m21 =>
  (ck m21 9 a0).bind fun _ =>
  (s_X11_number a0 8 m21).bind fun q22 =>
  (if w32 q22.1 < 0 then
  some (0, q22.2)
  else
  (ck q22.2 9 a0).bind fun _ =>
  (s_X11_emits a0 4 q22.1 q22.2).bind fun q25 =>
  (if w32 q25.1 = 0 then
  some (0, q25.2)
  else
  some (1, q25.2)))))))))
theorem w_X11_readOverlap {Z : Zt} {F : Nat → Nat → Me → Option (Int × Me)} {n : Nat} {fin : Int × Me} {w : Int × Me} (C : CX Z yX11_readOverlap cX11_readOverlap (some .boolean) (6 + (n + 1)) 2) (hF : HF_rd Z.2.1 Z.2.2.2.2.2.2.2.2.2.2.1 Z.2.2.2.2.2.2.2.2.2.2.2.1 n F) {a0 : Nat} {μ : Me} (h : s_X11_readOverlap F a0 μ = some w) (hK : w = fin) : WL Z (QN Z (some (vI fin.1)) fin.2) μ 0 [(0, vO a0)] [] := by
  unfold s_X11_readOverlap at h
  refine r_aload_n C 0 dX11_readOverlap_0 rfl rfl ?_
  obtain ⟨v1, ev1, h⟩ := bs h
  refine r_getI C (c := 9) (r := (RX11, TX11, 38)) rfl 16 (by decide) rfl ev1 q1329 dX11_readOverlap_1 ?_
  refine r_bipush C dX11_readOverlap_4 (by decide) ?_
  refine r_icmp_eq C dX11_readOverlap_6 (tgt := 16) (by decide) (fun c2 => ?_) (fun c2 => ?_)
  · have h := it_ h c2
    refine r_iconst C dX11_readOverlap_16 ?_
    cases h
    exact r_zret C (Or.inl rfl) hK dX11_readOverlap_17
  · have h := ie_ h c2
    refine r_aload_n C 0 dX11_readOverlap_9 rfl rfl ?_
    obtain ⟨u4, eu4, h⟩ := bs h
    obtain ⟨q3, eq3, h⟩ := bs h
    refine r_callV C (As := []) (b := a0) (rest := []) (st1 := [vI q3.1]) (v := some (vI q3.1)) (r := (RX11, TX11, 38)) (ci := 9) rfl eu4 (m_X11_deeper C.tr eq3) (lw_V q1480 q1482 qs44 q133 q1483) rfl hdX11_deeper rfl rfl (Nat.le_of_ble_eq_true rfl) ⟨by omega, by omega⟩ dX11_readOverlap_10 rfl ?_
    refine r_if_ne C dX11_readOverlap_13 (tgt := 18) (by decide) (fun c5 => ?_) (fun c5 => ?_)
    · have h := ie_ h c5
      refine r_aload_n C 0 dX11_readOverlap_18 rfl rfl ?_
      refine r_dup C dX11_readOverlap_19 rfl ?_
      obtain ⟨v6, ev6, h⟩ := bs h
      refine r_getI C (c := 9) (r := (RX11, TX11, 38)) rfl 16 (by decide) rfl ev6 q1329 dX11_readOverlap_20 ?_
      refine r_iconst C dX11_readOverlap_23 ?_
      refine r_iadd C dX11_readOverlap_24 ?_
      obtain ⟨m7, em7, h⟩ := bs h
      refine r_putI C (c := 9) (r := (RX11, TX11, 38)) rfl 16 (by decide) rfl ⟨rfl, rfl⟩ rfl em7 q1329 dX11_readOverlap_25 ?_
      refine r_aload_n C 0 dX11_readOverlap_28 rfl rfl ?_
      obtain ⟨u9, eu9, h⟩ := bs h
      obtain ⟨q8, eq8, h⟩ := bs h
      refine r_callV C (As := []) (b := a0) (rest := []) (st1 := [vI q8.1]) (v := some (vI q8.1)) (r := (RX11, TX11, 38)) (ci := 9) rfl eu9 (hF.1 _ _ _ eq8) (lw_V q1456 q1458 qs38 q133 q1459) rfl hdX11_readSum rfl rfl (Nat.le_of_ble_eq_true rfl) ⟨by omega, by omega⟩ dX11_readOverlap_29 rfl ?_
      refine r_if_eq C dX11_readOverlap_32 (tgt := 60) (by decide) (fun c10 => ?_) (fun c10 => ?_)
      · have h := it_ h c10
        refine r_iconst C dX11_readOverlap_60 ?_
        cases h
        exact r_zret C (Or.inl rfl) hK dX11_readOverlap_61
      · have h := ie_ h c10
        refine r_aload_n C 0 dX11_readOverlap_35 rfl rfl ?_
        refine r_bipush C dX11_readOverlap_36 (by decide) ?_
        obtain ⟨u12, eu12, h⟩ := bs h
        obtain ⟨q11, eq11, h⟩ := bs h
        refine r_callV C (As := [vI 44]) (b := a0) (rest := []) (st1 := [vI q11.1]) (v := some (vI q11.1)) (r := (RX11, TX11, 38)) (ci := 9) rfl eu12 (m_X11_has C.tr eq11) (lw_V q1468 q1470 qs41 q133 q1471) rfl hdX11_has rfl rfl (Nat.le_of_ble_eq_true rfl) ⟨by omega, by omega⟩ dX11_readOverlap_38 rfl ?_
        refine r_if_eq C dX11_readOverlap_41 (tgt := 60) (by decide) (fun c13 => ?_) (fun c13 => ?_)
        · have h := it_ h c13
          refine r_iconst C dX11_readOverlap_60 ?_
          cases h
          exact r_zret C (Or.inl rfl) hK dX11_readOverlap_61
        · have h := ie_ h c13
          refine r_aload_n C 0 dX11_readOverlap_44 rfl rfl ?_
          obtain ⟨u15, eu15, h⟩ := bs h
          obtain ⟨q14, eq14, h⟩ := bs h
          refine r_callV C (As := []) (b := a0) (rest := []) (st1 := [vI q14.1]) (v := some (vI q14.1)) (r := (RX11, TX11, 38)) (ci := 9) rfl eu15 (hF.1 _ _ _ eq14) (lw_V q1456 q1458 qs38 q133 q1459) rfl hdX11_readSum rfl rfl (Nat.le_of_ble_eq_true rfl) ⟨by omega, by omega⟩ dX11_readOverlap_45 rfl ?_
          refine r_if_eq C dX11_readOverlap_48 (tgt := 60) (by decide) (fun c16 => ?_) (fun c16 => ?_)
          · have h := it_ h c16
            refine r_iconst C dX11_readOverlap_60 ?_
            cases h
            exact r_zret C (Or.inl rfl) hK dX11_readOverlap_61
          · have h := ie_ h c16
            refine r_aload_n C 0 dX11_readOverlap_51 rfl rfl ?_
            refine r_bipush C dX11_readOverlap_52 (by decide) ?_
            obtain ⟨u18, eu18, h⟩ := bs h
            obtain ⟨q17, eq17, h⟩ := bs h
            refine r_callV C (As := [vI 93]) (b := a0) (rest := []) (st1 := [vI q17.1]) (v := some (vI q17.1)) (r := (RX11, TX11, 38)) (ci := 9) rfl eu18 (m_X11_has C.tr eq17) (lw_V q1468 q1470 qs41 q133 q1471) rfl hdX11_has rfl rfl (Nat.le_of_ble_eq_true rfl) ⟨by omega, by omega⟩ dX11_readOverlap_54 rfl ?_
            refine r_if_ne C dX11_readOverlap_57 (tgt := 62) (by decide) (fun c19 => ?_) (fun c19 => ?_)
            · have h := ie_ h c19
              refine r_aload_n C 0 dX11_readOverlap_62 rfl rfl ?_
              refine r_dup C dX11_readOverlap_63 rfl ?_
              obtain ⟨v20, ev20, h⟩ := bs h
              refine r_getI C (c := 9) (r := (RX11, TX11, 38)) rfl 15 (by decide) rfl ev20 q1328 dX11_readOverlap_64 ?_
              refine r_iconst C dX11_readOverlap_67 ?_
              refine r_isub C dX11_readOverlap_68 ?_
              obtain ⟨m21, em21, h⟩ := bs h
              refine r_putI C (c := 9) (r := (RX11, TX11, 38)) rfl 15 (by decide) rfl ⟨rfl, rfl⟩ rfl em21 q1328 dX11_readOverlap_69 ?_
              refine r_aload_n C 0 dX11_readOverlap_72 rfl rfl ?_
              refine r_bipush C dX11_readOverlap_73 (by decide) ?_
              obtain ⟨u23, eu23, h⟩ := bs h
              obtain ⟨q22, eq22, h⟩ := bs h
              refine r_callV C (As := [vI 8]) (b := a0) (rest := []) (st1 := [vI q22.1]) (v := some (vI q22.1)) (r := (RX11, TX11, 38)) (ci := 9) rfl eu23 (m_X11_number C.tr eq22) (lw_V q1492 q1494 qs47 q133 q1495) rfl hdX11_number rfl rfl (Nat.le_of_ble_eq_true rfl) ⟨by omega, by omega⟩ dX11_readOverlap_75 rfl ?_
              refine r_istore_n C [(1, vI q22.1), (0, vO a0)] dX11_readOverlap_78 rfl (by decide) rfl ?_
              refine r_iload_n C 0 dX11_readOverlap_79 rfl rfl ?_
              refine r_if_lt C dX11_readOverlap_80 (tgt := 96) (by decide) (fun c24 => ?_) (fun c24 => ?_)
              · have h := it_ h c24
                refine r_iconst C dX11_readOverlap_96 ?_
                cases h
                exact r_zret C (Or.inl rfl) hK dX11_readOverlap_97
              · have h := ie_ h c24
                refine r_aload_n C 1 dX11_readOverlap_83 rfl rfl ?_
                refine r_iconst C dX11_readOverlap_84 ?_
                refine r_iload_n C 0 dX11_readOverlap_85 rfl rfl ?_
                obtain ⟨u26, eu26, h⟩ := bs h
                obtain ⟨q25, eq25, h⟩ := bs h
                refine r_callV C (As := [vI 4, vI q22.1]) (b := a0) (rest := []) (st1 := [vI q25.1]) (v := some (vI q25.1)) (r := (RX11, TX11, 38)) (ci := 9) rfl eu26 (m_X11_emits C.tr eq25) (lw_V q1484 q1486 qs45 q133 q1487) rfl hdX11_emits rfl rfl (Nat.le_of_ble_eq_true rfl) ⟨by omega, by omega⟩ dX11_readOverlap_86 rfl ?_
                refine r_if_eq C dX11_readOverlap_89 (tgt := 96) (by decide) (fun c27 => ?_) (fun c27 => ?_)
                · have h := it_ h c27
                  refine r_iconst C dX11_readOverlap_96 ?_
                  cases h
                  exact r_zret C (Or.inl rfl) hK dX11_readOverlap_97
                · have h := ie_ h c27
                  refine r_iconst C dX11_readOverlap_92 ?_
                  refine r_goto C dX11_readOverlap_93 (tgt := 97) (by decide) ?_
                  cases h
                  exact r_zret C (Or.inr rfl) hK dX11_readOverlap_97
            · have h := it_ h c19
              refine r_iconst C dX11_readOverlap_60 ?_
              cases h
              exact r_zret C (Or.inl rfl) hK dX11_readOverlap_61
    · have h := it_ h c5
      refine r_iconst C dX11_readOverlap_16 ?_
      cases h
      exact r_zret C (Or.inl rfl) hK dX11_readOverlap_17
noncomputable def s_rd : Nat → Nat → Nat → Me → Option (Int × Me)
  | 0 => fun _ _ _ => none
  | n + 1 => fun t a0 μ => if t = 0 then s_X11_readSum (s_rd n) a0 μ else if t = 1 then s_X11_readProduct (s_rd n) a0 μ else if t = 2 then s_X11_readUnit (s_rd n) a0 μ else if t = 3 then s_X11_readOverlap (s_rd n) a0 μ else none
theorem m_rd {l : Launch} {D : va_G} {b0 : Nat} (hl : l.stackTraces = false) : ∀ n : Nat, HF_rd l D b0 n (s_rd n) := by
  intro n
  induction n with
  | zero => exact ⟨(fun a0  μ w h => by cases h), (fun a0  μ w h => by cases h), (fun a0  μ w h => by cases h), (fun a0  μ w h => by cases h)⟩
  | succ n ih =>
    exact ⟨(fun a0  μ w h => MN.of hl (by decide +kernel) (Nat.le_of_ble_eq_true rfl) (fun Z C e1 e2 => w_X11_readSum C (by rw [e1, e2]; exact ih) h rfl)),
      (fun a0  μ w h => MN.of hl (by decide +kernel) (Nat.le_of_ble_eq_true rfl) (fun Z C e1 e2 => w_X11_readProduct C (by rw [e1, e2]; exact ih) h rfl)),
      (fun a0  μ w h => MN.of hl (by decide +kernel) (Nat.le_of_ble_eq_true rfl) (fun Z C e1 e2 => w_X11_readUnit C (by rw [e1, e2]; exact ih) h rfl)),
      (fun a0  μ w h => MN.of hl (by decide +kernel) (Nat.le_of_ble_eq_true rfl) (fun Z C e1 e2 => w_X11_readOverlap C (by rw [e1, e2]; exact ih) h rfl))⟩
def HF_su (l : Launch) (D : va_G) (b0 n : Nat) (F : Nat → Int → Int → Int → Me → Option (Int × Me)) : Prop :=
  (∀ (a0 : Nat) (z0 : Int) (z1 : Int) (z2 : Int) (μ : Me) (w : Int × Me), F a0 z0 z1 z2 μ = some w → MN l D b0 yX1_sums (ws_ yX1_sums cX1_sums 4 (some .long)) (2 + n) [vO a0, vI z0, vI z1, vI z2] μ (some (vJ w.1)) w.2)
theorem hdX1_sums : zhd yX1_sums 3 := by decide +kernel
noncomputable def s_X1_sums (F : Nat → Int → Int → Int → Me → Option (Int × Me)) (a0 : Nat) (x1 : Int) (x2 : Int) (x3 : Int) (μ : Me) : Option (Int × Me) :=
  (if 0 ≤ w32 x1 then
  (if w32 x2 = 0 then
  (if w32 x1 = 0 then
  some (1, μ)
  else
  some (0, μ))
  else
  (if w32 x3 = 0 then
  (if w32 x1 = 0 then
  some (1, μ)
  else
  some (0, μ))
  else
  (ck μ 0 a0).bind fun _ =>
  (F a0 x1 x2 (x3 - 1) μ).bind fun q5 =>
  (ck q5.2 0 a0).bind fun _ =>
  (F a0 (x1 - x3) (x2 - 1) x3 q5.2).bind fun q7 =>
  some ((q5.1 + q7.1), q7.2)))
  else
  some (0, μ))
theorem w_X1_sums {Z : Zt} {F : Nat → Int → Int → Int → Me → Option (Int × Me)} {n : Nat} {fin : Int × Me} {w : Int × Me} (C : CX Z yX1_sums cX1_sums (some .long) (2 + (n + 1)) 4) (hF : HF_su Z.2.1 Z.2.2.2.2.2.2.2.2.2.2.1 Z.2.2.2.2.2.2.2.2.2.2.2.1 n F) {a0 : Nat} {x1 : Int} {x2 : Int} {x3 : Int} {μ : Me} (h : s_X1_sums F a0 x1 x2 x3 μ = some w) (hK : w = fin) : WL Z (QN Z (some (vJ fin.1)) fin.2) μ 0 [(0, vO a0), (1, vI x1), (2, vI x2), (3, vI x3)] [] := by
  unfold s_X1_sums at h
  refine r_iload_n C 1 dX1_sums_0 rfl rfl ?_
  refine r_if_ge C dX1_sums_1 (tgt := 6) (by decide) (fun c1 => ?_) (fun c1 => ?_)
  · have h := it_ h c1
    refine r_iload_n C 2 dX1_sums_6 rfl rfl ?_
    refine r_if_eq C dX1_sums_7 (tgt := 14) (by decide) (fun c2 => ?_) (fun c2 => ?_)
    · have h := it_ h c2
      refine r_iload_n C 1 dX1_sums_14 rfl rfl ?_
      refine r_if_ne C dX1_sums_15 (tgt := 22) (by decide) (fun c3 => ?_) (fun c3 => ?_)
      · have h := ie_ h c3
        refine r_lconst (v := 0) C dX1_sums_22 (by decide) ?_
        cases h
        exact r_lret C hK dX1_sums_23
      · have h := it_ h c3
        refine r_lconst (v := 1) C dX1_sums_18 (by decide) ?_
        refine r_goto C dX1_sums_19 (tgt := 23) (by decide) ?_
        cases h
        exact r_lret C hK dX1_sums_23
    · have h := ie_ h c2
      refine r_iload_n C 3 dX1_sums_10 rfl rfl ?_
      refine r_if_ne C dX1_sums_11 (tgt := 24) (by decide) (fun c4 => ?_) (fun c4 => ?_)
      · have h := ie_ h c4
        refine r_aload_n C 0 dX1_sums_24 rfl rfl ?_
        refine r_iload_n C 1 dX1_sums_25 rfl rfl ?_
        refine r_iload_n C 2 dX1_sums_26 rfl rfl ?_
        refine r_iload_n C 3 dX1_sums_27 rfl rfl ?_
        refine r_iconst C dX1_sums_28 ?_
        refine r_isub C dX1_sums_29 ?_
        obtain ⟨u6, eu6, h⟩ := bs h
        obtain ⟨q5, eq5, h⟩ := bs h
        refine r_callV C (As := [vI x1, vI x2, vI (x3 - 1)]) (b := a0) (rest := []) (st1 := [vJ q5.1]) (v := some (vJ q5.1)) (r := (RX1, TX1, 19)) (ci := 0) rfl eu6 (hF _ _ _ _ _ _ eq5) (lw_V q1019 q1021 qs21 q120 q1022) rfl hdX1_sums rfl rfl (Nat.le_of_ble_eq_true rfl) ⟨by omega, by omega⟩ dX1_sums_30 rfl ?_
        refine r_aload_n C 0 dX1_sums_33 rfl rfl ?_
        refine r_iload_n C 1 dX1_sums_34 rfl rfl ?_
        refine r_iload_n C 3 dX1_sums_35 rfl rfl ?_
        refine r_isub C dX1_sums_36 ?_
        refine r_iload_n C 2 dX1_sums_37 rfl rfl ?_
        refine r_iconst C dX1_sums_38 ?_
        refine r_isub C dX1_sums_39 ?_
        refine r_iload_n C 3 dX1_sums_40 rfl rfl ?_
        obtain ⟨u8, eu8, h⟩ := bs h
        obtain ⟨q7, eq7, h⟩ := bs h
        refine r_callV C (As := [vI (x1 - x3), vI (x2 - 1), vI x3]) (b := a0) (rest := [vJ q5.1]) (st1 := [vJ q7.1, vJ q5.1]) (v := some (vJ q7.1)) (r := (RX1, TX1, 19)) (ci := 0) rfl eu8 (hF _ _ _ _ _ _ eq7) (lw_V q1019 q1021 qs21 q120 q1022) rfl hdX1_sums rfl rfl (Nat.le_of_ble_eq_true rfl) ⟨by omega, by omega⟩ dX1_sums_41 rfl ?_
        refine r_ladd C dX1_sums_44 ?_
        cases h
        exact r_lret C hK dX1_sums_45
      · have h := it_ h c4
        refine r_iload_n C 1 dX1_sums_14 rfl rfl ?_
        refine r_if_ne C dX1_sums_15 (tgt := 22) (by decide) (fun c9 => ?_) (fun c9 => ?_)
        · have h := ie_ h c9
          refine r_lconst (v := 0) C dX1_sums_22 (by decide) ?_
          cases h
          exact r_lret C hK dX1_sums_23
        · have h := it_ h c9
          refine r_lconst (v := 1) C dX1_sums_18 (by decide) ?_
          refine r_goto C dX1_sums_19 (tgt := 23) (by decide) ?_
          cases h
          exact r_lret C hK dX1_sums_23
  · have h := ie_ h c1
    refine r_lconst (v := 0) C dX1_sums_4 (by decide) ?_
    cases h
    exact r_lret C hK dX1_sums_5
noncomputable def s_su : Nat → Nat → Int → Int → Int → Me → Option (Int × Me)
  | 0 => fun _ _ _ _ _ => none
  | n + 1 => fun a0 z0 z1 z2 μ => s_X1_sums (s_su n) a0 z0 z1 z2 μ
theorem m_su {l : Launch} {D : va_G} {b0 : Nat} (hl : l.stackTraces = false) : ∀ n : Nat, HF_su l D b0 n (s_su n) := by
  intro n
  induction n with
  | zero => exact (fun a0 z0 z1 z2 μ w h => by cases h)
  | succ n ih =>
    exact (fun a0 z0 z1 z2 μ w h => MN.of hl (by decide +kernel) (Nat.le_of_ble_eq_true rfl) (fun Z C e1 e2 => w_X1_sums C (by rw [e1, e2]; exact ih) h rfl))
def HF_ad (l : Launch) (D : va_G) (b0 n : Nat) (F : Nat → Nat → Nat → Int → Int → Int → Me → Option (Int × Me)) : Prop :=
  (∀ (a0 : Nat) (z0 : Nat) (z1 : Int) (z2 : Int) (z3 : Int) (μ : Me) (w : Int × Me), F 0 a0 z0 z1 z2 z3 μ = some w → MN l D b0 yX1_adds_2 (ws_ yX1_adds_2 cX1_adds_2 6 (some .boolean)) (6 + n) [vO a0, vO z0, vI z1, vI z2, vI z3] μ (some (vI w.1)) w.2) ∧
  (∀ (a0 : Nat) (z0 : Nat) (z1 : Int) (z2 : Int) (μ : Me) (w : Int × Me), F 1 a0 z0 z1 z2 0 μ = some w → MN l D b0 yX1_byPoints (ws_ yX1_byPoints cX1_byPoints 4 (some .boolean)) (6 + n) [vO a0, vO z0, vI z1, vI z2] μ (some (vI w.1)) w.2) ∧
  (∀ (a0 : Nat) (z0 : Nat) (z1 : Int) (z2 : Int) (μ : Me) (w : Int × Me), F 2 a0 z0 z1 z2 0 μ = some w → MN l D b0 yX1_byNumbers (ws_ yX1_byNumbers cX1_byNumbers 9 (some .boolean)) (6 + n) [vO a0, vO z0, vI z1, vI z2] μ (some (vI w.1)) w.2)
theorem hdX1_adds_2 : zhd yX1_adds_2 4 := by decide +kernel
theorem hdX1_byPoints : zhd yX1_byPoints 3 := by decide +kernel
theorem hdX1_byNumbers : zhd yX1_byNumbers 3 := by decide +kernel
noncomputable def s_X1_adds_2_l4_st (F : Nat → Nat → Nat → Int → Int → Int → Me → Option (Int × Me)) (a0 : Nat) (a1 : Nat) (x2 : Int) (x3 : Int) (x5 : Int) (μ : Me) : Option ((Int × Me) ⊕ (Int × Me)) :=
  (gR μ 0 a0 1).bind fun v1 =>
  (gR μ 4 v1 0).bind fun v2 =>
  (gI μ 5 v2 0).bind fun v3 =>
  (if w32 v3 < w32 x5 then
  some (.inr (0, μ))
  else
  (gR μ 0 a0 11).bind fun v5 =>
  (uI μ v5 x2 x5).bind fun m6 =>
  (if w32 x3 ≤ w32 (x2 + 1) then
  (ck m6 0 a0).bind fun _ =>
  (F 2 a0 a1 x3 0 0 m6).bind fun q8 =>
  (if w32 q8.1 = 0 then
  some (.inl ((x5 + 1), q8.2))
  else
  some (.inr (1, q8.2)))
  else
  (ck m6 0 a0).bind fun _ =>
  (F 1 a0 a1 x2 x3 0 m6).bind fun q11 =>
  (if w32 q11.1 = 0 then
  some (.inl ((x5 + 1), q11.2))
  else
  some (.inr (1, q11.2)))))
theorem w_X1_adds_2_l4_st {Z : Zt} {F : Nat → Nat → Nat → Int → Int → Int → Me → Option (Int × Me)} {n : Nat} {fin : Int × Me} {w : ((Int × Me) ⊕ (Int × Me))} (C : CX Z yX1_adds_2 cX1_adds_2 (some .boolean) (6 + (n + 1)) 6) (hF : HF_ad Z.2.1 Z.2.2.2.2.2.2.2.2.2.2.1 Z.2.2.2.2.2.2.2.2.2.2.2.1 n F) {a0 : Nat} {a1 : Nat} {x2 : Int} {x3 : Int} {x5 : Int} {μ : Me} (h : s_X1_adds_2_l4_st F a0 a1 x2 x3 x5 μ = some w) (hK : (Sum.elim (fun s : Int × Me => WL Z (QN Z (some (vI fin.1)) fin.2) s.2 4 [(0, vO a0), (1, vO a1), (2, vI x2), (3, vI x3), (5, vI s.1)] []) (fun r : Int × Me => r = fin)) w) : WL Z (QN Z (some (vI fin.1)) fin.2) μ 4 [(0, vO a0), (1, vO a1), (2, vI x2), (3, vI x3), (5, vI x5)] [] := by
  unfold s_X1_adds_2_l4_st at h
  refine r_iload C 4 dX1_adds_2_4 rfl ?_
  refine r_aload_n C 0 dX1_adds_2_6 rfl rfl ?_
  obtain ⟨v1, ev1, h⟩ := bs h
  refine r_getR C (c := 0) (r := (RX1, TX1, 19)) rfl 1 (by decide) rfl ev1 q422 dX1_adds_2_7 ?_
  obtain ⟨v2, ev2, h⟩ := bs h
  refine r_getRN C (c := 4) (r := (RX6, TX6, 6)) rfl 0 (by decide) rfl ev2 (lw_n q320 rfl) dX1_adds_2_10 ?_
  obtain ⟨v3, ev3, h⟩ := bs h
  refine r_getIN C (c := 5) (r := (RX7, TX7, 1)) rfl 0 (by decide) rfl ev3 (lw_n q289 rfl) dX1_adds_2_13 ?_
  refine r_icmp_gt C dX1_adds_2_16 (tgt := 64) (by decide) (fun c4 => ?_) (fun c4 => ?_)
  · have h := it_ h c4
    refine r_iconst C dX1_adds_2_64 ?_
    cases h
    exact r_zret C (Or.inl rfl) hK dX1_adds_2_65
  · have h := ie_ h c4
    refine r_aload_n C 0 dX1_adds_2_19 rfl rfl ?_
    obtain ⟨v5, ev5, h⟩ := bs h
    refine r_getR C (c := 0) (r := (RX1, TX1, 19)) rfl 11 (by decide) rfl ev5 q439 dX1_adds_2_20 ?_
    refine r_iload_n C 2 dX1_adds_2_23 rfl rfl ?_
    refine r_iload C 4 dX1_adds_2_24 rfl ?_
    obtain ⟨m6, em6, h⟩ := bs h
    refine r_iast C em6 dX1_adds_2_26 ?_
    refine r_iload_n C 2 dX1_adds_2_27 rfl rfl ?_
    refine r_iconst C dX1_adds_2_28 ?_
    refine r_iadd C dX1_adds_2_29 ?_
    refine r_iload_n C 3 dX1_adds_2_30 rfl rfl ?_
    refine r_icmp_ge C dX1_adds_2_31 (tgt := 46) (by decide) (fun c7 => ?_) (fun c7 => ?_)
    · have h := it_ h c7
      refine r_aload_n C 0 dX1_adds_2_46 rfl rfl ?_
      refine r_aload_n C 1 dX1_adds_2_47 rfl rfl ?_
      refine r_iload_n C 3 dX1_adds_2_48 rfl rfl ?_
      refine r_iconst C dX1_adds_2_49 ?_
      obtain ⟨u9, eu9, h⟩ := bs h
      obtain ⟨q8, eq8, h⟩ := bs h
      refine r_callV C (As := [vO a1, vI x3, vI 0]) (b := a0) (rest := []) (st1 := [vI q8.1]) (v := some (vI q8.1)) (r := (RX1, TX1, 19)) (ci := 0) rfl eu9 (hF.2.2 _ _ _ _ _ _ eq8) (lw_V q1191 q1193 qs34 q120 q1194) rfl hdX1_byNumbers rfl rfl (Nat.le_of_ble_eq_true rfl) ⟨by omega, by omega⟩ dX1_adds_2_50 rfl ?_
      refine r_if_eq C dX1_adds_2_53 (tgt := 58) (by decide) (fun c10 => ?_) (fun c10 => ?_)
      · have h := it_ h c10
        refine r_iinc C 4 [(5, vI (x5 + 1)), (0, vO a0), (1, vO a1), (2, vI x2), (3, vI x3)] dX1_adds_2_58 rfl (by decide) rfl ?_
        refine r_goto C dX1_adds_2_61 (tgt := 4) (by decide) ?_
        cases h
        refine r_sub [1, 2, 3, 4, 0] rfl ?_
        exact hK
      · have h := ie_ h c10
        refine r_iconst C dX1_adds_2_56 ?_
        cases h
        exact r_zret C (Or.inr rfl) hK dX1_adds_2_57
    · have h := ie_ h c7
      refine r_aload_n C 0 dX1_adds_2_34 rfl rfl ?_
      refine r_aload_n C 1 dX1_adds_2_35 rfl rfl ?_
      refine r_iload_n C 2 dX1_adds_2_36 rfl rfl ?_
      refine r_iload_n C 3 dX1_adds_2_37 rfl rfl ?_
      obtain ⟨u12, eu12, h⟩ := bs h
      obtain ⟨q11, eq11, h⟩ := bs h
      refine r_callV C (As := [vO a1, vI x2, vI x3]) (b := a0) (rest := []) (st1 := [vI q11.1]) (v := some (vI q11.1)) (r := (RX1, TX1, 19)) (ci := 0) rfl eu12 (hF.2.1 _ _ _ _ _ _ eq11) (lw_V q1187 q1189 qs33 q120 q1190) rfl hdX1_byPoints rfl rfl (Nat.le_of_ble_eq_true rfl) ⟨by omega, by omega⟩ dX1_adds_2_38 rfl ?_
      refine r_if_eq C dX1_adds_2_41 (tgt := 58) (by decide) (fun c13 => ?_) (fun c13 => ?_)
      · have h := it_ h c13
        refine r_iinc C 4 [(5, vI (x5 + 1)), (0, vO a0), (1, vO a1), (2, vI x2), (3, vI x3)] dX1_adds_2_58 rfl (by decide) rfl ?_
        refine r_goto C dX1_adds_2_61 (tgt := 4) (by decide) ?_
        cases h
        refine r_sub [1, 2, 3, 4, 0] rfl ?_
        exact hK
      · have h := ie_ h c13
        refine r_iconst C dX1_adds_2_44 ?_
        cases h
        exact r_zret C (Or.inr rfl) hK dX1_adds_2_45
noncomputable def s_X1_adds_2_l4 (F : Nat → Nat → Nat → Int → Int → Int → Me → Option (Int × Me)) (a0 : Nat) (a1 : Nat) (x2 : Int) (x3 : Int) (x5 : Int) (μ : Me) : Option (Int × Me) :=
  whileO (fun s : Int × Me => s_X1_adds_2_l4_st F a0 a1 x2 x3 s.1 s.2) (x5, μ)
theorem e_X1_adds_2_l4 (F : Nat → Nat → Nat → Int → Int → Int → Me → Option (Int × Me)) (a0 : Nat) (a1 : Nat) (x2 : Int) (x3 : Int) (x5 : Int) (μ : Me) : s_X1_adds_2_l4 F a0 a1 x2 x3 x5 μ = (s_X1_adds_2_l4_st F a0 a1 x2 x3 x5 μ).bind fun x => x.elim (fun s : Int × Me => s_X1_adds_2_l4 F a0 a1 x2 x3 s.1 s.2) some := whileO_eq _ _
theorem w_X1_adds_2_l4 {Z : Zt} {F : Nat → Nat → Nat → Int → Int → Int → Me → Option (Int × Me)} {n : Nat} {fin : Int × Me} {w : (Int × Me)} (C : CX Z yX1_adds_2 cX1_adds_2 (some .boolean) (6 + (n + 1)) 6) (hF : HF_ad Z.2.1 Z.2.2.2.2.2.2.2.2.2.2.1 Z.2.2.2.2.2.2.2.2.2.2.2.1 n F) {a0 : Nat} {a1 : Nat} {x2 : Int} {x3 : Int} {x5 : Int} {μ : Me} (h : s_X1_adds_2_l4 F a0 a1 x2 x3 x5 μ = some w) (hK : (fun r : Int × Me => r = fin) w) : WL Z (QN Z (some (vI fin.1)) fin.2) μ 4 [(0, vO a0), (1, vO a1), (2, vI x2), (3, vI x3), (5, vI x5)] [] := by
  refine whileO_walk (w := w) (fun s : Int × Me => WL Z (QN Z (some (vI fin.1)) fin.2) s.2 4 [(0, vO a0), (1, vO a1), (2, vI x2), (3, vI x3), (5, vI s.1)] []) (fun s v h2 hi hr => ?_) (x5, μ) h
  refine w_X1_adds_2_l4_st (fin := fin) C hF h2 ?_
  cases v with
  | inl s2 => exact hi s2 rfl
  | inr r => have e := hr r rfl; subst e; exact hK
noncomputable def s_X1_adds_2 (F : Nat → Nat → Nat → Int → Int → Int → Me → Option (Int × Me)) (a0 : Nat) (a1 : Nat) (x2 : Int) (x3 : Int) (x4 : Int) (μ : Me) : Option (Int × Me) :=
  s_X1_adds_2_l4 F a0 a1 x2 x3 x4 μ
theorem w_X1_adds_2 {Z : Zt} {F : Nat → Nat → Nat → Int → Int → Int → Me → Option (Int × Me)} {n : Nat} {fin : Int × Me} {w : Int × Me} (C : CX Z yX1_adds_2 cX1_adds_2 (some .boolean) (6 + (n + 1)) 6) (hF : HF_ad Z.2.1 Z.2.2.2.2.2.2.2.2.2.2.1 Z.2.2.2.2.2.2.2.2.2.2.2.1 n F) {a0 : Nat} {a1 : Nat} {x2 : Int} {x3 : Int} {x4 : Int} {μ : Me} (h : s_X1_adds_2 F a0 a1 x2 x3 x4 μ = some w) (hK : w = fin) : WL Z (QN Z (some (vI fin.1)) fin.2) μ 0 [(0, vO a0), (1, vO a1), (2, vI x2), (3, vI x3), (4, vI x4)] [] := by
  unfold s_X1_adds_2 at h
  refine r_iload C 4 dX1_adds_2_0 rfl ?_
  refine r_istore C [(5, vI x4), (0, vO a0), (1, vO a1), (2, vI x2), (3, vI x3), (4, vI x4)] dX1_adds_2_2 (by decide) rfl ?_
  refine r_sub [1, 2, 3, 4, 0] rfl ?_
  exact w_X1_adds_2_l4 (fin := fin) C hF h hK
noncomputable def s_X1_byPoints (F : Nat → Nat → Nat → Int → Int → Int → Me → Option (Int × Me)) (a0 : Nat) (a1 : Nat) (x2 : Int) (x3 : Int) (μ : Me) : Option (Int × Me) :=
  (gR μ 0 a0 11).bind fun v1 =>
  (aI μ 101 v1 x2).bind fun v2 =>
  (ck μ 0 a0).bind fun _ =>
  (F 0 a0 a1 (x2 + 1) x3 (v2 + 1) μ).bind fun q3 =>
  (bz2 q3.1).bind fun _ =>
  some (q3.1, q3.2)
theorem w_X1_byPoints {Z : Zt} {F : Nat → Nat → Nat → Int → Int → Int → Me → Option (Int × Me)} {n : Nat} {fin : Int × Me} {w : Int × Me} (C : CX Z yX1_byPoints cX1_byPoints (some .boolean) (6 + (n + 1)) 4) (hF : HF_ad Z.2.1 Z.2.2.2.2.2.2.2.2.2.2.1 Z.2.2.2.2.2.2.2.2.2.2.2.1 n F) {a0 : Nat} {a1 : Nat} {x2 : Int} {x3 : Int} {μ : Me} (h : s_X1_byPoints F a0 a1 x2 x3 μ = some w) (hK : w = fin) : WL Z (QN Z (some (vI fin.1)) fin.2) μ 0 [(0, vO a0), (1, vO a1), (2, vI x2), (3, vI x3)] [] := by
  unfold s_X1_byPoints at h
  refine r_aload_n C 0 dX1_byPoints_0 rfl rfl ?_
  refine r_aload_n C 1 dX1_byPoints_1 rfl rfl ?_
  refine r_iload_n C 2 dX1_byPoints_2 rfl rfl ?_
  refine r_iconst C dX1_byPoints_3 ?_
  refine r_iadd C dX1_byPoints_4 ?_
  refine r_iload_n C 3 dX1_byPoints_5 rfl rfl ?_
  refine r_aload_n C 0 dX1_byPoints_6 rfl rfl ?_
  obtain ⟨v1, ev1, h⟩ := bs h
  refine r_getR C (c := 0) (r := (RX1, TX1, 19)) rfl 11 (by decide) rfl ev1 q439 dX1_byPoints_7 ?_
  refine r_iload_n C 2 dX1_byPoints_10 rfl rfl ?_
  obtain ⟨v2, ev2, h⟩ := bs h
  refine r_iald C ev2 dX1_byPoints_11 ?_
  refine r_iconst C dX1_byPoints_12 ?_
  refine r_iadd C dX1_byPoints_13 ?_
  obtain ⟨u4, eu4, h⟩ := bs h
  obtain ⟨q3, eq3, h⟩ := bs h
  refine r_callV C (As := [vO a1, vI (x2 + 1), vI x3, vI (v2 + 1)]) (b := a0) (rest := []) (st1 := [vI q3.1]) (v := some (vI q3.1)) (r := (RX1, TX1, 19)) (ci := 0) rfl eu4 (hF.1 _ _ _ _ _ _ _ eq3) (lw_V q1183 q1185 qs32 q120 q1186) rfl hdX1_adds_2 rfl rfl (Nat.le_of_ble_eq_true rfl) ⟨by omega, by omega⟩ dX1_byPoints_14 rfl ?_
  obtain ⟨u5, eu5, h⟩ := bs h
  cases h
  exact r_zret C (bz2_ok eu5) hK dX1_byPoints_17
noncomputable def s_X1_byNumbers_b253 (F : Nat → Nat → Nat → Int → Int → Int → Me → Option (Int × Me)) (a0 : Nat) (a1 : Nat) (x2 : Int) (x3 : Int) (a4 : Nat) (a5 : Nat) (x6 : Int)  (μ : Me) : Option ((Int × Me) ⊕ (Int × Me)) :=
  (ck μ 0 a0).bind fun _ =>
  (F 2 a0 a5 x2 (x3 + 1) 0 μ).bind fun q18 =>
  (if w32 q18.1 = 0 then
  some (.inl ((x6 + 1), q18.2))
  else
  some (.inr (1, q18.2)))
theorem w_X1_byNumbers_b253 {Z : Zt} {F : Nat → Nat → Nat → Int → Int → Int → Me → Option (Int × Me)} {n : Nat} {fin : Int × Me} {w : ((Int × Me) ⊕ (Int × Me))} (C : CX Z yX1_byNumbers cX1_byNumbers (some .boolean) (6 + (n + 1)) 9) (hF : HF_ad Z.2.1 Z.2.2.2.2.2.2.2.2.2.2.1 Z.2.2.2.2.2.2.2.2.2.2.2.1 n F) {a0 : Nat} {a1 : Nat} {x2 : Int} {x3 : Int} {a4 : Nat} {a5 : Nat} {x6 : Int}  {μ : Me} (h : s_X1_byNumbers_b253 F a0 a1 x2 x3 a4 a5 x6 μ = some w) (hK : (Sum.elim (fun s : Int × Me => WL Z (QN Z (some (vI fin.1)) fin.2) s.2 168 [(0, vO a0), (1, vO a1), (2, vI x2), (3, vI x3), (4, vO a4), (5, vO a5), (6, vI s.1)] []) (fun r : Int × Me => r = fin)) w) : WL Z (QN Z (some (vI fin.1)) fin.2) μ 253 [(0, vO a0), (1, vO a1), (2, vI x2), (3, vI x3), (4, vO a4), (5, vO a5), (6, vI x6)] [] := by
  unfold s_X1_byNumbers_b253 at h
  refine r_aload_n C 0 dX1_byNumbers_253 rfl rfl ?_
  refine r_aload C 5 dX1_byNumbers_254 rfl ?_
  refine r_iload_n C 2 dX1_byNumbers_256 rfl rfl ?_
  refine r_iload_n C 3 dX1_byNumbers_257 rfl rfl ?_
  refine r_iconst C dX1_byNumbers_258 ?_
  refine r_iadd C dX1_byNumbers_259 ?_
  obtain ⟨u19, eu19, h⟩ := bs h
  obtain ⟨q18, eq18, h⟩ := bs h
  refine r_callV C (As := [vO a5, vI x2, vI (x3 + 1)]) (b := a0) (rest := []) (st1 := [vI q18.1]) (v := some (vI q18.1)) (r := (RX1, TX1, 19)) (ci := 0) rfl eu19 (hF.2.2 _ _ _ _ _ _ eq18) (lw_V q1191 q1193 qs34 q120 q1194) rfl hdX1_byNumbers rfl rfl (Nat.le_of_ble_eq_true rfl) ⟨by omega, by omega⟩ dX1_byNumbers_260 rfl ?_
  refine r_if_eq C dX1_byNumbers_263 (tgt := 268) (by decide) (fun c20 => ?_) (fun c20 => ?_)
  · have h := it_ h c20
    refine r_iinc C 6 [(6, vI (x6 + 1)), (0, vO a0), (1, vO a1), (2, vI x2), (3, vI x3), (4, vO a4), (5, vO a5)] dX1_byNumbers_268 rfl (by decide) rfl ?_
    refine r_goto C dX1_byNumbers_271 (tgt := 168) (by decide) ?_
    cases h
    refine r_sub [1, 2, 3, 4, 5, 6, 0] rfl ?_
    exact hK
  · have h := ie_ h c20
    refine r_iconst C dX1_byNumbers_266 ?_
    cases h
    exact r_zret C (Or.inr rfl) hK dX1_byNumbers_267
noncomputable def s_X1_byNumbers_l200_st (F : Nat → Nat → Nat → Int → Int → Int → Me → Option (Int × Me)) (a0 : Nat) (a1 : Nat) (x2 : Int) (x3 : Int) (a4 : Nat) (a5 : Nat) (x6 : Int) (x7 : Int) (μ : Me) : Option ((Int × Me) ⊕ ((Int × Me) ⊕ (Int × Me))) :=
  (gI μ 6 a1 1).bind fun v16 =>
  (if w32 v16 < w32 x7 then
  (s_X1_byNumbers_b253 F a0 a1 x2 x3 a4 a5 x6 μ).map Sum.inr
  else
  (gR μ 6 a5 0).bind fun v21 =>
  (gR μ 0 a0 1).bind fun v22 =>
  (gR μ 4 v22 0).bind fun v23 =>
  (gR μ 6 a5 0).bind fun v24 =>
  (aI μ 101 v24 x7).bind fun v25 =>
  (aI μ 101 a4 x7).bind fun v26 =>
  (ck μ 5 v23).bind fun _ =>
  (s_X7_of v23 ((w32 v25) - ((w32 x6) * (w32 v26))) μ).bind fun q27 =>
  (uI q27.2 v21 x7 q27.1).bind fun m29 =>
  some (.inl ((x7 + 1), m29)))
theorem w_X1_byNumbers_l200_st {Z : Zt} {F : Nat → Nat → Nat → Int → Int → Int → Me → Option (Int × Me)} {n : Nat} {fin : Int × Me} {w : ((Int × Me) ⊕ ((Int × Me) ⊕ (Int × Me)))} (C : CX Z yX1_byNumbers cX1_byNumbers (some .boolean) (6 + (n + 1)) 9) (hF : HF_ad Z.2.1 Z.2.2.2.2.2.2.2.2.2.2.1 Z.2.2.2.2.2.2.2.2.2.2.2.1 n F) {a0 : Nat} {a1 : Nat} {x2 : Int} {x3 : Int} {a4 : Nat} {a5 : Nat} {x6 : Int} {x7 : Int} {μ : Me} (h : s_X1_byNumbers_l200_st F a0 a1 x2 x3 a4 a5 x6 x7 μ = some w) (hK : (Sum.elim (fun s : Int × Me => WL Z (QN Z (some (vI fin.1)) fin.2) s.2 200 [(0, vO a0), (1, vO a1), (2, vI x2), (3, vI x3), (4, vO a4), (5, vO a5), (6, vI x6), (7, vI s.1)] []) (Sum.elim (fun s : Int × Me => WL Z (QN Z (some (vI fin.1)) fin.2) s.2 168 [(0, vO a0), (1, vO a1), (2, vI x2), (3, vI x3), (4, vO a4), (5, vO a5), (6, vI s.1)] []) (fun r : Int × Me => r = fin))) w) : WL Z (QN Z (some (vI fin.1)) fin.2) μ 200 [(0, vO a0), (1, vO a1), (2, vI x2), (3, vI x3), (4, vO a4), (5, vO a5), (6, vI x6), (7, vI x7)] [] := by
  unfold s_X1_byNumbers_l200_st at h
  refine r_iload C 7 dX1_byNumbers_200 rfl ?_
  refine r_aload_n C 1 dX1_byNumbers_202 rfl rfl ?_
  obtain ⟨v16, ev16, h⟩ := bs h
  refine r_getIN C (c := 6) (r := (RX8, TX8, 2)) rfl 1 (by decide) rfl ev16 (lw_n q309 rfl) dX1_byNumbers_203 ?_
  refine r_icmp_gt C dX1_byNumbers_206 (tgt := 253) (by decide) (fun c17 => ?_) (fun c17 => ?_)
  · have h := it_ h c17
    obtain ⟨z, hz, ez⟩ := ms_ h; clear h; subst ez; have h := hz; clear hz
    refine r_sub [0, 1, 2, 3, 4, 5, 6] rfl ?_
    exact w_X1_byNumbers_b253 (fin := fin) C hF h hK
  · have h := ie_ h c17
    refine r_aload C 5 dX1_byNumbers_209 rfl ?_
    obtain ⟨v21, ev21, h⟩ := bs h
    refine r_getRN C (c := 6) (r := (RX8, TX8, 2)) rfl 0 (by decide) rfl ev21 (lw_n q304 rfl) dX1_byNumbers_211 ?_
    refine r_iload C 7 dX1_byNumbers_214 rfl ?_
    refine r_aload_n C 0 dX1_byNumbers_216 rfl rfl ?_
    obtain ⟨v22, ev22, h⟩ := bs h
    refine r_getR C (c := 0) (r := (RX1, TX1, 19)) rfl 1 (by decide) rfl ev22 q422 dX1_byNumbers_217 ?_
    obtain ⟨v23, ev23, h⟩ := bs h
    refine r_getRN C (c := 4) (r := (RX6, TX6, 6)) rfl 0 (by decide) rfl ev23 (lw_n q320 rfl) dX1_byNumbers_220 ?_
    refine r_aload C 5 dX1_byNumbers_223 rfl ?_
    obtain ⟨v24, ev24, h⟩ := bs h
    refine r_getRN C (c := 6) (r := (RX8, TX8, 2)) rfl 0 (by decide) rfl ev24 (lw_n q304 rfl) dX1_byNumbers_225 ?_
    refine r_iload C 7 dX1_byNumbers_228 rfl ?_
    obtain ⟨v25, ev25, h⟩ := bs h
    refine r_iald C ev25 dX1_byNumbers_230 ?_
    refine r_i2l C dX1_byNumbers_231 ?_
    refine r_iload C 6 dX1_byNumbers_232 rfl ?_
    refine r_i2l C dX1_byNumbers_234 ?_
    refine r_aload C 4 dX1_byNumbers_235 rfl ?_
    refine r_iload C 7 dX1_byNumbers_237 rfl ?_
    obtain ⟨v26, ev26, h⟩ := bs h
    refine r_iald C ev26 dX1_byNumbers_239 ?_
    refine r_i2l C dX1_byNumbers_240 ?_
    refine r_lmul C dX1_byNumbers_241 ?_
    refine r_lsub C dX1_byNumbers_242 ?_
    obtain ⟨u28, eu28, h⟩ := bs h
    obtain ⟨q27, eq27, h⟩ := bs h
    refine r_callV C (As := [vJ ((w32 v25) - ((w32 x6) * (w32 v26)))]) (b := v23) (rest := [vI x7, vO v21]) (st1 := [vI q27.1, vI x7, vO v21]) (v := some (vI q27.1)) (r := (RX7, TX7, 1)) (ci := 5) rfl eu28 (m_X7_of C.tr eq27) (lw_V q631 q632 q633 q129 q634) rfl hdX7_of rfl rfl (Nat.le_of_ble_eq_true rfl) ⟨by omega, by omega⟩ dX1_byNumbers_243 rfl ?_
    obtain ⟨m29, em29, h⟩ := bs h
    refine r_iast C em29 dX1_byNumbers_246 ?_
    refine r_iinc C 7 [(7, vI (x7 + 1)), (0, vO a0), (1, vO a1), (2, vI x2), (3, vI x3), (4, vO a4), (5, vO a5), (6, vI x6)] dX1_byNumbers_247 rfl (by decide) rfl ?_
    refine r_goto C dX1_byNumbers_250 (tgt := 200) (by decide) ?_
    cases h
    refine r_sub [1, 2, 3, 4, 5, 6, 7, 0] rfl ?_
    exact hK
noncomputable def s_X1_byNumbers_l200 (F : Nat → Nat → Nat → Int → Int → Int → Me → Option (Int × Me)) (a0 : Nat) (a1 : Nat) (x2 : Int) (x3 : Int) (a4 : Nat) (a5 : Nat) (x6 : Int) (x7 : Int) (μ : Me) : Option ((Int × Me) ⊕ (Int × Me)) :=
  whileO (fun s : Int × Me => s_X1_byNumbers_l200_st F a0 a1 x2 x3 a4 a5 x6 s.1 s.2) (x7, μ)
theorem e_X1_byNumbers_l200 (F : Nat → Nat → Nat → Int → Int → Int → Me → Option (Int × Me)) (a0 : Nat) (a1 : Nat) (x2 : Int) (x3 : Int) (a4 : Nat) (a5 : Nat) (x6 : Int) (x7 : Int) (μ : Me) : s_X1_byNumbers_l200 F a0 a1 x2 x3 a4 a5 x6 x7 μ = (s_X1_byNumbers_l200_st F a0 a1 x2 x3 a4 a5 x6 x7 μ).bind fun x => x.elim (fun s : Int × Me => s_X1_byNumbers_l200 F a0 a1 x2 x3 a4 a5 x6 s.1 s.2) some := whileO_eq _ _
theorem w_X1_byNumbers_l200 {Z : Zt} {F : Nat → Nat → Nat → Int → Int → Int → Me → Option (Int × Me)} {n : Nat} {fin : Int × Me} {w : ((Int × Me) ⊕ (Int × Me))} (C : CX Z yX1_byNumbers cX1_byNumbers (some .boolean) (6 + (n + 1)) 9) (hF : HF_ad Z.2.1 Z.2.2.2.2.2.2.2.2.2.2.1 Z.2.2.2.2.2.2.2.2.2.2.2.1 n F) {a0 : Nat} {a1 : Nat} {x2 : Int} {x3 : Int} {a4 : Nat} {a5 : Nat} {x6 : Int} {x7 : Int} {μ : Me} (h : s_X1_byNumbers_l200 F a0 a1 x2 x3 a4 a5 x6 x7 μ = some w) (hK : (Sum.elim (fun s : Int × Me => WL Z (QN Z (some (vI fin.1)) fin.2) s.2 168 [(0, vO a0), (1, vO a1), (2, vI x2), (3, vI x3), (4, vO a4), (5, vO a5), (6, vI s.1)] []) (fun r : Int × Me => r = fin)) w) : WL Z (QN Z (some (vI fin.1)) fin.2) μ 200 [(0, vO a0), (1, vO a1), (2, vI x2), (3, vI x3), (4, vO a4), (5, vO a5), (6, vI x6), (7, vI x7)] [] := by
  refine whileO_walk (w := w) (fun s : Int × Me => WL Z (QN Z (some (vI fin.1)) fin.2) s.2 200 [(0, vO a0), (1, vO a1), (2, vI x2), (3, vI x3), (4, vO a4), (5, vO a5), (6, vI x6), (7, vI s.1)] []) (fun s v h2 hi hr => ?_) (x7, μ) h
  refine w_X1_byNumbers_l200_st (fin := fin) C hF h2 ?_
  cases v with
  | inl s2 => exact hi s2 rfl
  | inr r => have e := hr r rfl; subst e; exact hK
noncomputable def s_X1_byNumbers_l168_st (F : Nat → Nat → Nat → Int → Int → Int → Me → Option (Int × Me)) (a0 : Nat) (a1 : Nat) (x2 : Int) (x3 : Int) (a4 : Nat) (a5 : Nat) (x6 : Int) (μ : Me) : Option ((Int × Me) ⊕ (Int × Me)) :=
  (gR μ 0 a0 1).bind fun v8 =>
  (gR μ 4 v8 0).bind fun v9 =>
  (gI μ 5 v9 0).bind fun v10 =>
  (if w32 v10 ≤ w32 x6 then
  some (.inr (0, μ))
  else
  (gR μ 0 a0 12).bind fun v12 =>
  (uI μ v12 x3 x6).bind fun m13 =>
  (ck m13 6 a5).bind fun _ =>
  (s_X8_be a5 a1 m13).bind fun q14 =>
  s_X1_byNumbers_l200 F a0 a1 x2 x3 a4 a5 x6 0 q14)
theorem w_X1_byNumbers_l168_st {Z : Zt} {F : Nat → Nat → Nat → Int → Int → Int → Me → Option (Int × Me)} {n : Nat} {fin : Int × Me} {w : ((Int × Me) ⊕ (Int × Me))} (C : CX Z yX1_byNumbers cX1_byNumbers (some .boolean) (6 + (n + 1)) 9) (hF : HF_ad Z.2.1 Z.2.2.2.2.2.2.2.2.2.2.1 Z.2.2.2.2.2.2.2.2.2.2.2.1 n F) {a0 : Nat} {a1 : Nat} {x2 : Int} {x3 : Int} {a4 : Nat} {a5 : Nat} {x6 : Int} {μ : Me} (h : s_X1_byNumbers_l168_st F a0 a1 x2 x3 a4 a5 x6 μ = some w) (hK : (Sum.elim (fun s : Int × Me => WL Z (QN Z (some (vI fin.1)) fin.2) s.2 168 [(0, vO a0), (1, vO a1), (2, vI x2), (3, vI x3), (4, vO a4), (5, vO a5), (6, vI s.1)] []) (fun r : Int × Me => r = fin)) w) : WL Z (QN Z (some (vI fin.1)) fin.2) μ 168 [(0, vO a0), (1, vO a1), (2, vI x2), (3, vI x3), (4, vO a4), (5, vO a5), (6, vI x6)] [] := by
  unfold s_X1_byNumbers_l168_st at h
  refine r_iload C 6 dX1_byNumbers_168 rfl ?_
  refine r_aload_n C 0 dX1_byNumbers_170 rfl rfl ?_
  obtain ⟨v8, ev8, h⟩ := bs h
  refine r_getR C (c := 0) (r := (RX1, TX1, 19)) rfl 1 (by decide) rfl ev8 q422 dX1_byNumbers_171 ?_
  obtain ⟨v9, ev9, h⟩ := bs h
  refine r_getRN C (c := 4) (r := (RX6, TX6, 6)) rfl 0 (by decide) rfl ev9 (lw_n q320 rfl) dX1_byNumbers_174 ?_
  obtain ⟨v10, ev10, h⟩ := bs h
  refine r_getIN C (c := 5) (r := (RX7, TX7, 1)) rfl 0 (by decide) rfl ev10 (lw_n q289 rfl) dX1_byNumbers_177 ?_
  refine r_icmp_ge C dX1_byNumbers_180 (tgt := 274) (by decide) (fun c11 => ?_) (fun c11 => ?_)
  · have h := it_ h c11
    refine r_iconst C dX1_byNumbers_274 ?_
    cases h
    exact r_zret C (Or.inl rfl) hK dX1_byNumbers_275
  · have h := ie_ h c11
    refine r_aload_n C 0 dX1_byNumbers_183 rfl rfl ?_
    obtain ⟨v12, ev12, h⟩ := bs h
    refine r_getR C (c := 0) (r := (RX1, TX1, 19)) rfl 12 (by decide) rfl ev12 q440 dX1_byNumbers_184 ?_
    refine r_iload_n C 3 dX1_byNumbers_187 rfl rfl ?_
    refine r_iload C 6 dX1_byNumbers_188 rfl ?_
    obtain ⟨m13, em13, h⟩ := bs h
    refine r_iast C em13 dX1_byNumbers_190 ?_
    refine r_aload C 5 dX1_byNumbers_191 rfl ?_
    refine r_aload_n C 1 dX1_byNumbers_193 rfl rfl ?_
    obtain ⟨u15, eu15, h⟩ := bs h
    obtain ⟨q14, eq14, h⟩ := bs h
    refine r_callV C (As := [vO a1]) (b := a5) (rest := []) (st1 := []) (v := none) (r := (RX8, TX8, 2)) (ci := 6) rfl eu15 (m_X8_be C.tr eq14) (lw_V q510 q511 q512 q130 q513) rfl hdX8_be rfl rfl (Nat.le_of_ble_eq_true rfl) ⟨by omega, by omega⟩ dX1_byNumbers_194 rfl ?_
    refine r_iconst C dX1_byNumbers_197 ?_
    refine r_istore C [(7, vI 0), (0, vO a0), (1, vO a1), (2, vI x2), (3, vI x3), (4, vO a4), (5, vO a5), (6, vI x6)] dX1_byNumbers_198 (by decide) rfl ?_
    refine r_sub [1, 2, 3, 4, 5, 6, 7, 0] rfl ?_
    exact w_X1_byNumbers_l200 (fin := fin) C hF h hK
noncomputable def s_X1_byNumbers_l168 (F : Nat → Nat → Nat → Int → Int → Int → Me → Option (Int × Me)) (a0 : Nat) (a1 : Nat) (x2 : Int) (x3 : Int) (a4 : Nat) (a5 : Nat) (x6 : Int) (μ : Me) : Option (Int × Me) :=
  whileO (fun s : Int × Me => s_X1_byNumbers_l168_st F a0 a1 x2 x3 a4 a5 s.1 s.2) (x6, μ)
theorem e_X1_byNumbers_l168 (F : Nat → Nat → Nat → Int → Int → Int → Me → Option (Int × Me)) (a0 : Nat) (a1 : Nat) (x2 : Int) (x3 : Int) (a4 : Nat) (a5 : Nat) (x6 : Int) (μ : Me) : s_X1_byNumbers_l168 F a0 a1 x2 x3 a4 a5 x6 μ = (s_X1_byNumbers_l168_st F a0 a1 x2 x3 a4 a5 x6 μ).bind fun x => x.elim (fun s : Int × Me => s_X1_byNumbers_l168 F a0 a1 x2 x3 a4 a5 s.1 s.2) some := whileO_eq _ _
theorem w_X1_byNumbers_l168 {Z : Zt} {F : Nat → Nat → Nat → Int → Int → Int → Me → Option (Int × Me)} {n : Nat} {fin : Int × Me} {w : (Int × Me)} (C : CX Z yX1_byNumbers cX1_byNumbers (some .boolean) (6 + (n + 1)) 9) (hF : HF_ad Z.2.1 Z.2.2.2.2.2.2.2.2.2.2.1 Z.2.2.2.2.2.2.2.2.2.2.2.1 n F) {a0 : Nat} {a1 : Nat} {x2 : Int} {x3 : Int} {a4 : Nat} {a5 : Nat} {x6 : Int} {μ : Me} (h : s_X1_byNumbers_l168 F a0 a1 x2 x3 a4 a5 x6 μ = some w) (hK : (fun r : Int × Me => r = fin) w) : WL Z (QN Z (some (vI fin.1)) fin.2) μ 168 [(0, vO a0), (1, vO a1), (2, vI x2), (3, vI x3), (4, vO a4), (5, vO a5), (6, vI x6)] [] := by
  refine whileO_walk (w := w) (fun s : Int × Me => WL Z (QN Z (some (vI fin.1)) fin.2) s.2 168 [(0, vO a0), (1, vO a1), (2, vI x2), (3, vI x3), (4, vO a4), (5, vO a5), (6, vI s.1)] []) (fun s v h2 hi hr => ?_) (x6, μ) h
  refine w_X1_byNumbers_l168_st (fin := fin) C hF h2 ?_
  cases v with
  | inl s2 => exact hi s2 rfl
  | inr r => have e := hr r rfl; subst e; exact hK
noncomputable def s_X1_byNumbers_l97_st (F : Nat → Nat → Nat → Int → Int → Int → Me → Option (Int × Me)) (a0 : Nat) (a1 : Nat) (a4 : Nat) (x6 : Int) (x7 : Int) (x8 : Int) (μ : Me) : Option ((Int × Int × Me) ⊕ (Int × Me)) :=
  (gI μ 6 a1 1).bind fun v46 =>
  (if w32 v46 < w32 x8 then
  (bz2 x7).bind fun _ =>
  some (.inr (x7, μ))
  else
  (if w32 x7 = 0 then
  some (.inl (0, (x8 + 1), μ))
  else
  (gR μ 6 a1 0).bind fun v50 =>
  (aI μ 101 v50 x8).bind fun v51 =>
  (gR μ 0 a0 1).bind fun v52 =>
  (gR μ 4 v52 0).bind fun v53 =>
  (aI μ 101 a4 x8).bind fun v54 =>
  (ck μ 5 v53).bind fun _ =>
  (s_X7_of v53 ((w32 x6) * (w32 v54)) μ).bind fun q55 =>
  (if w32 v51 = w32 q55.1 then
  some (.inl (1, (x8 + 1), q55.2))
  else
  some (.inl (0, (x8 + 1), q55.2)))))
theorem w_X1_byNumbers_l97_st {Z : Zt} {F : Nat → Nat → Nat → Int → Int → Int → Me → Option (Int × Me)} {n : Nat} {fin : Int × Me} {w : ((Int × Int × Me) ⊕ (Int × Me))} (C : CX Z yX1_byNumbers cX1_byNumbers (some .boolean) (6 + (n + 1)) 9) (hF : HF_ad Z.2.1 Z.2.2.2.2.2.2.2.2.2.2.1 Z.2.2.2.2.2.2.2.2.2.2.2.1 n F) {a0 : Nat} {a1 : Nat} {a4 : Nat} {x6 : Int} {x7 : Int} {x8 : Int} {μ : Me} (h : s_X1_byNumbers_l97_st F a0 a1 a4 x6 x7 x8 μ = some w) (hK : (Sum.elim (fun s : Int × Int × Me => WL Z (QN Z (some (vI fin.1)) fin.2) s.2.2 97 [(0, vO a0), (1, vO a1), (4, vO a4), (6, vI x6), (7, vI s.1), (8, vI s.2.1)] []) (fun r : Int × Me => r = fin)) w) : WL Z (QN Z (some (vI fin.1)) fin.2) μ 97 [(0, vO a0), (1, vO a1), (4, vO a4), (6, vI x6), (7, vI x7), (8, vI x8)] [] := by
  unfold s_X1_byNumbers_l97_st at h
  refine r_iload C 5 dX1_byNumbers_97 rfl ?_
  refine r_aload_n C 1 dX1_byNumbers_99 rfl rfl ?_
  obtain ⟨v46, ev46, h⟩ := bs h
  refine r_getIN C (c := 6) (r := (RX8, TX8, 2)) rfl 1 (by decide) rfl ev46 (lw_n q309 rfl) dX1_byNumbers_100 ?_
  refine r_icmp_gt C dX1_byNumbers_103 (tgt := 154) (by decide) (fun c47 => ?_) (fun c47 => ?_)
  · have h := it_ h c47
    refine r_iload C 4 dX1_byNumbers_154 rfl ?_
    obtain ⟨u48, eu48, h⟩ := bs h
    cases h
    exact r_zret C (bz2_ok eu48) hK dX1_byNumbers_156
  · have h := ie_ h c47
    refine r_iload C 4 dX1_byNumbers_106 rfl ?_
    refine r_if_eq C dX1_byNumbers_108 (tgt := 145) (by decide) (fun c49 => ?_) (fun c49 => ?_)
    · have h := it_ h c49
      refine r_iconst C dX1_byNumbers_145 ?_
      refine r_istore C [(7, vI 0), (0, vO a0), (1, vO a1), (4, vO a4), (6, vI x6), (8, vI x8)] dX1_byNumbers_146 (by decide) rfl ?_
      refine r_iinc C 5 [(8, vI (x8 + 1)), (7, vI 0), (0, vO a0), (1, vO a1), (4, vO a4), (6, vI x6)] dX1_byNumbers_148 rfl (by decide) rfl ?_
      refine r_goto C dX1_byNumbers_151 (tgt := 97) (by decide) ?_
      cases h
      refine r_sub [2, 3, 4, 5, 1, 0] rfl ?_
      exact hK
    · have h := ie_ h c49
      refine r_aload_n C 1 dX1_byNumbers_111 rfl rfl ?_
      obtain ⟨v50, ev50, h⟩ := bs h
      refine r_getRN C (c := 6) (r := (RX8, TX8, 2)) rfl 0 (by decide) rfl ev50 (lw_n q304 rfl) dX1_byNumbers_112 ?_
      refine r_iload C 5 dX1_byNumbers_115 rfl ?_
      obtain ⟨v51, ev51, h⟩ := bs h
      refine r_iald C ev51 dX1_byNumbers_117 ?_
      refine r_aload_n C 0 dX1_byNumbers_118 rfl rfl ?_
      obtain ⟨v52, ev52, h⟩ := bs h
      refine r_getR C (c := 0) (r := (RX1, TX1, 19)) rfl 1 (by decide) rfl ev52 q422 dX1_byNumbers_119 ?_
      obtain ⟨v53, ev53, h⟩ := bs h
      refine r_getRN C (c := 4) (r := (RX6, TX6, 6)) rfl 0 (by decide) rfl ev53 (lw_n q320 rfl) dX1_byNumbers_122 ?_
      refine r_iload C 3 dX1_byNumbers_125 rfl ?_
      refine r_i2l C dX1_byNumbers_127 ?_
      refine r_aload C 2 dX1_byNumbers_128 rfl ?_
      refine r_iload C 5 dX1_byNumbers_130 rfl ?_
      obtain ⟨v54, ev54, h⟩ := bs h
      refine r_iald C ev54 dX1_byNumbers_132 ?_
      refine r_i2l C dX1_byNumbers_133 ?_
      refine r_lmul C dX1_byNumbers_134 ?_
      obtain ⟨u56, eu56, h⟩ := bs h
      obtain ⟨q55, eq55, h⟩ := bs h
      refine r_callV C (As := [vJ ((w32 x6) * (w32 v54))]) (b := v53) (rest := [vI v51]) (st1 := [vI q55.1, vI v51]) (v := some (vI q55.1)) (r := (RX7, TX7, 1)) (ci := 5) rfl eu56 (m_X7_of C.tr eq55) (lw_V q631 q632 q633 q129 q634) rfl hdX7_of rfl rfl (Nat.le_of_ble_eq_true rfl) ⟨by omega, by omega⟩ dX1_byNumbers_135 rfl ?_
      refine r_icmp_ne C dX1_byNumbers_138 (tgt := 145) (by decide) (fun c57 => ?_) (fun c57 => ?_)
      · have h := ie_ h c57
        refine r_iconst C dX1_byNumbers_145 ?_
        refine r_istore C [(7, vI 0), (0, vO a0), (1, vO a1), (4, vO a4), (6, vI x6), (8, vI x8)] dX1_byNumbers_146 (by decide) rfl ?_
        refine r_iinc C 5 [(8, vI (x8 + 1)), (7, vI 0), (0, vO a0), (1, vO a1), (4, vO a4), (6, vI x6)] dX1_byNumbers_148 rfl (by decide) rfl ?_
        refine r_goto C dX1_byNumbers_151 (tgt := 97) (by decide) ?_
        cases h
        refine r_sub [2, 3, 4, 5, 1, 0] rfl ?_
        exact hK
      · have h := it_ h c57
        refine r_iconst C dX1_byNumbers_141 ?_
        refine r_goto C dX1_byNumbers_142 (tgt := 146) (by decide) ?_
        refine r_istore C [(7, vI 1), (0, vO a0), (1, vO a1), (4, vO a4), (6, vI x6), (8, vI x8)] dX1_byNumbers_146 (by decide) rfl ?_
        refine r_iinc C 5 [(8, vI (x8 + 1)), (7, vI 1), (0, vO a0), (1, vO a1), (4, vO a4), (6, vI x6)] dX1_byNumbers_148 rfl (by decide) rfl ?_
        refine r_goto C dX1_byNumbers_151 (tgt := 97) (by decide) ?_
        cases h
        refine r_sub [2, 3, 4, 5, 1, 0] rfl ?_
        exact hK
noncomputable def s_X1_byNumbers_l97 (F : Nat → Nat → Nat → Int → Int → Int → Me → Option (Int × Me)) (a0 : Nat) (a1 : Nat) (a4 : Nat) (x6 : Int) (x7 : Int) (x8 : Int) (μ : Me) : Option (Int × Me) :=
  whileO (fun s : Int × Int × Me => s_X1_byNumbers_l97_st F a0 a1 a4 x6 s.1 s.2.1 s.2.2) (x7, x8, μ)
theorem e_X1_byNumbers_l97 (F : Nat → Nat → Nat → Int → Int → Int → Me → Option (Int × Me)) (a0 : Nat) (a1 : Nat) (a4 : Nat) (x6 : Int) (x7 : Int) (x8 : Int) (μ : Me) : s_X1_byNumbers_l97 F a0 a1 a4 x6 x7 x8 μ = (s_X1_byNumbers_l97_st F a0 a1 a4 x6 x7 x8 μ).bind fun x => x.elim (fun s : Int × Int × Me => s_X1_byNumbers_l97 F a0 a1 a4 x6 s.1 s.2.1 s.2.2) some := whileO_eq _ _
theorem w_X1_byNumbers_l97 {Z : Zt} {F : Nat → Nat → Nat → Int → Int → Int → Me → Option (Int × Me)} {n : Nat} {fin : Int × Me} {w : (Int × Me)} (C : CX Z yX1_byNumbers cX1_byNumbers (some .boolean) (6 + (n + 1)) 9) (hF : HF_ad Z.2.1 Z.2.2.2.2.2.2.2.2.2.2.1 Z.2.2.2.2.2.2.2.2.2.2.2.1 n F) {a0 : Nat} {a1 : Nat} {a4 : Nat} {x6 : Int} {x7 : Int} {x8 : Int} {μ : Me} (h : s_X1_byNumbers_l97 F a0 a1 a4 x6 x7 x8 μ = some w) (hK : (fun r : Int × Me => r = fin) w) : WL Z (QN Z (some (vI fin.1)) fin.2) μ 97 [(0, vO a0), (1, vO a1), (4, vO a4), (6, vI x6), (7, vI x7), (8, vI x8)] [] := by
  refine whileO_walk (w := w) (fun s : Int × Int × Me => WL Z (QN Z (some (vI fin.1)) fin.2) s.2.2 97 [(0, vO a0), (1, vO a1), (4, vO a4), (6, vI x6), (7, vI s.1), (8, vI s.2.1)] []) (fun s v h2 hi hr => ?_) (x7, x8, μ) h
  refine w_X1_byNumbers_l97_st (fin := fin) C hF h2 ?_
  cases v with
  | inl s2 => exact hi s2 rfl
  | inr r => have e := hr r rfl; subst e; exact hK
noncomputable def s_X1_byNumbers_b37 (F : Nat → Nat → Nat → Int → Int → Int → Me → Option (Int × Me)) (a0 : Nat) (a1 : Nat) (x3 : Int) (a4 : Nat) (x5 : Int)  (μ : Me) : Option (Int × Me) :=
  (gR μ 0 a0 1).bind fun v32 =>
  (gR μ 4 v32 0).bind fun v33 =>
  (gR μ 6 a1 0).bind fun v34 =>
  (aI μ 101 v34 x5).bind fun v35 =>
  (gR μ 0 a0 1).bind fun v36 =>
  (gR μ 4 v36 0).bind fun v37 =>
  (aI μ 101 a4 x5).bind fun v38 =>
  (ck μ 5 v37).bind fun _ =>
  (s_X7_inverse v37 v38 μ).bind fun q39 =>
  (ck q39.2 5 v33).bind fun _ =>
  (s_X7_of v33 ((w32 v35) * (w32 q39.1)) q39.2).bind fun q41 =>
  (gR q41.2 0 a0 12).bind fun v43 =>
  (uI q41.2 v43 x3 q41.1).bind fun m44 =>
  (if w32 q41.1 = 0 then
  s_X1_byNumbers_l97 F a0 a1 a4 q41.1 0 0 m44
  else
  s_X1_byNumbers_l97 F a0 a1 a4 q41.1 1 0 m44)
theorem w_X1_byNumbers_b37 {Z : Zt} {F : Nat → Nat → Nat → Int → Int → Int → Me → Option (Int × Me)} {n : Nat} {fin : Int × Me} {w : (Int × Me)} (C : CX Z yX1_byNumbers cX1_byNumbers (some .boolean) (6 + (n + 1)) 9) (hF : HF_ad Z.2.1 Z.2.2.2.2.2.2.2.2.2.2.1 Z.2.2.2.2.2.2.2.2.2.2.2.1 n F) {a0 : Nat} {a1 : Nat} {x3 : Int} {a4 : Nat} {x5 : Int}  {μ : Me} (h : s_X1_byNumbers_b37 F a0 a1 x3 a4 x5 μ = some w) (hK : (fun r : Int × Me => r = fin) w) : WL Z (QN Z (some (vI fin.1)) fin.2) μ 37 [(0, vO a0), (1, vO a1), (3, vI x3), (4, vO a4), (5, vI x5)] [] := by
  unfold s_X1_byNumbers_b37 at h
  refine r_aload_n C 0 dX1_byNumbers_37 rfl rfl ?_
  obtain ⟨v32, ev32, h⟩ := bs h
  refine r_getR C (c := 0) (r := (RX1, TX1, 19)) rfl 1 (by decide) rfl ev32 q422 dX1_byNumbers_38 ?_
  obtain ⟨v33, ev33, h⟩ := bs h
  refine r_getRN C (c := 4) (r := (RX6, TX6, 6)) rfl 0 (by decide) rfl ev33 (lw_n q320 rfl) dX1_byNumbers_41 ?_
  refine r_aload_n C 1 dX1_byNumbers_44 rfl rfl ?_
  obtain ⟨v34, ev34, h⟩ := bs h
  refine r_getRN C (c := 6) (r := (RX8, TX8, 2)) rfl 0 (by decide) rfl ev34 (lw_n q304 rfl) dX1_byNumbers_45 ?_
  refine r_iload C 4 dX1_byNumbers_48 rfl ?_
  obtain ⟨v35, ev35, h⟩ := bs h
  refine r_iald C ev35 dX1_byNumbers_50 ?_
  refine r_i2l C dX1_byNumbers_51 ?_
  refine r_aload_n C 0 dX1_byNumbers_52 rfl rfl ?_
  obtain ⟨v36, ev36, h⟩ := bs h
  refine r_getR C (c := 0) (r := (RX1, TX1, 19)) rfl 1 (by decide) rfl ev36 q422 dX1_byNumbers_53 ?_
  obtain ⟨v37, ev37, h⟩ := bs h
  refine r_getRN C (c := 4) (r := (RX6, TX6, 6)) rfl 0 (by decide) rfl ev37 (lw_n q320 rfl) dX1_byNumbers_56 ?_
  refine r_aload C 3 dX1_byNumbers_59 rfl ?_
  refine r_iload C 4 dX1_byNumbers_61 rfl ?_
  obtain ⟨v38, ev38, h⟩ := bs h
  refine r_iald C ev38 dX1_byNumbers_63 ?_
  obtain ⟨u40, eu40, h⟩ := bs h
  obtain ⟨q39, eq39, h⟩ := bs h
  refine r_callV C (As := [vI v38]) (b := v37) (rest := [vJ (w32 v35), vO v33]) (st1 := [vI q39.1, vJ (w32 v35), vO v33]) (v := some (vI q39.1)) (r := (RX7, TX7, 1)) (ci := 5) rfl eu40 (m_X7_inverse C.tr eq39) (lw_V q1039 q1040 q1041 q129 q1042) rfl hdX7_inverse rfl rfl (Nat.le_of_ble_eq_true rfl) ⟨by omega, by omega⟩ dX1_byNumbers_64 rfl ?_
  refine r_i2l C dX1_byNumbers_67 ?_
  refine r_lmul C dX1_byNumbers_68 ?_
  obtain ⟨u42, eu42, h⟩ := bs h
  obtain ⟨q41, eq41, h⟩ := bs h
  refine r_callV C (As := [vJ ((w32 v35) * (w32 q39.1))]) (b := v33) (rest := []) (st1 := [vI q41.1]) (v := some (vI q41.1)) (r := (RX7, TX7, 1)) (ci := 5) rfl eu42 (m_X7_of C.tr eq41) (lw_V q631 q632 q633 q129 q634) rfl hdX7_of rfl rfl (Nat.le_of_ble_eq_true rfl) ⟨by omega, by omega⟩ dX1_byNumbers_69 rfl ?_
  refine r_istore C [(6, vI q41.1), (0, vO a0), (1, vO a1), (3, vI x3), (4, vO a4), (5, vI x5)] dX1_byNumbers_72 (by decide) rfl ?_
  refine r_aload_n C 1 dX1_byNumbers_74 rfl rfl ?_
  obtain ⟨v43, ev43, h⟩ := bs h
  refine r_getR C (c := 0) (r := (RX1, TX1, 19)) rfl 12 (by decide) rfl ev43 q440 dX1_byNumbers_75 ?_
  refine r_iload_n C 3 dX1_byNumbers_78 rfl rfl ?_
  refine r_iload C 0 dX1_byNumbers_79 rfl ?_
  obtain ⟨m44, em44, h⟩ := bs h
  refine r_iast C em44 dX1_byNumbers_81 ?_
  refine r_iload C 0 dX1_byNumbers_82 rfl ?_
  refine r_if_eq C dX1_byNumbers_84 (tgt := 91) (by decide) (fun c45 => ?_) (fun c45 => ?_)
  · have h := it_ h c45
    refine r_iconst C dX1_byNumbers_91 ?_
    refine r_istore C [(7, vI 0), (6, vI q41.1), (0, vO a0), (1, vO a1), (3, vI x3), (4, vO a4), (5, vI x5)] dX1_byNumbers_92 (by decide) rfl ?_
    refine r_iconst C dX1_byNumbers_94 ?_
    refine r_istore C [(8, vI 0), (7, vI 0), (6, vI q41.1), (0, vO a0), (1, vO a1), (3, vI x3), (4, vO a4), (5, vI x5)] dX1_byNumbers_95 (by decide) rfl ?_
    refine r_sub [3, 4, 6, 2, 1, 0] rfl ?_
    exact w_X1_byNumbers_l97 (fin := fin) C hF h hK
  · have h := ie_ h c45
    refine r_iconst C dX1_byNumbers_87 ?_
    refine r_goto C dX1_byNumbers_88 (tgt := 92) (by decide) ?_
    refine r_istore C [(7, vI 1), (6, vI q41.1), (0, vO a0), (1, vO a1), (3, vI x3), (4, vO a4), (5, vI x5)] dX1_byNumbers_92 (by decide) rfl ?_
    refine r_iconst C dX1_byNumbers_94 ?_
    refine r_istore C [(8, vI 0), (7, vI 1), (6, vI q41.1), (0, vO a0), (1, vO a1), (3, vI x3), (4, vO a4), (5, vI x5)] dX1_byNumbers_95 (by decide) rfl ?_
    refine r_sub [3, 4, 6, 2, 1, 0] rfl ?_
    exact w_X1_byNumbers_l97 (fin := fin) C hF h hK
noncomputable def s_X1_byNumbers_l23_st (F : Nat → Nat → Nat → Int → Int → Int → Me → Option (Int × Me)) (a0 : Nat) (a1 : Nat) (x3 : Int) (a4 : Nat) (x5 : Int) (μ : Me) : Option ((Int × Me) ⊕ (Int × Me)) :=
  (aI μ 101 a4 x5).bind fun v30 =>
  (if w32 v30 = 0 then
  some (.inl ((x5 + 1), μ))
  else
  (s_X1_byNumbers_b37 F a0 a1 x3 a4 x5 μ).map Sum.inr)
theorem w_X1_byNumbers_l23_st {Z : Zt} {F : Nat → Nat → Nat → Int → Int → Int → Me → Option (Int × Me)} {n : Nat} {fin : Int × Me} {w : ((Int × Me) ⊕ (Int × Me))} (C : CX Z yX1_byNumbers cX1_byNumbers (some .boolean) (6 + (n + 1)) 9) (hF : HF_ad Z.2.1 Z.2.2.2.2.2.2.2.2.2.2.1 Z.2.2.2.2.2.2.2.2.2.2.2.1 n F) {a0 : Nat} {a1 : Nat} {x3 : Int} {a4 : Nat} {x5 : Int} {μ : Me} (h : s_X1_byNumbers_l23_st F a0 a1 x3 a4 x5 μ = some w) (hK : (Sum.elim (fun s : Int × Me => WL Z (QN Z (some (vI fin.1)) fin.2) s.2 23 [(0, vO a0), (1, vO a1), (3, vI x3), (4, vO a4), (5, vI s.1)] []) (fun r : Int × Me => r = fin)) w) : WL Z (QN Z (some (vI fin.1)) fin.2) μ 23 [(0, vO a0), (1, vO a1), (3, vI x3), (4, vO a4), (5, vI x5)] [] := by
  unfold s_X1_byNumbers_l23_st at h
  refine r_aload C 3 dX1_byNumbers_23 rfl ?_
  refine r_iload C 4 dX1_byNumbers_25 rfl ?_
  obtain ⟨v30, ev30, h⟩ := bs h
  refine r_iald C ev30 dX1_byNumbers_27 ?_
  refine r_if_ne C dX1_byNumbers_28 (tgt := 37) (by decide) (fun c31 => ?_) (fun c31 => ?_)
  · have h := ie_ h c31
    obtain ⟨z, hz, ez⟩ := ms_ h; clear h; subst ez; have h := hz; clear hz
    exact w_X1_byNumbers_b37 (fin := fin) C hF h hK
  · have h := it_ h c31
    refine r_iinc C 4 [(5, vI (x5 + 1)), (0, vO a0), (1, vO a1), (3, vI x3), (4, vO a4)] dX1_byNumbers_31 rfl (by decide) rfl ?_
    refine r_goto C dX1_byNumbers_34 (tgt := 23) (by decide) ?_
    cases h
    refine r_sub [1, 2, 3, 4, 0] rfl ?_
    exact hK
noncomputable def s_X1_byNumbers_l23 (F : Nat → Nat → Nat → Int → Int → Int → Me → Option (Int × Me)) (a0 : Nat) (a1 : Nat) (x3 : Int) (a4 : Nat) (x5 : Int) (μ : Me) : Option (Int × Me) :=
  whileO (fun s : Int × Me => s_X1_byNumbers_l23_st F a0 a1 x3 a4 s.1 s.2) (x5, μ)
theorem e_X1_byNumbers_l23 (F : Nat → Nat → Nat → Int → Int → Int → Me → Option (Int × Me)) (a0 : Nat) (a1 : Nat) (x3 : Int) (a4 : Nat) (x5 : Int) (μ : Me) : s_X1_byNumbers_l23 F a0 a1 x3 a4 x5 μ = (s_X1_byNumbers_l23_st F a0 a1 x3 a4 x5 μ).bind fun x => x.elim (fun s : Int × Me => s_X1_byNumbers_l23 F a0 a1 x3 a4 s.1 s.2) some := whileO_eq _ _
theorem w_X1_byNumbers_l23 {Z : Zt} {F : Nat → Nat → Nat → Int → Int → Int → Me → Option (Int × Me)} {n : Nat} {fin : Int × Me} {w : (Int × Me)} (C : CX Z yX1_byNumbers cX1_byNumbers (some .boolean) (6 + (n + 1)) 9) (hF : HF_ad Z.2.1 Z.2.2.2.2.2.2.2.2.2.2.1 Z.2.2.2.2.2.2.2.2.2.2.2.1 n F) {a0 : Nat} {a1 : Nat} {x3 : Int} {a4 : Nat} {x5 : Int} {μ : Me} (h : s_X1_byNumbers_l23 F a0 a1 x3 a4 x5 μ = some w) (hK : (fun r : Int × Me => r = fin) w) : WL Z (QN Z (some (vI fin.1)) fin.2) μ 23 [(0, vO a0), (1, vO a1), (3, vI x3), (4, vO a4), (5, vI x5)] [] := by
  refine whileO_walk (w := w) (fun s : Int × Me => WL Z (QN Z (some (vI fin.1)) fin.2) s.2 23 [(0, vO a0), (1, vO a1), (3, vI x3), (4, vO a4), (5, vI s.1)] []) (fun s v h2 hi hr => ?_) (x5, μ) h
  refine w_X1_byNumbers_l23_st (fin := fin) C hF h2 ?_
  cases v with
  | inl s2 => exact hi s2 rfl
  | inr r => have e := hr r rfl; subst e; exact hK
noncomputable def s_X1_byNumbers (F : Nat → Nat → Nat → Int → Int → Int → Me → Option (Int × Me)) (a0 : Nat) (a1 : Nat) (x2 : Int) (x3 : Int) (μ : Me) : Option (Int × Me) :=
  (gR μ 0 a0 10).bind fun v1 =>
  (gR μ 0 a0 11).bind fun v2 =>
  (aI μ 101 v2 x3).bind fun v3 =>
  (aR μ 105 v1 v3).bind fun v4 =>
  (if w32 x3 = w32 (x2 - 1) then
  s_X1_byNumbers_l23 F a0 a1 x3 v4 0 μ
  else
  (gR μ 0 a0 4).bind fun v6 =>
  (aR μ 104 v6 x3).bind fun v7 =>
  s_X1_byNumbers_l168 F a0 a1 x2 x3 v4 v7 1 μ)
theorem w_X1_byNumbers {Z : Zt} {F : Nat → Nat → Nat → Int → Int → Int → Me → Option (Int × Me)} {n : Nat} {fin : Int × Me} {w : Int × Me} (C : CX Z yX1_byNumbers cX1_byNumbers (some .boolean) (6 + (n + 1)) 9) (hF : HF_ad Z.2.1 Z.2.2.2.2.2.2.2.2.2.2.1 Z.2.2.2.2.2.2.2.2.2.2.2.1 n F) {a0 : Nat} {a1 : Nat} {x2 : Int} {x3 : Int} {μ : Me} (h : s_X1_byNumbers F a0 a1 x2 x3 μ = some w) (hK : w = fin) : WL Z (QN Z (some (vI fin.1)) fin.2) μ 0 [(0, vO a0), (1, vO a1), (2, vI x2), (3, vI x3)] [] := by
  unfold s_X1_byNumbers at h
  refine r_aload_n C 0 dX1_byNumbers_0 rfl rfl ?_
  obtain ⟨v1, ev1, h⟩ := bs h
  refine r_getR C (c := 0) (r := (RX1, TX1, 19)) rfl 10 (by decide) rfl ev1 q438 dX1_byNumbers_1 ?_
  refine r_aload_n C 0 dX1_byNumbers_4 rfl rfl ?_
  obtain ⟨v2, ev2, h⟩ := bs h
  refine r_getR C (c := 0) (r := (RX1, TX1, 19)) rfl 11 (by decide) rfl ev2 q439 dX1_byNumbers_5 ?_
  refine r_iload_n C 3 dX1_byNumbers_8 rfl rfl ?_
  obtain ⟨v3, ev3, h⟩ := bs h
  refine r_iald C ev3 dX1_byNumbers_9 ?_
  obtain ⟨v4, ev4, h⟩ := bs h
  refine r_aald C (kt := 4) ev4 rfl rfl ⟨by decide, by decide⟩ dX1_byNumbers_10 ?_
  refine r_astore C [(4, vO v4), (0, vO a0), (1, vO a1), (2, vI x2), (3, vI x3)] dX1_byNumbers_11 (by decide) rfl ?_
  refine r_iload_n C 4 dX1_byNumbers_13 rfl rfl ?_
  refine r_iload_n C 3 dX1_byNumbers_14 rfl rfl ?_
  refine r_iconst C dX1_byNumbers_15 ?_
  refine r_isub C dX1_byNumbers_16 ?_
  refine r_icmp_ne C dX1_byNumbers_17 (tgt := 157) (by decide) (fun c5 => ?_) (fun c5 => ?_)
  · have h := ie_ h c5
    refine r_aload_n C 1 dX1_byNumbers_157 rfl rfl ?_
    obtain ⟨v6, ev6, h⟩ := bs h
    refine r_getR C (c := 0) (r := (RX1, TX1, 19)) rfl 4 (by decide) rfl ev6 q428 dX1_byNumbers_158 ?_
    refine r_iload_n C 4 dX1_byNumbers_161 rfl rfl ?_
    obtain ⟨v7, ev7, h⟩ := bs h
    refine r_aald C (kt := 3) ev7 rfl rfl ⟨by decide, by decide⟩ dX1_byNumbers_162 ?_
    refine r_astore C [(5, vO v7), (4, vO v4), (0, vO a0), (1, vO a1), (2, vI x2), (3, vI x3)] dX1_byNumbers_163 (by decide) rfl ?_
    refine r_iconst C dX1_byNumbers_165 ?_
    refine r_istore C [(6, vI 1), (5, vO v7), (4, vO v4), (0, vO a0), (1, vO a1), (2, vI x2), (3, vI x3)] dX1_byNumbers_166 (by decide) rfl ?_
    refine r_sub [3, 4, 5, 6, 2, 1, 0] rfl ?_
    exact w_X1_byNumbers_l168 (fin := fin) C hF h hK
  · have h := it_ h c5
    refine r_iconst C dX1_byNumbers_20 ?_
    refine r_istore C [(5, vI 0), (4, vO v4), (0, vO a0), (1, vO a1), (2, vI x2), (3, vI x3)] dX1_byNumbers_21 (by decide) rfl ?_
    refine r_sub [2, 3, 5, 1, 0] rfl ?_
    exact w_X1_byNumbers_l23 (fin := fin) C hF h hK
noncomputable def s_ad : Nat → Nat → Nat → Nat → Int → Int → Int → Me → Option (Int × Me)
  | 0 => fun _ _ _ _ _ _ _ => none
  | n + 1 => fun t a0 a1 z1 z2 z3 μ => if t = 0 then s_X1_adds_2 (s_ad n) a0 a1 z1 z2 z3 μ else if t = 1 then s_X1_byPoints (s_ad n) a0 a1 z1 z2 μ else if t = 2 then s_X1_byNumbers (s_ad n) a0 a1 z1 z2 μ else none
theorem m_ad {l : Launch} {D : va_G} {b0 : Nat} (hl : l.stackTraces = false) : ∀ n : Nat, HF_ad l D b0 n (s_ad n) := by
  intro n
  induction n with
  | zero => exact ⟨(fun a0 z0 z1 z2 z3 μ w h => by cases h), (fun a0 z0 z1 z2 μ w h => by cases h), (fun a0 z0 z1 z2 μ w h => by cases h)⟩
  | succ n ih =>
    exact ⟨(fun a0 z0 z1 z2 z3 μ w h => MN.of hl (by decide +kernel) (Nat.le_of_ble_eq_true rfl) (fun Z C e1 e2 => w_X1_adds_2 C (by rw [e1, e2]; exact ih) h rfl)),
      (fun a0 z0 z1 z2 μ w h => MN.of hl (by decide +kernel) (Nat.le_of_ble_eq_true rfl) (fun Z C e1 e2 => w_X1_byPoints C (by rw [e1, e2]; exact ih) h rfl)),
      (fun a0 z0 z1 z2 μ w h => MN.of hl (by decide +kernel) (Nat.le_of_ble_eq_true rfl) (fun Z C e1 e2 => w_X1_byNumbers C (by rw [e1, e2]; exact ih) h rfl))⟩
theorem hdX14_init : zhd yX14_init 2 := by decide +kernel
noncomputable def s_X14_init_p12 (a0 : Nat) (a1 : Nat) (a2 : Nat) (μ : Me) : Option (Me) :=
  (s_X3_init a0  μ).bind fun q1 =>
  (pR q1 12 a0 0 a1).bind fun m2 =>
  (pR m2 12 a0 1 a2).bind fun m3 =>
  some m3
theorem w_X14_init_p12 {Z : Zt} {fin : Me} {w : Me} (C : CX Z yX14_init cX14_init none 2 3) {a0 : Nat} {a1 : Nat} {a2 : Nat} {μ : Me} (h : s_X14_init_p12 a0 a1 a2 μ = some w) (hK : w = fin) : WL Z (QN Z none fin) μ 0 [(0, vO a0), (1, vO a1), (2, vO a2)] [] := by
  unfold s_X14_init_p12 at h
  refine r_aload_n C 0 dX14_init_0 rfl rfl ?_
  obtain ⟨q1, eq1, h⟩ := bs h
  refine r_callIN C (As := []) (b := a0) (rest := []) (st1 := []) (v := none) (m_X3_init C.tr eq1) (lw_n q727 rfl) q171 q122 q170 rfl hdX3_init rfl rfl (Nat.le_of_ble_eq_true rfl) ⟨by decide, by decide⟩ dX14_init_1 rfl ?_
  refine r_aload_n C 0 dX14_init_4 rfl rfl ?_
  refine r_aload_n C 1 dX14_init_5 rfl rfl ?_
  obtain ⟨m2, em2, h⟩ := bs h
  refine r_putRF C (c := 12) (r := (RX15, TX15, 3)) rfl 0 (by decide) rfl rfl rfl rfl em2 q729 dX14_init_6 ?_
  refine r_aload_n C 0 dX14_init_9 rfl rfl ?_
  refine r_aload_n C 2 dX14_init_10 rfl rfl ?_
  obtain ⟨m3, em3, h⟩ := bs h
  refine r_putRF C (c := 12) (r := (RX15, TX15, 3)) rfl 1 (by decide) rfl rfl rfl rfl em3 q730 dX14_init_11 ?_
  cases h
  exact r_vret C hK dX14_init_14
theorem m_X14_init_p12 {l : Launch} {D : va_G} {b0 : Nat} (hl : l.stackTraces = false) {a0 : Nat} {a1 : Nat} {a2 : Nat} {μ : Me} {w : Me} (h : s_X14_init_p12 a0 a1 a2 μ = some w) : MN l D b0 yX14_init (ws_ yX14_init cX14_init 3 none) 2 [vO a0, vO a1, vO a2] μ none w :=
  MN.of hl (by decide +kernel) (Nat.le_of_ble_eq_true rfl) (fun Z C _ _ => w_X14_init_p12 C h rfl)
noncomputable def s_X14_init_p13 (a0 : Nat) (a1 : Nat) (a2 : Nat) (μ : Me) : Option (Me) :=
  (s_X3_init a0  μ).bind fun q1 =>
  (pR q1 13 a0 0 a1).bind fun m2 =>
  (pR m2 13 a0 1 a2).bind fun m3 =>
  some m3
theorem w_X14_init_p13 {Z : Zt} {fin : Me} {w : Me} (C : CX Z yX14_init cX14_init none 2 3) {a0 : Nat} {a1 : Nat} {a2 : Nat} {μ : Me} (h : s_X14_init_p13 a0 a1 a2 μ = some w) (hK : w = fin) : WL Z (QN Z none fin) μ 0 [(0, vO a0), (1, vO a1), (2, vO a2)] [] := by
  unfold s_X14_init_p13 at h
  refine r_aload_n C 0 dX14_init_0 rfl rfl ?_
  obtain ⟨q1, eq1, h⟩ := bs h
  refine r_callIN C (As := []) (b := a0) (rest := []) (st1 := []) (v := none) (m_X3_init C.tr eq1) (lw_n q727 rfl) q171 q122 q170 rfl hdX3_init rfl rfl (Nat.le_of_ble_eq_true rfl) ⟨by decide, by decide⟩ dX14_init_1 rfl ?_
  refine r_aload_n C 0 dX14_init_4 rfl rfl ?_
  refine r_aload_n C 1 dX14_init_5 rfl rfl ?_
  obtain ⟨m2, em2, h⟩ := bs h
  refine r_putRF C (c := 13) (r := (RX16, TX16, 2)) rfl 0 (by decide) rfl rfl rfl rfl em2 q729 dX14_init_6 ?_
  refine r_aload_n C 0 dX14_init_9 rfl rfl ?_
  refine r_aload_n C 2 dX14_init_10 rfl rfl ?_
  obtain ⟨m3, em3, h⟩ := bs h
  refine r_putRF C (c := 13) (r := (RX16, TX16, 2)) rfl 1 (by decide) rfl rfl rfl rfl em3 q730 dX14_init_11 ?_
  cases h
  exact r_vret C hK dX14_init_14
theorem m_X14_init_p13 {l : Launch} {D : va_G} {b0 : Nat} (hl : l.stackTraces = false) {a0 : Nat} {a1 : Nat} {a2 : Nat} {μ : Me} {w : Me} (h : s_X14_init_p13 a0 a1 a2 μ = some w) : MN l D b0 yX14_init (ws_ yX14_init cX14_init 3 none) 2 [vO a0, vO a1, vO a2] μ none w :=
  MN.of hl (by decide +kernel) (Nat.le_of_ble_eq_true rfl) (fun Z C _ _ => w_X14_init_p13 C h rfl)
noncomputable def s_X14_init_p14 (a0 : Nat) (a1 : Nat) (a2 : Nat) (μ : Me) : Option (Me) :=
  (s_X3_init a0  μ).bind fun q1 =>
  (pR q1 14 a0 0 a1).bind fun m2 =>
  (pR m2 14 a0 1 a2).bind fun m3 =>
  some m3
theorem w_X14_init_p14 {Z : Zt} {fin : Me} {w : Me} (C : CX Z yX14_init cX14_init none 2 3) {a0 : Nat} {a1 : Nat} {a2 : Nat} {μ : Me} (h : s_X14_init_p14 a0 a1 a2 μ = some w) (hK : w = fin) : WL Z (QN Z none fin) μ 0 [(0, vO a0), (1, vO a1), (2, vO a2)] [] := by
  unfold s_X14_init_p14 at h
  refine r_aload_n C 0 dX14_init_0 rfl rfl ?_
  obtain ⟨q1, eq1, h⟩ := bs h
  refine r_callIN C (As := []) (b := a0) (rest := []) (st1 := []) (v := none) (m_X3_init C.tr eq1) (lw_n q727 rfl) q171 q122 q170 rfl hdX3_init rfl rfl (Nat.le_of_ble_eq_true rfl) ⟨by decide, by decide⟩ dX14_init_1 rfl ?_
  refine r_aload_n C 0 dX14_init_4 rfl rfl ?_
  refine r_aload_n C 1 dX14_init_5 rfl rfl ?_
  obtain ⟨m2, em2, h⟩ := bs h
  refine r_putRF C (c := 14) (r := (RX17, TX17, 2)) rfl 0 (by decide) rfl rfl rfl rfl em2 q729 dX14_init_6 ?_
  refine r_aload_n C 0 dX14_init_9 rfl rfl ?_
  refine r_aload_n C 2 dX14_init_10 rfl rfl ?_
  obtain ⟨m3, em3, h⟩ := bs h
  refine r_putRF C (c := 14) (r := (RX17, TX17, 2)) rfl 1 (by decide) rfl rfl rfl rfl em3 q730 dX14_init_11 ?_
  cases h
  exact r_vret C hK dX14_init_14
theorem m_X14_init_p14 {l : Launch} {D : va_G} {b0 : Nat} (hl : l.stackTraces = false) {a0 : Nat} {a1 : Nat} {a2 : Nat} {μ : Me} {w : Me} (h : s_X14_init_p14 a0 a1 a2 μ = some w) : MN l D b0 yX14_init (ws_ yX14_init cX14_init 3 none) 2 [vO a0, vO a1, vO a2] μ none w :=
  MN.of hl (by decide +kernel) (Nat.le_of_ble_eq_true rfl) (fun Z C _ _ => w_X14_init_p14 C h rfl)
noncomputable def s_X15_init (a0 : Nat) (a1 : Nat) (a2 : Nat) (x3 : Int) (μ : Me) : Option (Me) :=
  (s_X14_init_p12 a0 a1 a2 μ).bind fun q1 =>
  (pI q1 12 a0 2 x3).bind fun m2 =>
  some m2
theorem w_X15_init {Z : Zt} {fin : Me} {w : Me} (C : CX Z yX15_init cX15_init none 3 4) {a0 : Nat} {a1 : Nat} {a2 : Nat} {x3 : Int} {μ : Me} (h : s_X15_init a0 a1 a2 x3 μ = some w) (hK : w = fin) : WL Z (QN Z none fin) μ 0 [(0, vO a0), (1, vO a1), (2, vO a2), (3, vI x3)] [] := by
  unfold s_X15_init at h
  refine r_aload_n C 0 dX15_init_0 rfl rfl ?_
  refine r_aload_n C 1 dX15_init_1 rfl rfl ?_
  refine r_aload_n C 2 dX15_init_2 rfl rfl ?_
  obtain ⟨q1, eq1, h⟩ := bs h
  refine r_callI C (As := [vO a1, vO a2]) (b := a0) (rest := []) (st1 := []) (v := none) (m_X14_init_p12 C.tr eq1) q724 q726 q141 q725 rfl hdX14_init rfl rfl (Nat.le_of_ble_eq_true rfl) ⟨by decide, by decide⟩ dX15_init_3 rfl ?_
  refine r_aload_n C 0 dX15_init_6 rfl rfl ?_
  refine r_iload_n C 3 dX15_init_7 rfl rfl ?_
  obtain ⟨m2, em2, h⟩ := bs h
  refine r_putIF C (c := 12) (r := (RX15, TX15, 3)) rfl 2 (by decide) rfl ⟨rfl, rfl⟩ rfl rfl rfl em2 q728 dX15_init_8 ?_
  cases h
  exact r_vret C hK dX15_init_11
theorem hdX15_init : zhd yX15_init 3 := by decide +kernel
theorem m_X15_init {l : Launch} {D : va_G} {b0 : Nat} (hl : l.stackTraces = false) {a0 : Nat} {a1 : Nat} {a2 : Nat} {x3 : Int} {μ : Me} {w : Me} (h : s_X15_init a0 a1 a2 x3 μ = some w) : MN l D b0 yX15_init (ws_ yX15_init cX15_init 4 none) 3 [vO a0, vO a1, vO a2, vI x3] μ none w :=
  MN.of hl (by decide +kernel) (Nat.le_of_ble_eq_true rfl) (fun Z C _ _ => w_X15_init C h rfl)
noncomputable def s_X16_init (a0 : Nat) (a1 : Nat) (a2 : Nat) (μ : Me) : Option (Me) :=
  (s_X14_init_p13 a0 a1 a2 μ).bind fun q1 =>
  some q1
theorem w_X16_init {Z : Zt} {fin : Me} {w : Me} (C : CX Z yX16_init cX16_init none 3 3) {a0 : Nat} {a1 : Nat} {a2 : Nat} {μ : Me} (h : s_X16_init a0 a1 a2 μ = some w) (hK : w = fin) : WL Z (QN Z none fin) μ 0 [(0, vO a0), (1, vO a1), (2, vO a2)] [] := by
  unfold s_X16_init at h
  refine r_aload_n C 0 dX16_init_0 rfl rfl ?_
  refine r_aload_n C 1 dX16_init_1 rfl rfl ?_
  refine r_aload_n C 2 dX16_init_2 rfl rfl ?_
  obtain ⟨q1, eq1, h⟩ := bs h
  refine r_callI C (As := [vO a1, vO a2]) (b := a0) (rest := []) (st1 := []) (v := none) (m_X14_init_p13 C.tr eq1) q747 q726 q141 q725 rfl hdX14_init rfl rfl (Nat.le_of_ble_eq_true rfl) ⟨by decide, by decide⟩ dX16_init_3 rfl ?_
  cases h
  exact r_vret C hK dX16_init_6
theorem hdX16_init : zhd yX16_init 2 := by decide +kernel
theorem m_X16_init {l : Launch} {D : va_G} {b0 : Nat} (hl : l.stackTraces = false) {a0 : Nat} {a1 : Nat} {a2 : Nat} {μ : Me} {w : Me} (h : s_X16_init a0 a1 a2 μ = some w) : MN l D b0 yX16_init (ws_ yX16_init cX16_init 3 none) 3 [vO a0, vO a1, vO a2] μ none w :=
  MN.of hl (by decide +kernel) (Nat.le_of_ble_eq_true rfl) (fun Z C _ _ => w_X16_init C h rfl)
noncomputable def s_X17_init (a0 : Nat) (a1 : Nat) (a2 : Nat) (μ : Me) : Option (Me) :=
  (s_X14_init_p14 a0 a1 a2 μ).bind fun q1 =>
  some q1
theorem w_X17_init {Z : Zt} {fin : Me} {w : Me} (C : CX Z yX17_init cX17_init none 3 3) {a0 : Nat} {a1 : Nat} {a2 : Nat} {μ : Me} (h : s_X17_init a0 a1 a2 μ = some w) (hK : w = fin) : WL Z (QN Z none fin) μ 0 [(0, vO a0), (1, vO a1), (2, vO a2)] [] := by
  unfold s_X17_init at h
  refine r_aload_n C 0 dX17_init_0 rfl rfl ?_
  refine r_aload_n C 1 dX17_init_1 rfl rfl ?_
  refine r_aload_n C 2 dX17_init_2 rfl rfl ?_
  obtain ⟨q1, eq1, h⟩ := bs h
  refine r_callI C (As := [vO a1, vO a2]) (b := a0) (rest := []) (st1 := []) (v := none) (m_X14_init_p14 C.tr eq1) q756 q726 q141 q725 rfl hdX14_init rfl rfl (Nat.le_of_ble_eq_true rfl) ⟨by decide, by decide⟩ dX17_init_3 rfl ?_
  cases h
  exact r_vret C hK dX17_init_6
theorem hdX17_init : zhd yX17_init 2 := by decide +kernel
theorem m_X17_init {l : Launch} {D : va_G} {b0 : Nat} (hl : l.stackTraces = false) {a0 : Nat} {a1 : Nat} {a2 : Nat} {μ : Me} {w : Me} (h : s_X17_init a0 a1 a2 μ = some w) : MN l D b0 yX17_init (ws_ yX17_init cX17_init 3 none) 3 [vO a0, vO a1, vO a2] μ none w :=
  MN.of hl (by decide +kernel) (Nat.le_of_ble_eq_true rfl) (fun Z C _ _ => w_X17_init C h rfl)
def HF_rp (l : Launch) (D : va_G) (b0 n : Nat) (F : Nat → Nat → Int → Me → Option (Ex ⊕ (Nat × Me))) : Prop :=
  (∀ (a0 : Nat)  (μ : Me) (w : Ex ⊕ (Nat × Me)), F 0 a0 0 μ = some w → XN l D b0 yX2_sum (ws_ yX2_sum cX2_sum 2 (some (.object "LetterForms$Sign"))) (12 + n) [vO a0] μ (zoA w) (zmI w)) ∧
  (∀ (a0 : Nat)  (μ : Me) (w : Ex ⊕ (Nat × Me)), F 1 a0 0 μ = some w → XN l D b0 yX2_term (ws_ yX2_term cX2_term 2 (some (.object "LetterForms$Sign"))) (12 + n) [vO a0] μ (zoA w) (zmI w)) ∧
  (∀ (a0 : Nat)  (μ : Me) (w : Ex ⊕ (Nat × Me)), F 2 a0 0 μ = some w → XN l D b0 yX2_unit (ws_ yX2_unit cX2_unit 4 (some (.object "LetterForms$Sign"))) (12 + n) [vO a0] μ (zoA w) (zmI w)) ∧
  (∀ (a0 : Nat) (z0 : Int) (μ : Me) (w : Ex ⊕ (Nat × Me)), F 3 a0 z0 μ = some w → XN l D b0 yX2_overlap (ws_ yX2_overlap cX2_overlap 4 (some (.object "LetterForms$Sign"))) (12 + n) [vO a0, vI z0] μ (zoA w) (zmI w))
theorem hdX2_sum : zhd yX2_sum 0 := by decide +kernel
theorem hdX2_term : zhd yX2_term 0 := by decide +kernel
theorem hdX2_unit : zhd yX2_unit 0 := by decide +kernel
theorem hdX2_overlap : zhd yX2_overlap 1 := by decide +kernel
noncomputable def s_X2_sum_l5_st (F : Nat → Nat → Int → Me → Option (Ex ⊕ (Nat × Me))) (a0 : Nat) (a1 : Nat) (μ : Me) : Option ((Nat × Me) ⊕ (Ex ⊕ (Nat × Me))) :=
  (ck μ 1 a0).bind fun _ =>
  (s_X2_sign a0 μ).bind fun q4 =>
  (if w32 q4.1 = w32 43 then
  (gI q4.2 1 a0 5).bind fun v7 =>
  (ck q4.2 1 a0).bind fun _ =>
  xb (s_X2_counts a0 v7 q4.2) (fun e9 => some (.inr (.inl e9))) fun q8 =>
  (gI q8 1 a0 5).bind fun v11 =>
  (pI q8 1 a0 5 (v11 + 1)).bind fun m12 =>
  (nO m12 14 2).bind fun q13 =>
  (ck q13.2 1 a0).bind fun _ =>
  xb (F 1 a0 0 q13.2) (fun e16 => some (.inr (.inl e16))) fun q14 =>
  (s_X17_init q13.1 a1 q14.1 q14.2).bind fun q17 =>
  some (.inl (q13.1, q17))
  else
  some (.inr (.inr (a1, q4.2))))
theorem w_X2_sum_l5_st {Z : Zt} {F : Nat → Nat → Int → Me → Option (Ex ⊕ (Nat × Me))} {n : Nat} {fin : Ex ⊕ (Nat × Me)} {w : ((Nat × Me) ⊕ (Ex ⊕ (Nat × Me)))} (C : CX Z yX2_sum cX2_sum (some (.object "LetterForms$Sign")) (12 + (n + 1)) 2) (X : XE Z) (hF : HF_rp Z.2.1 Z.2.2.2.2.2.2.2.2.2.2.1 Z.2.2.2.2.2.2.2.2.2.2.2.1 n F) {a0 : Nat} {a1 : Nat} {μ : Me} (h : s_X2_sum_l5_st F a0 a1 μ = some w) (hK : (Sum.elim (fun s : Nat × Me => WL Z (XQ Z (zoA fin) (zmI fin)) s.2 5 [(0, vO a0), (1, vO s.1)] []) (fun r : Ex ⊕ (Nat × Me) => r = fin)) w) : WL Z (XQ Z (zoA fin) (zmI fin)) μ 5 [(0, vO a0), (1, vO a1)] [] := by
  unfold s_X2_sum_l5_st at h
  refine r_aload_n C 0 dX2_sum_5 rfl rfl ?_
  obtain ⟨u5, eu5, h⟩ := bs h
  obtain ⟨q4, eq4, h⟩ := bs h
  refine r_callV C (As := []) (b := a0) (rest := []) (st1 := [vI q4.1]) (v := some (vI q4.1)) (r := (RX2, TX2, 8)) (ci := 1) rfl eu5 (m_X2_sign C.tr eq4) (lw_V q671 q673 qs7 q121 q674) rfl hdX2_sign rfl rfl (Nat.le_of_ble_eq_true rfl) ⟨by omega, by omega⟩ dX2_sum_6 rfl ?_
  refine r_bipush C dX2_sum_9 (by decide) ?_
  refine r_icmp_ne C dX2_sum_11 (tgt := 48) (by decide) (fun c6 => ?_) (fun c6 => ?_)
  · have h := ie_ h c6
    refine r_aload_n C 1 dX2_sum_48 rfl rfl ?_
    cases h
    exact r_xaret C (Or.inl ⟨_, rfl⟩) hK dX2_sum_49
  · have h := it_ h c6
    refine r_aload_n C 0 dX2_sum_14 rfl rfl ?_
    refine r_aload_n C 0 dX2_sum_15 rfl rfl ?_
    obtain ⟨v7, ev7, h⟩ := bs h
    refine r_getI C (c := 1) (r := (RX2, TX2, 8)) rfl 5 (by decide) rfl ev7 q255 dX2_sum_16 ?_
    obtain ⟨u10, eu10, h⟩ := bs h
    rcases xbs h with ⟨e9, eq8, h⟩ | ⟨q8, eq8, h⟩
    · refine r_xVx C (As := [vI v7]) (b := a0) (rest := []) (μ1 := e9.2.2) (r := (RX2, TX2, 8)) (ci := 1) rfl eu10 (m_X2_counts C.tr eq8) (lw_V q675 q677 qs8 q121 q678) rfl hdX2_counts rfl rfl (Nat.le_of_ble_eq_true rfl) ⟨by omega, by omega⟩ dX2_sum_19 ?_
      cases h
      exact r_xoutA C X hK
    · refine r_xV C (As := [vI v7]) (b := a0) (rest := []) (st1 := []) (v := none) (μ1 := q8) (r := (RX2, TX2, 8)) (ci := 1) rfl eu10 (m_X2_counts C.tr eq8) (lw_V q675 q677 qs8 q121 q678) rfl hdX2_counts rfl rfl (Nat.le_of_ble_eq_true rfl) ⟨by omega, by omega⟩ dX2_sum_19 rfl ?_
      refine r_aload_n C 0 dX2_sum_22 rfl rfl ?_
      refine r_dup C dX2_sum_23 rfl ?_
      obtain ⟨v11, ev11, h⟩ := bs h
      refine r_getI C (c := 1) (r := (RX2, TX2, 8)) rfl 5 (by decide) rfl ev11 q255 dX2_sum_24 ?_
      refine r_iconst C dX2_sum_27 ?_
      refine r_iadd C dX2_sum_28 ?_
      obtain ⟨m12, em12, h⟩ := bs h
      refine r_putI C (c := 1) (r := (RX2, TX2, 8)) rfl 5 (by decide) rfl ⟨rfl, rfl⟩ rfl em12 q255 dX2_sum_29 ?_
      obtain ⟨q13, eq13, h⟩ := bs h
      refine r_new C (c := 14) (r := (RX17, TX17, 2)) rfl eq13 q751 q752 q144 dX2_sum_32 ?_
      refine r_dup C dX2_sum_35 rfl ?_
      refine r_aload_n C 1 dX2_sum_36 rfl rfl ?_
      refine r_aload_n C 0 dX2_sum_37 rfl rfl ?_
      obtain ⟨u15, eu15, h⟩ := bs h
      rcases xbs h with ⟨e16, eq14, h⟩ | ⟨q14, eq14, h⟩
      · refine r_xVx C (As := []) (b := a0) (rest := [vO a1, vO q13.1, vO q13.1]) (μ1 := e16.2.2) (r := (RX2, TX2, 8)) (ci := 1) rfl eu15 (hF.2.1 _ _ _ eq14) (lw_V q663 q665 qs5 q121 q666) rfl hdX2_term rfl rfl (Nat.le_of_ble_eq_true rfl) ⟨by omega, by omega⟩ dX2_sum_38 ?_
        cases h
        exact r_xoutA C X hK
      · refine r_xV C (As := []) (b := a0) (rest := [vO a1, vO q13.1, vO q13.1]) (st1 := [vO q14.1, vO a1, vO q13.1, vO q13.1]) (v := some (vO q14.1)) (μ1 := q14.2) (r := (RX2, TX2, 8)) (ci := 1) rfl eu15 (hF.2.1 _ _ _ eq14) (lw_V q663 q665 qs5 q121 q666) rfl hdX2_term rfl rfl (Nat.le_of_ble_eq_true rfl) ⟨by omega, by omega⟩ dX2_sum_38 rfl ?_
        obtain ⟨q17, eq17, h⟩ := bs h
        refine r_callI C (As := [vO a1, vO q14.1]) (b := q13.1) (rest := [vO q13.1]) (st1 := [vO q13.1]) (v := none) (m_X17_init C.tr eq17) q753 q755 q144 q754 rfl hdX17_init rfl rfl (Nat.le_of_ble_eq_true rfl) ⟨by omega, by omega⟩ dX2_sum_41 rfl ?_
        refine r_astore_n C [(1, vO q13.1), (0, vO a0)] dX2_sum_44 rfl (by decide) rfl ?_
        refine r_goto C dX2_sum_45 (tgt := 5) (by decide) ?_
        cases h
        refine r_sub [1, 0] rfl ?_
        exact hK
noncomputable def s_X2_sum_l5 (F : Nat → Nat → Int → Me → Option (Ex ⊕ (Nat × Me))) (a0 : Nat) (a1 : Nat) (μ : Me) : Option (Ex ⊕ (Nat × Me)) :=
  whileO (fun s : Nat × Me => s_X2_sum_l5_st F a0 s.1 s.2) (a1, μ)
theorem e_X2_sum_l5 (F : Nat → Nat → Int → Me → Option (Ex ⊕ (Nat × Me))) (a0 : Nat) (a1 : Nat) (μ : Me) : s_X2_sum_l5 F a0 a1 μ = (s_X2_sum_l5_st F a0 a1 μ).bind fun x => x.elim (fun s : Nat × Me => s_X2_sum_l5 F a0 s.1 s.2) some := whileO_eq _ _
theorem w_X2_sum_l5 {Z : Zt} {F : Nat → Nat → Int → Me → Option (Ex ⊕ (Nat × Me))} {n : Nat} {fin : Ex ⊕ (Nat × Me)} {w : (Ex ⊕ (Nat × Me))} (C : CX Z yX2_sum cX2_sum (some (.object "LetterForms$Sign")) (12 + (n + 1)) 2) (X : XE Z) (hF : HF_rp Z.2.1 Z.2.2.2.2.2.2.2.2.2.2.1 Z.2.2.2.2.2.2.2.2.2.2.2.1 n F) {a0 : Nat} {a1 : Nat} {μ : Me} (h : s_X2_sum_l5 F a0 a1 μ = some w) (hK : (fun r : Ex ⊕ (Nat × Me) => r = fin) w) : WL Z (XQ Z (zoA fin) (zmI fin)) μ 5 [(0, vO a0), (1, vO a1)] [] := by
  refine whileO_walk (w := w) (fun s : Nat × Me => WL Z (XQ Z (zoA fin) (zmI fin)) s.2 5 [(0, vO a0), (1, vO s.1)] []) (fun s v h2 hi hr => ?_) (a1, μ) h
  refine w_X2_sum_l5_st (fin := fin) C X hF h2 ?_
  cases v with
  | inl s2 => exact hi s2 rfl
  | inr r => have e := hr r rfl; subst e; exact hK
noncomputable def s_X2_sum (F : Nat → Nat → Int → Me → Option (Ex ⊕ (Nat × Me))) (a0 : Nat) (μ : Me) : Option (Ex ⊕ (Nat × Me)) :=
  (ck μ 1 a0).bind fun _ =>
  xb (F 1 a0 0 μ) (fun e3 => some (.inl e3)) fun q1 =>
  s_X2_sum_l5 F a0 q1.1 q1.2
theorem w_X2_sum {Z : Zt} {F : Nat → Nat → Int → Me → Option (Ex ⊕ (Nat × Me))} {n : Nat} {fin : Ex ⊕ (Nat × Me)} {w : Ex ⊕ (Nat × Me)} (C : CX Z yX2_sum cX2_sum (some (.object "LetterForms$Sign")) (12 + (n + 1)) 2) (X : XE Z) (hF : HF_rp Z.2.1 Z.2.2.2.2.2.2.2.2.2.2.1 Z.2.2.2.2.2.2.2.2.2.2.2.1 n F) {a0 : Nat} {μ : Me} (h : s_X2_sum F a0 μ = some w) (hK : w = fin) : WL Z (XQ Z (zoA fin) (zmI fin)) μ 0 [(0, vO a0)] [] := by
  unfold s_X2_sum at h
  refine r_aload_n C 0 dX2_sum_0 rfl rfl ?_
  obtain ⟨u2, eu2, h⟩ := bs h
  rcases xbs h with ⟨e3, eq1, h⟩ | ⟨q1, eq1, h⟩
  · refine r_xVx C (As := []) (b := a0) (rest := []) (μ1 := e3.2.2) (r := (RX2, TX2, 8)) (ci := 1) rfl eu2 (hF.2.1 _ _ _ eq1) (lw_V q663 q665 qs5 q121 q666) rfl hdX2_term rfl rfl (Nat.le_of_ble_eq_true rfl) ⟨by omega, by omega⟩ dX2_sum_1 ?_
    cases h
    exact r_xoutA C X hK
  · refine r_xV C (As := []) (b := a0) (rest := []) (st1 := [vO q1.1]) (v := some (vO q1.1)) (μ1 := q1.2) (r := (RX2, TX2, 8)) (ci := 1) rfl eu2 (hF.2.1 _ _ _ eq1) (lw_V q663 q665 qs5 q121 q666) rfl hdX2_term rfl rfl (Nat.le_of_ble_eq_true rfl) ⟨by omega, by omega⟩ dX2_sum_1 rfl ?_
    refine r_astore_n C [(1, vO q1.1), (0, vO a0)] dX2_sum_4 rfl (by decide) rfl ?_
    refine r_sub [1, 0] rfl ?_
    exact w_X2_sum_l5 (fin := fin) C X hF h hK
noncomputable def s_X2_term_l5_st (F : Nat → Nat → Int → Me → Option (Ex ⊕ (Nat × Me))) (a0 : Nat) (a1 : Nat) (μ : Me) : Option ((Nat × Me) ⊕ (Ex ⊕ (Nat × Me))) :=
  (ck μ 1 a0).bind fun _ =>
  (s_X2_sign a0 μ).bind fun q4 =>
  (if w32 q4.1 = w32 42 then
  (gI q4.2 1 a0 5).bind fun v7 =>
  (ck q4.2 1 a0).bind fun _ =>
  xb (s_X2_counts a0 v7 q4.2) (fun e9 => some (.inr (.inl e9))) fun q8 =>
  (gI q8 1 a0 5).bind fun v11 =>
  (pI q8 1 a0 5 (v11 + 1)).bind fun m12 =>
  (nO m12 13 2).bind fun q13 =>
  (ck q13.2 1 a0).bind fun _ =>
  xb (F 2 a0 0 q13.2) (fun e16 => some (.inr (.inl e16))) fun q14 =>
  (s_X16_init q13.1 a1 q14.1 q14.2).bind fun q17 =>
  some (.inl (q13.1, q17))
  else
  some (.inr (.inr (a1, q4.2))))
theorem w_X2_term_l5_st {Z : Zt} {F : Nat → Nat → Int → Me → Option (Ex ⊕ (Nat × Me))} {n : Nat} {fin : Ex ⊕ (Nat × Me)} {w : ((Nat × Me) ⊕ (Ex ⊕ (Nat × Me)))} (C : CX Z yX2_term cX2_term (some (.object "LetterForms$Sign")) (12 + (n + 1)) 2) (X : XE Z) (hF : HF_rp Z.2.1 Z.2.2.2.2.2.2.2.2.2.2.1 Z.2.2.2.2.2.2.2.2.2.2.2.1 n F) {a0 : Nat} {a1 : Nat} {μ : Me} (h : s_X2_term_l5_st F a0 a1 μ = some w) (hK : (Sum.elim (fun s : Nat × Me => WL Z (XQ Z (zoA fin) (zmI fin)) s.2 5 [(0, vO a0), (1, vO s.1)] []) (fun r : Ex ⊕ (Nat × Me) => r = fin)) w) : WL Z (XQ Z (zoA fin) (zmI fin)) μ 5 [(0, vO a0), (1, vO a1)] [] := by
  unfold s_X2_term_l5_st at h
  refine r_aload_n C 0 dX2_term_5 rfl rfl ?_
  obtain ⟨u5, eu5, h⟩ := bs h
  obtain ⟨q4, eq4, h⟩ := bs h
  refine r_callV C (As := []) (b := a0) (rest := []) (st1 := [vI q4.1]) (v := some (vI q4.1)) (r := (RX2, TX2, 8)) (ci := 1) rfl eu5 (m_X2_sign C.tr eq4) (lw_V q671 q673 qs7 q121 q674) rfl hdX2_sign rfl rfl (Nat.le_of_ble_eq_true rfl) ⟨by omega, by omega⟩ dX2_term_6 rfl ?_
  refine r_bipush C dX2_term_9 (by decide) ?_
  refine r_icmp_ne C dX2_term_11 (tgt := 48) (by decide) (fun c6 => ?_) (fun c6 => ?_)
  · have h := ie_ h c6
    refine r_aload_n C 1 dX2_term_48 rfl rfl ?_
    cases h
    exact r_xaret C (Or.inl ⟨_, rfl⟩) hK dX2_term_49
  · have h := it_ h c6
    refine r_aload_n C 0 dX2_term_14 rfl rfl ?_
    refine r_aload_n C 0 dX2_term_15 rfl rfl ?_
    obtain ⟨v7, ev7, h⟩ := bs h
    refine r_getI C (c := 1) (r := (RX2, TX2, 8)) rfl 5 (by decide) rfl ev7 q255 dX2_term_16 ?_
    obtain ⟨u10, eu10, h⟩ := bs h
    rcases xbs h with ⟨e9, eq8, h⟩ | ⟨q8, eq8, h⟩
    · refine r_xVx C (As := [vI v7]) (b := a0) (rest := []) (μ1 := e9.2.2) (r := (RX2, TX2, 8)) (ci := 1) rfl eu10 (m_X2_counts C.tr eq8) (lw_V q675 q677 qs8 q121 q678) rfl hdX2_counts rfl rfl (Nat.le_of_ble_eq_true rfl) ⟨by omega, by omega⟩ dX2_term_19 ?_
      cases h
      exact r_xoutA C X hK
    · refine r_xV C (As := [vI v7]) (b := a0) (rest := []) (st1 := []) (v := none) (μ1 := q8) (r := (RX2, TX2, 8)) (ci := 1) rfl eu10 (m_X2_counts C.tr eq8) (lw_V q675 q677 qs8 q121 q678) rfl hdX2_counts rfl rfl (Nat.le_of_ble_eq_true rfl) ⟨by omega, by omega⟩ dX2_term_19 rfl ?_
      refine r_aload_n C 0 dX2_term_22 rfl rfl ?_
      refine r_dup C dX2_term_23 rfl ?_
      obtain ⟨v11, ev11, h⟩ := bs h
      refine r_getI C (c := 1) (r := (RX2, TX2, 8)) rfl 5 (by decide) rfl ev11 q255 dX2_term_24 ?_
      refine r_iconst C dX2_term_27 ?_
      refine r_iadd C dX2_term_28 ?_
      obtain ⟨m12, em12, h⟩ := bs h
      refine r_putI C (c := 1) (r := (RX2, TX2, 8)) rfl 5 (by decide) rfl ⟨rfl, rfl⟩ rfl em12 q255 dX2_term_29 ?_
      obtain ⟨q13, eq13, h⟩ := bs h
      refine r_new C (c := 13) (r := (RX16, TX16, 2)) rfl eq13 q742 q743 q143 dX2_term_32 ?_
      refine r_dup C dX2_term_35 rfl ?_
      refine r_aload_n C 1 dX2_term_36 rfl rfl ?_
      refine r_aload_n C 0 dX2_term_37 rfl rfl ?_
      obtain ⟨u15, eu15, h⟩ := bs h
      rcases xbs h with ⟨e16, eq14, h⟩ | ⟨q14, eq14, h⟩
      · refine r_xVx C (As := []) (b := a0) (rest := [vO a1, vO q13.1, vO q13.1]) (μ1 := e16.2.2) (r := (RX2, TX2, 8)) (ci := 1) rfl eu15 (hF.2.2.1 _ _ _ eq14) (lw_V q667 q669 qs6 q121 q670) rfl hdX2_unit rfl rfl (Nat.le_of_ble_eq_true rfl) ⟨by omega, by omega⟩ dX2_term_38 ?_
        cases h
        exact r_xoutA C X hK
      · refine r_xV C (As := []) (b := a0) (rest := [vO a1, vO q13.1, vO q13.1]) (st1 := [vO q14.1, vO a1, vO q13.1, vO q13.1]) (v := some (vO q14.1)) (μ1 := q14.2) (r := (RX2, TX2, 8)) (ci := 1) rfl eu15 (hF.2.2.1 _ _ _ eq14) (lw_V q667 q669 qs6 q121 q670) rfl hdX2_unit rfl rfl (Nat.le_of_ble_eq_true rfl) ⟨by omega, by omega⟩ dX2_term_38 rfl ?_
        obtain ⟨q17, eq17, h⟩ := bs h
        refine r_callI C (As := [vO a1, vO q14.1]) (b := q13.1) (rest := [vO q13.1]) (st1 := [vO q13.1]) (v := none) (m_X16_init C.tr eq17) q744 q746 q143 q745 rfl hdX16_init rfl rfl (Nat.le_of_ble_eq_true rfl) ⟨by omega, by omega⟩ dX2_term_41 rfl ?_
        refine r_astore_n C [(1, vO q13.1), (0, vO a0)] dX2_term_44 rfl (by decide) rfl ?_
        refine r_goto C dX2_term_45 (tgt := 5) (by decide) ?_
        cases h
        refine r_sub [1, 0] rfl ?_
        exact hK
noncomputable def s_X2_term_l5 (F : Nat → Nat → Int → Me → Option (Ex ⊕ (Nat × Me))) (a0 : Nat) (a1 : Nat) (μ : Me) : Option (Ex ⊕ (Nat × Me)) :=
  whileO (fun s : Nat × Me => s_X2_term_l5_st F a0 s.1 s.2) (a1, μ)
theorem e_X2_term_l5 (F : Nat → Nat → Int → Me → Option (Ex ⊕ (Nat × Me))) (a0 : Nat) (a1 : Nat) (μ : Me) : s_X2_term_l5 F a0 a1 μ = (s_X2_term_l5_st F a0 a1 μ).bind fun x => x.elim (fun s : Nat × Me => s_X2_term_l5 F a0 s.1 s.2) some := whileO_eq _ _
theorem w_X2_term_l5 {Z : Zt} {F : Nat → Nat → Int → Me → Option (Ex ⊕ (Nat × Me))} {n : Nat} {fin : Ex ⊕ (Nat × Me)} {w : (Ex ⊕ (Nat × Me))} (C : CX Z yX2_term cX2_term (some (.object "LetterForms$Sign")) (12 + (n + 1)) 2) (X : XE Z) (hF : HF_rp Z.2.1 Z.2.2.2.2.2.2.2.2.2.2.1 Z.2.2.2.2.2.2.2.2.2.2.2.1 n F) {a0 : Nat} {a1 : Nat} {μ : Me} (h : s_X2_term_l5 F a0 a1 μ = some w) (hK : (fun r : Ex ⊕ (Nat × Me) => r = fin) w) : WL Z (XQ Z (zoA fin) (zmI fin)) μ 5 [(0, vO a0), (1, vO a1)] [] := by
  refine whileO_walk (w := w) (fun s : Nat × Me => WL Z (XQ Z (zoA fin) (zmI fin)) s.2 5 [(0, vO a0), (1, vO s.1)] []) (fun s v h2 hi hr => ?_) (a1, μ) h
  refine w_X2_term_l5_st (fin := fin) C X hF h2 ?_
  cases v with
  | inl s2 => exact hi s2 rfl
  | inr r => have e := hr r rfl; subst e; exact hK
noncomputable def s_X2_term (F : Nat → Nat → Int → Me → Option (Ex ⊕ (Nat × Me))) (a0 : Nat) (μ : Me) : Option (Ex ⊕ (Nat × Me)) :=
  (ck μ 1 a0).bind fun _ =>
  xb (F 2 a0 0 μ) (fun e3 => some (.inl e3)) fun q1 =>
  s_X2_term_l5 F a0 q1.1 q1.2
theorem w_X2_term {Z : Zt} {F : Nat → Nat → Int → Me → Option (Ex ⊕ (Nat × Me))} {n : Nat} {fin : Ex ⊕ (Nat × Me)} {w : Ex ⊕ (Nat × Me)} (C : CX Z yX2_term cX2_term (some (.object "LetterForms$Sign")) (12 + (n + 1)) 2) (X : XE Z) (hF : HF_rp Z.2.1 Z.2.2.2.2.2.2.2.2.2.2.1 Z.2.2.2.2.2.2.2.2.2.2.2.1 n F) {a0 : Nat} {μ : Me} (h : s_X2_term F a0 μ = some w) (hK : w = fin) : WL Z (XQ Z (zoA fin) (zmI fin)) μ 0 [(0, vO a0)] [] := by
  unfold s_X2_term at h
  refine r_aload_n C 0 dX2_term_0 rfl rfl ?_
  obtain ⟨u2, eu2, h⟩ := bs h
  rcases xbs h with ⟨e3, eq1, h⟩ | ⟨q1, eq1, h⟩
  · refine r_xVx C (As := []) (b := a0) (rest := []) (μ1 := e3.2.2) (r := (RX2, TX2, 8)) (ci := 1) rfl eu2 (hF.2.2.1 _ _ _ eq1) (lw_V q667 q669 qs6 q121 q670) rfl hdX2_unit rfl rfl (Nat.le_of_ble_eq_true rfl) ⟨by omega, by omega⟩ dX2_term_1 ?_
    cases h
    exact r_xoutA C X hK
  · refine r_xV C (As := []) (b := a0) (rest := []) (st1 := [vO q1.1]) (v := some (vO q1.1)) (μ1 := q1.2) (r := (RX2, TX2, 8)) (ci := 1) rfl eu2 (hF.2.2.1 _ _ _ eq1) (lw_V q667 q669 qs6 q121 q670) rfl hdX2_unit rfl rfl (Nat.le_of_ble_eq_true rfl) ⟨by omega, by omega⟩ dX2_term_1 rfl ?_
    refine r_astore_n C [(1, vO q1.1), (0, vO a0)] dX2_term_4 rfl (by decide) rfl ?_
    refine r_sub [1, 0] rfl ?_
    exact w_X2_term_l5 (fin := fin) C X hF h hK
noncomputable def s_X2_unit_b93 (F : Nat → Nat → Int → Me → Option (Ex ⊕ (Nat × Me))) (a0 : Nat) (x1 : Int) (t0 : Nat) (μ : Me) : Option (Ex ⊕ (Nat × Me)) :=
  (if w32 x1 = w32 40 then
  (ck μ 1 a0).bind fun _ =>
  xb (s_X2_expect a0 41 μ) (fun e19 => some (.inl e19)) fun q18 =>
  (gI q18 1 a0 6).bind fun v21 =>
  (pI q18 1 a0 6 (v21 - 1)).bind fun m22 =>
  some (.inr (t0, m22))
  else
  (gI μ 1 a0 6).bind fun v16 =>
  (pI μ 1 a0 6 (v16 - 1)).bind fun m17 =>
  some (.inr (t0, m17)))
theorem w_X2_unit_b93 {Z : Zt} {F : Nat → Nat → Int → Me → Option (Ex ⊕ (Nat × Me))} {n : Nat} {fin : Ex ⊕ (Nat × Me)} {w : (Ex ⊕ (Nat × Me))} (C : CX Z yX2_unit cX2_unit (some (.object "LetterForms$Sign")) (12 + (n + 1)) 4) (X : XE Z) (hF : HF_rp Z.2.1 Z.2.2.2.2.2.2.2.2.2.2.1 Z.2.2.2.2.2.2.2.2.2.2.2.1 n F) {a0 : Nat} {x1 : Int} {t0 : Nat} {μ : Me} (h : s_X2_unit_b93 F a0 x1 t0 μ = some w) (hK : (fun r : Ex ⊕ (Nat × Me) => r = fin) w) : WL Z (XQ Z (zoA fin) (zmI fin)) μ 93 [(0, vO a0), (1, vI x1)] [vO t0] := by
  unfold s_X2_unit_b93 at h
  refine r_astore_n C [(3, vO t0), (0, vO a0), (1, vI x1)] dX2_unit_93 rfl (by decide) rfl ?_
  refine r_iload_n C 2 dX2_unit_94 rfl rfl ?_
  refine r_bipush C dX2_unit_95 (by decide) ?_
  refine r_icmp_ne C dX2_unit_97 (tgt := 106) (by decide) (fun c15 => ?_) (fun c15 => ?_)
  · have h := ie_ h c15
    refine r_aload_n C 1 dX2_unit_106 rfl rfl ?_
    refine r_dup C dX2_unit_107 rfl ?_
    obtain ⟨v16, ev16, h⟩ := bs h
    refine r_getI C (c := 1) (r := (RX2, TX2, 8)) rfl 6 (by decide) rfl ev16 q256 dX2_unit_108 ?_
    refine r_iconst C dX2_unit_111 ?_
    refine r_isub C dX2_unit_112 ?_
    obtain ⟨m17, em17, h⟩ := bs h
    refine r_putI C (c := 1) (r := (RX2, TX2, 8)) rfl 6 (by decide) rfl ⟨rfl, rfl⟩ rfl em17 q256 dX2_unit_113 ?_
    refine r_aload_n C 0 dX2_unit_116 rfl rfl ?_
    cases h
    exact r_xaret C (Or.inl ⟨_, rfl⟩) hK dX2_unit_117
  · have h := it_ h c15
    refine r_aload_n C 1 dX2_unit_100 rfl rfl ?_
    refine r_bipush C dX2_unit_101 (by decide) ?_
    obtain ⟨u20, eu20, h⟩ := bs h
    rcases xbs h with ⟨e19, eq18, h⟩ | ⟨q18, eq18, h⟩
    · refine r_xVx C (As := [vI 41]) (b := a0) (rest := []) (μ1 := e19.2.2) (r := (RX2, TX2, 8)) (ci := 1) rfl eu20 (m_X2_expect C.tr eq18) (lw_V q711 q713 qs12 q121 q714) rfl hdX2_expect rfl rfl (Nat.le_of_ble_eq_true rfl) ⟨by omega, by omega⟩ dX2_unit_103 ?_
      cases h
      exact r_xoutA C X hK
    · refine r_xV C (As := [vI 41]) (b := a0) (rest := []) (st1 := []) (v := none) (μ1 := q18) (r := (RX2, TX2, 8)) (ci := 1) rfl eu20 (m_X2_expect C.tr eq18) (lw_V q711 q713 qs12 q121 q714) rfl hdX2_expect rfl rfl (Nat.le_of_ble_eq_true rfl) ⟨by omega, by omega⟩ dX2_unit_103 rfl ?_
      refine r_aload_n C 1 dX2_unit_106 rfl rfl ?_
      refine r_dup C dX2_unit_107 rfl ?_
      obtain ⟨v21, ev21, h⟩ := bs h
      refine r_getI C (c := 1) (r := (RX2, TX2, 8)) rfl 6 (by decide) rfl ev21 q256 dX2_unit_108 ?_
      refine r_iconst C dX2_unit_111 ?_
      refine r_isub C dX2_unit_112 ?_
      obtain ⟨m22, em22, h⟩ := bs h
      refine r_putI C (c := 1) (r := (RX2, TX2, 8)) rfl 6 (by decide) rfl ⟨rfl, rfl⟩ rfl em22 q256 dX2_unit_113 ?_
      refine r_aload_n C 0 dX2_unit_116 rfl rfl ?_
      cases h
      exact r_xaret C (Or.inl ⟨_, rfl⟩) hK dX2_unit_117
noncomputable def s_X2_unit_b54 (F : Nat → Nat → Int → Me → Option (Ex ⊕ (Nat × Me))) (a0 : Nat) (x1 : Int) (x2 : Int)  (μ : Me) : Option (Ex ⊕ (Nat × Me)) :=
  (ck μ 1 a0).bind fun _ =>
  xb (s_X2_enters a0 x2 μ) (fun e7 => some (.inl e7)) fun q6 =>
  (gI q6 1 a0 5).bind fun v9 =>
  (pI q6 1 a0 5 (v9 + 1)).bind fun m10 =>
  (if w32 x1 = w32 45 then
  (nO m10 11 1).bind fun q23 =>
  (ck q23.2 1 a0).bind fun _ =>
  xb (F 2 a0 0 q23.2) (fun e26 => some (.inl e26)) fun q24 =>
  (s_X13_init q23.1 q24.1 q24.2).bind fun q27 =>
  s_X2_unit_b93 F a0 x1 q23.1 q27
  else
  (ck m10 1 a0).bind fun _ =>
  xb (F 0 a0 0 m10) (fun e14 => some (.inl e14)) fun q12 =>
  s_X2_unit_b93 F a0 x1 q12.1 q12.2)
theorem w_X2_unit_b54 {Z : Zt} {F : Nat → Nat → Int → Me → Option (Ex ⊕ (Nat × Me))} {n : Nat} {fin : Ex ⊕ (Nat × Me)} {w : (Ex ⊕ (Nat × Me))} (C : CX Z yX2_unit cX2_unit (some (.object "LetterForms$Sign")) (12 + (n + 1)) 4) (X : XE Z) (hF : HF_rp Z.2.1 Z.2.2.2.2.2.2.2.2.2.2.1 Z.2.2.2.2.2.2.2.2.2.2.2.1 n F) {a0 : Nat} {x1 : Int} {x2 : Int}  {μ : Me} (h : s_X2_unit_b54 F a0 x1 x2 μ = some w) (hK : (fun r : Ex ⊕ (Nat × Me) => r = fin) w) : WL Z (XQ Z (zoA fin) (zmI fin)) μ 54 [(0, vO a0), (1, vI x1), (2, vI x2)] [] := by
  unfold s_X2_unit_b54 at h
  refine r_aload_n C 0 dX2_unit_54 rfl rfl ?_
  refine r_iload_n C 2 dX2_unit_55 rfl rfl ?_
  obtain ⟨u8, eu8, h⟩ := bs h
  rcases xbs h with ⟨e7, eq6, h⟩ | ⟨q6, eq6, h⟩
  · refine r_xVx C (As := [vI x2]) (b := a0) (rest := []) (μ1 := e7.2.2) (r := (RX2, TX2, 8)) (ci := 1) rfl eu8 (m_X2_enters C.tr eq6) (lw_V q697 q699 qs11 q121 q700) rfl hdX2_enters rfl rfl (Nat.le_of_ble_eq_true rfl) ⟨by omega, by omega⟩ dX2_unit_56 ?_
    cases h
    exact r_xoutA C X hK
  · refine r_xV C (As := [vI x2]) (b := a0) (rest := []) (st1 := []) (v := none) (μ1 := q6) (r := (RX2, TX2, 8)) (ci := 1) rfl eu8 (m_X2_enters C.tr eq6) (lw_V q697 q699 qs11 q121 q700) rfl hdX2_enters rfl rfl (Nat.le_of_ble_eq_true rfl) ⟨by omega, by omega⟩ dX2_unit_56 rfl ?_
    refine r_aload_n C 0 dX2_unit_59 rfl rfl ?_
    refine r_dup C dX2_unit_60 rfl ?_
    obtain ⟨v9, ev9, h⟩ := bs h
    refine r_getI C (c := 1) (r := (RX2, TX2, 8)) rfl 5 (by decide) rfl ev9 q255 dX2_unit_61 ?_
    refine r_iconst C dX2_unit_64 ?_
    refine r_iadd C dX2_unit_65 ?_
    obtain ⟨m10, em10, h⟩ := bs h
    refine r_putI C (c := 1) (r := (RX2, TX2, 8)) rfl 5 (by decide) rfl ⟨rfl, rfl⟩ rfl em10 q255 dX2_unit_66 ?_
    refine r_iload_n C 1 dX2_unit_69 rfl rfl ?_
    refine r_bipush C dX2_unit_70 (by decide) ?_
    refine r_icmp_ne C dX2_unit_72 (tgt := 89) (by decide) (fun c11 => ?_) (fun c11 => ?_)
    · have h := ie_ h c11
      refine r_aload_n C 0 dX2_unit_89 rfl rfl ?_
      obtain ⟨u13, eu13, h⟩ := bs h
      rcases xbs h with ⟨e14, eq12, h⟩ | ⟨q12, eq12, h⟩
      · refine r_xVx C (As := []) (b := a0) (rest := []) (μ1 := e14.2.2) (r := (RX2, TX2, 8)) (ci := 1) rfl eu13 (hF.1 _ _ _ eq12) (lw_V q659 q661 qs4 q121 q662) rfl hdX2_sum rfl rfl (Nat.le_of_ble_eq_true rfl) ⟨by omega, by omega⟩ dX2_unit_90 ?_
        cases h
        exact r_xoutA C X hK
      · refine r_xV C (As := []) (b := a0) (rest := []) (st1 := [vO q12.1]) (v := some (vO q12.1)) (μ1 := q12.2) (r := (RX2, TX2, 8)) (ci := 1) rfl eu13 (hF.1 _ _ _ eq12) (lw_V q659 q661 qs4 q121 q662) rfl hdX2_sum rfl rfl (Nat.le_of_ble_eq_true rfl) ⟨by omega, by omega⟩ dX2_unit_90 rfl ?_
        refine r_sub [0, 1] rfl ?_
        exact w_X2_unit_b93 (fin := fin) C X hF h hK
    · have h := it_ h c11
      obtain ⟨q23, eq23, h⟩ := bs h
      refine r_new C (c := 11) (r := (RX13, TX13, 1)) rfl eq23 q701 q702 q140 dX2_unit_75 ?_
      refine r_dup C dX2_unit_78 rfl ?_
      refine r_aload_n C 0 dX2_unit_79 rfl rfl ?_
      obtain ⟨u25, eu25, h⟩ := bs h
      rcases xbs h with ⟨e26, eq24, h⟩ | ⟨q24, eq24, h⟩
      · refine r_xVx C (As := []) (b := a0) (rest := [vO q23.1, vO q23.1]) (μ1 := e26.2.2) (r := (RX2, TX2, 8)) (ci := 1) rfl eu25 (hF.2.2.1 _ _ _ eq24) (lw_V q667 q669 qs6 q121 q670) rfl hdX2_unit rfl rfl (Nat.le_of_ble_eq_true rfl) ⟨by omega, by omega⟩ dX2_unit_80 ?_
        cases h
        exact r_xoutA C X hK
      · refine r_xV C (As := []) (b := a0) (rest := [vO q23.1, vO q23.1]) (st1 := [vO q24.1, vO q23.1, vO q23.1]) (v := some (vO q24.1)) (μ1 := q24.2) (r := (RX2, TX2, 8)) (ci := 1) rfl eu25 (hF.2.2.1 _ _ _ eq24) (lw_V q667 q669 qs6 q121 q670) rfl hdX2_unit rfl rfl (Nat.le_of_ble_eq_true rfl) ⟨by omega, by omega⟩ dX2_unit_80 rfl ?_
        obtain ⟨q27, eq27, h⟩ := bs h
        refine r_callI C (As := [vO q24.1]) (b := q23.1) (rest := [vO q23.1]) (st1 := [vO q23.1]) (v := none) (m_X13_init C.tr eq27) q703 q705 q140 q704 rfl hdX13_init rfl rfl (Nat.le_of_ble_eq_true rfl) ⟨by omega, by omega⟩ dX2_unit_83 rfl ?_
        refine r_goto C dX2_unit_86 (tgt := 93) (by decide) ?_
        refine r_sub [0, 1] rfl ?_
        exact w_X2_unit_b93 (fin := fin) C X hF h hK
noncomputable def s_X2_unit_b142 (F : Nat → Nat → Int → Me → Option (Ex ⊕ (Nat × Me))) (a0 : Nat) (x2 : Int)  (μ : Me) : Option (Ex ⊕ (Nat × Me)) :=
  (ck μ 1 a0).bind fun _ =>
  xb (s_X2_counts a0 x2 μ) (fun e34 => some (.inl e34)) fun q33 =>
  (gR q33 1 a0 1).bind fun v36 =>
  some (.inr (v36, q33))
theorem w_X2_unit_b142 {Z : Zt} {F : Nat → Nat → Int → Me → Option (Ex ⊕ (Nat × Me))} {n : Nat} {fin : Ex ⊕ (Nat × Me)} {w : (Ex ⊕ (Nat × Me))} (C : CX Z yX2_unit cX2_unit (some (.object "LetterForms$Sign")) (12 + (n + 1)) 4) (X : XE Z) (hF : HF_rp Z.2.1 Z.2.2.2.2.2.2.2.2.2.2.1 Z.2.2.2.2.2.2.2.2.2.2.2.1 n F) {a0 : Nat} {x2 : Int}  {μ : Me} (h : s_X2_unit_b142 F a0 x2 μ = some w) (hK : (fun r : Ex ⊕ (Nat × Me) => r = fin) w) : WL Z (XQ Z (zoA fin) (zmI fin)) μ 142 [(0, vO a0), (2, vI x2)] [] := by
  unfold s_X2_unit_b142 at h
  refine r_aload_n C 0 dX2_unit_142 rfl rfl ?_
  refine r_iload_n C 1 dX2_unit_143 rfl rfl ?_
  obtain ⟨u35, eu35, h⟩ := bs h
  rcases xbs h with ⟨e34, eq33, h⟩ | ⟨q33, eq33, h⟩
  · refine r_xVx C (As := [vI x2]) (b := a0) (rest := []) (μ1 := e34.2.2) (r := (RX2, TX2, 8)) (ci := 1) rfl eu35 (m_X2_counts C.tr eq33) (lw_V q675 q677 qs8 q121 q678) rfl hdX2_counts rfl rfl (Nat.le_of_ble_eq_true rfl) ⟨by omega, by omega⟩ dX2_unit_144 ?_
    cases h
    exact r_xoutA C X hK
  · refine r_xV C (As := [vI x2]) (b := a0) (rest := []) (st1 := []) (v := none) (μ1 := q33) (r := (RX2, TX2, 8)) (ci := 1) rfl eu35 (m_X2_counts C.tr eq33) (lw_V q675 q677 qs8 q121 q678) rfl hdX2_counts rfl rfl (Nat.le_of_ble_eq_true rfl) ⟨by omega, by omega⟩ dX2_unit_144 rfl ?_
    refine r_aload_n C 0 dX2_unit_147 rfl rfl ?_
    obtain ⟨v36, ev36, h⟩ := bs h
    refine r_getR C (c := 1) (r := (RX2, TX2, 8)) rfl 1 (by decide) rfl ev36 q251 dX2_unit_148 ?_
    cases h
    exact r_xaret C (Or.inl ⟨_, rfl⟩) hK dX2_unit_151
noncomputable def s_X2_unit_b42 (F : Nat → Nat → Int → Me → Option (Ex ⊕ (Nat × Me))) (a0 : Nat) (x1 : Int) (x2 : Int)  (μ : Me) : Option (Ex ⊕ (Nat × Me)) :=
  (if w32 x1 = w32 45 then
  s_X2_unit_b54 F a0 x1 x2 μ
  else
  (if w32 x1 = w32 40 then
  s_X2_unit_b54 F a0 x1 x2 μ
  else
  (if w32 x1 = w32 91 then
  (ck μ 1 a0).bind fun _ =>
  xb (F 3 a0 x2 μ) (fun e42 => some (.inl e42)) fun q40 =>
  some (.inr (q40.1, q40.2))
  else
  (ck μ 1 a0).bind fun _ =>
  (s_X2_takesF a0 μ).bind fun q30 =>
  (if w32 q30.1 = 0 then
  (ck q30.2 1 a0).bind fun _ =>
  xb (s_X2_fail a0 x2 q30.2) (fun e38 => some (.inl e38)) fun q37 =>
  s_X2_unit_b142 F a0 x2 q37
  else
  s_X2_unit_b142 F a0 x2 q30.2))))
theorem w_X2_unit_b42 {Z : Zt} {F : Nat → Nat → Int → Me → Option (Ex ⊕ (Nat × Me))} {n : Nat} {fin : Ex ⊕ (Nat × Me)} {w : (Ex ⊕ (Nat × Me))} (C : CX Z yX2_unit cX2_unit (some (.object "LetterForms$Sign")) (12 + (n + 1)) 4) (X : XE Z) (hF : HF_rp Z.2.1 Z.2.2.2.2.2.2.2.2.2.2.1 Z.2.2.2.2.2.2.2.2.2.2.2.1 n F) {a0 : Nat} {x1 : Int} {x2 : Int}  {μ : Me} (h : s_X2_unit_b42 F a0 x1 x2 μ = some w) (hK : (fun r : Ex ⊕ (Nat × Me) => r = fin) w) : WL Z (XQ Z (zoA fin) (zmI fin)) μ 42 [(0, vO a0), (1, vI x1), (2, vI x2)] [] := by
  unfold s_X2_unit_b42 at h
  refine r_iload_n C 1 dX2_unit_42 rfl rfl ?_
  refine r_bipush C dX2_unit_43 (by decide) ?_
  refine r_icmp_eq C dX2_unit_45 (tgt := 54) (by decide) (fun c5 => ?_) (fun c5 => ?_)
  · have h := it_ h c5
    exact w_X2_unit_b54 (fin := fin) C X hF h hK
  · have h := ie_ h c5
    refine r_iload_n C 1 dX2_unit_48 rfl rfl ?_
    refine r_bipush C dX2_unit_49 (by decide) ?_
    refine r_icmp_ne C dX2_unit_51 (tgt := 118) (by decide) (fun c28 => ?_) (fun c28 => ?_)
    · have h := ie_ h c28
      refine r_iload_n C 1 dX2_unit_118 rfl rfl ?_
      refine r_bipush C dX2_unit_119 (by decide) ?_
      refine r_icmp_ne C dX2_unit_121 (tgt := 130) (by decide) (fun c29 => ?_) (fun c29 => ?_)
      · have h := ie_ h c29
        refine r_aload_n C 0 dX2_unit_130 rfl rfl ?_
        obtain ⟨u31, eu31, h⟩ := bs h
        obtain ⟨q30, eq30, h⟩ := bs h
        refine r_callV C (As := []) (b := a0) (rest := []) (st1 := [vI q30.1]) (v := some (vI q30.1)) (r := (RX2, TX2, 8)) (ci := 1) rfl eu31 (m_X2_takesF C.tr eq30) (lw_V q738 q740 qs14 q121 q741) rfl hdX2_takesF rfl rfl (Nat.le_of_ble_eq_true rfl) ⟨by omega, by omega⟩ dX2_unit_131 rfl ?_
        refine r_if_ne C dX2_unit_134 (tgt := 142) (by decide) (fun c32 => ?_) (fun c32 => ?_)
        · have h := ie_ h c32
          refine r_sub [0, 2] rfl ?_
          exact w_X2_unit_b142 (fin := fin) C X hF h hK
        · have h := it_ h c32
          refine r_aload_n C 0 dX2_unit_137 rfl rfl ?_
          refine r_iload_n C 2 dX2_unit_138 rfl rfl ?_
          obtain ⟨u39, eu39, h⟩ := bs h
          rcases xbs h with ⟨e38, eq37, h⟩ | ⟨q37, eq37, h⟩
          · refine r_xVx C (As := [vI x2]) (b := a0) (rest := []) (μ1 := e38.2.2) (r := (RX2, TX2, 8)) (ci := 1) rfl eu39 (m_X2_fail C.tr eq37) (lw_V q679 q681 qs9 q121 q682) rfl hdX2_fail rfl rfl (Nat.le_of_ble_eq_true rfl) ⟨by omega, by omega⟩ dX2_unit_139 ?_
            cases h
            exact r_xoutA C X hK
          · refine r_xV C (As := [vI x2]) (b := a0) (rest := []) (st1 := []) (v := none) (μ1 := q37) (r := (RX2, TX2, 8)) (ci := 1) rfl eu39 (m_X2_fail C.tr eq37) (lw_V q679 q681 qs9 q121 q682) rfl hdX2_fail rfl rfl (Nat.le_of_ble_eq_true rfl) ⟨by omega, by omega⟩ dX2_unit_139 rfl ?_
            refine r_sub [0, 2] rfl ?_
            exact w_X2_unit_b142 (fin := fin) C X hF h hK
      · have h := it_ h c29
        refine r_aload_n C 0 dX2_unit_124 rfl rfl ?_
        refine r_iload_n C 2 dX2_unit_125 rfl rfl ?_
        obtain ⟨u41, eu41, h⟩ := bs h
        rcases xbs h with ⟨e42, eq40, h⟩ | ⟨q40, eq40, h⟩
        · refine r_xVx C (As := [vI x2]) (b := a0) (rest := []) (μ1 := e42.2.2) (r := (RX2, TX2, 8)) (ci := 1) rfl eu41 (hF.2.2.2 _ _ _ _ eq40) (lw_V q715 q717 qs13 q121 q718) rfl hdX2_overlap rfl rfl (Nat.le_of_ble_eq_true rfl) ⟨by omega, by omega⟩ dX2_unit_126 ?_
          cases h
          exact r_xoutA C X hK
        · refine r_xV C (As := [vI x2]) (b := a0) (rest := []) (st1 := [vO q40.1]) (v := some (vO q40.1)) (μ1 := q40.2) (r := (RX2, TX2, 8)) (ci := 1) rfl eu41 (hF.2.2.2 _ _ _ _ eq40) (lw_V q715 q717 qs13 q121 q718) rfl hdX2_overlap rfl rfl (Nat.le_of_ble_eq_true rfl) ⟨by omega, by omega⟩ dX2_unit_126 rfl ?_
          cases h
          exact r_xaret C (Or.inl ⟨_, rfl⟩) hK dX2_unit_129
    · have h := it_ h c28
      exact w_X2_unit_b54 (fin := fin) C X hF h hK
noncomputable def s_X2_unit (F : Nat → Nat → Int → Me → Option (Ex ⊕ (Nat × Me))) (a0 : Nat) (μ : Me) : Option (Ex ⊕ (Nat × Me)) :=
  (ck μ 1 a0).bind fun _ =>
  (s_X2_sign a0 μ).bind fun q1 =>
  (gI q1.2 1 a0 5).bind fun v3 =>
  (if w32 q1.1 < w32 48 then
  s_X2_unit_b42 F a0 q1.1 v3 q1.2
  else
  (if w32 57 < w32 q1.1 then
  s_X2_unit_b42 F a0 q1.1 v3 q1.2
  else
  (ck q1.2 1 a0).bind fun _ =>
  xb (s_X2_counts a0 v3 q1.2) (fun e45 => some (.inl e45)) fun q44 =>
  (nO q44 10 1).bind fun q47 =>
  (ck q47.2 1 a0).bind fun _ =>
  xb (s_X2_number a0 999 q47.2) (fun e49 => some (.inl e49)) fun q48 =>
  (s_X12_init q47.1 q48.1 q48.2).bind fun q51 =>
  some (.inr (q47.1, q51))))
theorem w_X2_unit {Z : Zt} {F : Nat → Nat → Int → Me → Option (Ex ⊕ (Nat × Me))} {n : Nat} {fin : Ex ⊕ (Nat × Me)} {w : Ex ⊕ (Nat × Me)} (C : CX Z yX2_unit cX2_unit (some (.object "LetterForms$Sign")) (12 + (n + 1)) 4) (X : XE Z) (hF : HF_rp Z.2.1 Z.2.2.2.2.2.2.2.2.2.2.1 Z.2.2.2.2.2.2.2.2.2.2.2.1 n F) {a0 : Nat} {μ : Me} (h : s_X2_unit F a0 μ = some w) (hK : w = fin) : WL Z (XQ Z (zoA fin) (zmI fin)) μ 0 [(0, vO a0)] [] := by
  unfold s_X2_unit at h
  refine r_aload_n C 0 dX2_unit_0 rfl rfl ?_
  obtain ⟨u2, eu2, h⟩ := bs h
  obtain ⟨q1, eq1, h⟩ := bs h
  refine r_callV C (As := []) (b := a0) (rest := []) (st1 := [vI q1.1]) (v := some (vI q1.1)) (r := (RX2, TX2, 8)) (ci := 1) rfl eu2 (m_X2_sign C.tr eq1) (lw_V q671 q673 qs7 q121 q674) rfl hdX2_sign rfl rfl (Nat.le_of_ble_eq_true rfl) ⟨by omega, by omega⟩ dX2_unit_1 rfl ?_
  refine r_istore_n C [(1, vI q1.1), (0, vO a0)] dX2_unit_4 rfl (by decide) rfl ?_
  refine r_aload_n C 1 dX2_unit_5 rfl rfl ?_
  obtain ⟨v3, ev3, h⟩ := bs h
  refine r_getI C (c := 1) (r := (RX2, TX2, 8)) rfl 5 (by decide) rfl ev3 q255 dX2_unit_6 ?_
  refine r_istore_n C [(2, vI v3), (1, vI q1.1), (0, vO a0)] dX2_unit_9 rfl (by decide) rfl ?_
  refine r_iload_n C 1 dX2_unit_10 rfl rfl ?_
  refine r_bipush C dX2_unit_11 (by decide) ?_
  refine r_icmp_lt C dX2_unit_13 (tgt := 42) (by decide) (fun c4 => ?_) (fun c4 => ?_)
  · have h := it_ h c4
    refine r_sub [2, 1, 0] rfl ?_
    exact w_X2_unit_b42 (fin := fin) C X hF h hK
  · have h := ie_ h c4
    refine r_iload_n C 1 dX2_unit_16 rfl rfl ?_
    refine r_bipush C dX2_unit_17 (by decide) ?_
    refine r_icmp_gt C dX2_unit_19 (tgt := 42) (by decide) (fun c43 => ?_) (fun c43 => ?_)
    · have h := it_ h c43
      refine r_sub [2, 1, 0] rfl ?_
      exact w_X2_unit_b42 (fin := fin) C X hF h hK
    · have h := ie_ h c43
      refine r_aload_n C 2 dX2_unit_22 rfl rfl ?_
      refine r_iload_n C 0 dX2_unit_23 rfl rfl ?_
      obtain ⟨u46, eu46, h⟩ := bs h
      rcases xbs h with ⟨e45, eq44, h⟩ | ⟨q44, eq44, h⟩
      · refine r_xVx C (As := [vI v3]) (b := a0) (rest := []) (μ1 := e45.2.2) (r := (RX2, TX2, 8)) (ci := 1) rfl eu46 (m_X2_counts C.tr eq44) (lw_V q675 q677 qs8 q121 q678) rfl hdX2_counts rfl rfl (Nat.le_of_ble_eq_true rfl) ⟨by omega, by omega⟩ dX2_unit_24 ?_
        cases h
        exact r_xoutA C X hK
      · refine r_xV C (As := [vI v3]) (b := a0) (rest := []) (st1 := []) (v := none) (μ1 := q44) (r := (RX2, TX2, 8)) (ci := 1) rfl eu46 (m_X2_counts C.tr eq44) (lw_V q675 q677 qs8 q121 q678) rfl hdX2_counts rfl rfl (Nat.le_of_ble_eq_true rfl) ⟨by omega, by omega⟩ dX2_unit_24 rfl ?_
        obtain ⟨q47, eq47, h⟩ := bs h
        refine r_new C (c := 10) (r := (RX12, TX12, 1)) rfl eq47 q683 q684 q139 dX2_unit_27 ?_
        refine r_dup C dX2_unit_30 rfl ?_
        refine r_aload_n C 2 dX2_unit_31 rfl rfl ?_
        refine r_sipush C dX2_unit_32 (by decide) ?_
        obtain ⟨u50, eu50, h⟩ := bs h
        rcases xbs h with ⟨e49, eq48, h⟩ | ⟨q48, eq48, h⟩
        · refine r_xVx C (As := [vI 999]) (b := a0) (rest := [vO q47.1, vO q47.1]) (μ1 := e49.2.2) (r := (RX2, TX2, 8)) (ci := 1) rfl eu50 (m_X2_number C.tr eq48) (lw_V q685 q687 qs10 q121 q688) rfl hdX2_number rfl rfl (Nat.le_of_ble_eq_true rfl) ⟨by omega, by omega⟩ dX2_unit_35 ?_
          cases h
          exact r_xoutA C X hK
        · refine r_xV C (As := [vI 999]) (b := a0) (rest := [vO q47.1, vO q47.1]) (st1 := [vI q48.1, vO q47.1, vO q47.1]) (v := some (vI q48.1)) (μ1 := q48.2) (r := (RX2, TX2, 8)) (ci := 1) rfl eu50 (m_X2_number C.tr eq48) (lw_V q685 q687 qs10 q121 q688) rfl hdX2_number rfl rfl (Nat.le_of_ble_eq_true rfl) ⟨by omega, by omega⟩ dX2_unit_35 rfl ?_
          obtain ⟨q51, eq51, h⟩ := bs h
          refine r_callI C (As := [vI q48.1]) (b := q47.1) (rest := [vO q47.1]) (st1 := [vO q47.1]) (v := none) (m_X12_init C.tr eq51) q689 q691 q139 q690 rfl hdX12_init rfl rfl (Nat.le_of_ble_eq_true rfl) ⟨by omega, by omega⟩ dX2_unit_38 rfl ?_
          cases h
          exact r_xaret C (Or.inl ⟨_, rfl⟩) hK dX2_unit_41
noncomputable def s_X2_overlap (F : Nat → Nat → Int → Me → Option (Ex ⊕ (Nat × Me))) (a0 : Nat) (x1 : Int) (μ : Me) : Option (Ex ⊕ (Nat × Me)) :=
  (ck μ 1 a0).bind fun _ =>
  xb (s_X2_counts a0 x1 μ) (fun e2 => some (.inl e2)) fun q1 =>
  (ck q1 1 a0).bind fun _ =>
  xb (s_X2_enters a0 x1 q1) (fun e5 => some (.inl e5)) fun q4 =>
  (gI q4 1 a0 5).bind fun v7 =>
  (pI q4 1 a0 5 (v7 + 1)).bind fun m8 =>
  (ck m8 1 a0).bind fun _ =>
  xb (F 0 a0 0 m8) (fun e11 => some (.inl e11)) fun q9 =>
  (ck q9.2 1 a0).bind fun _ =>
  xb (s_X2_expect a0 44 q9.2) (fun e13 => some (.inl e13)) fun q12 =>
  (ck q12 1 a0).bind fun _ =>
  xb (F 0 a0 0 q12) (fun e17 => some (.inl e17)) fun q15 =>
  (ck q15.2 1 a0).bind fun _ =>
  xb (s_X2_expect a0 93 q15.2) (fun e19 => some (.inl e19)) fun q18 =>
  (gI q18 1 a0 6).bind fun v21 =>
  (pI q18 1 a0 6 (v21 - 1)).bind fun m22 =>
  (nO m22 12 3).bind fun q23 =>
  (ck q23.2 1 a0).bind fun _ =>
  xb (s_X2_number a0 8 q23.2) (fun e25 => some (.inl e25)) fun q24 =>
  (s_X15_init q23.1 q9.1 q15.1 q24.1 q24.2).bind fun q27 =>
  some (.inr (q23.1, q27))
theorem w_X2_overlap {Z : Zt} {F : Nat → Nat → Int → Me → Option (Ex ⊕ (Nat × Me))} {n : Nat} {fin : Ex ⊕ (Nat × Me)} {w : Ex ⊕ (Nat × Me)} (C : CX Z yX2_overlap cX2_overlap (some (.object "LetterForms$Sign")) (12 + (n + 1)) 4) (X : XE Z) (hF : HF_rp Z.2.1 Z.2.2.2.2.2.2.2.2.2.2.1 Z.2.2.2.2.2.2.2.2.2.2.2.1 n F) {a0 : Nat} {x1 : Int} {μ : Me} (h : s_X2_overlap F a0 x1 μ = some w) (hK : w = fin) : WL Z (XQ Z (zoA fin) (zmI fin)) μ 0 [(0, vO a0), (1, vI x1)] [] := by
  unfold s_X2_overlap at h
  refine r_aload_n C 0 dX2_overlap_0 rfl rfl ?_
  refine r_iload_n C 1 dX2_overlap_1 rfl rfl ?_
  obtain ⟨u3, eu3, h⟩ := bs h
  rcases xbs h with ⟨e2, eq1, h⟩ | ⟨q1, eq1, h⟩
  · refine r_xVx C (As := [vI x1]) (b := a0) (rest := []) (μ1 := e2.2.2) (r := (RX2, TX2, 8)) (ci := 1) rfl eu3 (m_X2_counts C.tr eq1) (lw_V q675 q677 qs8 q121 q678) rfl hdX2_counts rfl rfl (Nat.le_of_ble_eq_true rfl) ⟨by omega, by omega⟩ dX2_overlap_2 ?_
    cases h
    exact r_xoutA C X hK
  · refine r_xV C (As := [vI x1]) (b := a0) (rest := []) (st1 := []) (v := none) (μ1 := q1) (r := (RX2, TX2, 8)) (ci := 1) rfl eu3 (m_X2_counts C.tr eq1) (lw_V q675 q677 qs8 q121 q678) rfl hdX2_counts rfl rfl (Nat.le_of_ble_eq_true rfl) ⟨by omega, by omega⟩ dX2_overlap_2 rfl ?_
    refine r_aload_n C 0 dX2_overlap_5 rfl rfl ?_
    refine r_iload_n C 1 dX2_overlap_6 rfl rfl ?_
    obtain ⟨u6, eu6, h⟩ := bs h
    rcases xbs h with ⟨e5, eq4, h⟩ | ⟨q4, eq4, h⟩
    · refine r_xVx C (As := [vI x1]) (b := a0) (rest := []) (μ1 := e5.2.2) (r := (RX2, TX2, 8)) (ci := 1) rfl eu6 (m_X2_enters C.tr eq4) (lw_V q697 q699 qs11 q121 q700) rfl hdX2_enters rfl rfl (Nat.le_of_ble_eq_true rfl) ⟨by omega, by omega⟩ dX2_overlap_7 ?_
      cases h
      exact r_xoutA C X hK
    · refine r_xV C (As := [vI x1]) (b := a0) (rest := []) (st1 := []) (v := none) (μ1 := q4) (r := (RX2, TX2, 8)) (ci := 1) rfl eu6 (m_X2_enters C.tr eq4) (lw_V q697 q699 qs11 q121 q700) rfl hdX2_enters rfl rfl (Nat.le_of_ble_eq_true rfl) ⟨by omega, by omega⟩ dX2_overlap_7 rfl ?_
      refine r_aload_n C 0 dX2_overlap_10 rfl rfl ?_
      refine r_dup C dX2_overlap_11 rfl ?_
      obtain ⟨v7, ev7, h⟩ := bs h
      refine r_getI C (c := 1) (r := (RX2, TX2, 8)) rfl 5 (by decide) rfl ev7 q255 dX2_overlap_12 ?_
      refine r_iconst C dX2_overlap_15 ?_
      refine r_iadd C dX2_overlap_16 ?_
      obtain ⟨m8, em8, h⟩ := bs h
      refine r_putI C (c := 1) (r := (RX2, TX2, 8)) rfl 5 (by decide) rfl ⟨rfl, rfl⟩ rfl em8 q255 dX2_overlap_17 ?_
      refine r_aload_n C 0 dX2_overlap_20 rfl rfl ?_
      obtain ⟨u10, eu10, h⟩ := bs h
      rcases xbs h with ⟨e11, eq9, h⟩ | ⟨q9, eq9, h⟩
      · refine r_xVx C (As := []) (b := a0) (rest := []) (μ1 := e11.2.2) (r := (RX2, TX2, 8)) (ci := 1) rfl eu10 (hF.1 _ _ _ eq9) (lw_V q659 q661 qs4 q121 q662) rfl hdX2_sum rfl rfl (Nat.le_of_ble_eq_true rfl) ⟨by omega, by omega⟩ dX2_overlap_21 ?_
        cases h
        exact r_xoutA C X hK
      · refine r_xV C (As := []) (b := a0) (rest := []) (st1 := [vO q9.1]) (v := some (vO q9.1)) (μ1 := q9.2) (r := (RX2, TX2, 8)) (ci := 1) rfl eu10 (hF.1 _ _ _ eq9) (lw_V q659 q661 qs4 q121 q662) rfl hdX2_sum rfl rfl (Nat.le_of_ble_eq_true rfl) ⟨by omega, by omega⟩ dX2_overlap_21 rfl ?_
        refine r_astore_n C [(2, vO q9.1), (0, vO a0), (1, vI x1)] dX2_overlap_24 rfl (by decide) rfl ?_
        refine r_aload_n C 1 dX2_overlap_25 rfl rfl ?_
        refine r_bipush C dX2_overlap_26 (by decide) ?_
        obtain ⟨u14, eu14, h⟩ := bs h
        rcases xbs h with ⟨e13, eq12, h⟩ | ⟨q12, eq12, h⟩
        · refine r_xVx C (As := [vI 44]) (b := a0) (rest := []) (μ1 := e13.2.2) (r := (RX2, TX2, 8)) (ci := 1) rfl eu14 (m_X2_expect C.tr eq12) (lw_V q711 q713 qs12 q121 q714) rfl hdX2_expect rfl rfl (Nat.le_of_ble_eq_true rfl) ⟨by omega, by omega⟩ dX2_overlap_28 ?_
          cases h
          exact r_xoutA C X hK
        · refine r_xV C (As := [vI 44]) (b := a0) (rest := []) (st1 := []) (v := none) (μ1 := q12) (r := (RX2, TX2, 8)) (ci := 1) rfl eu14 (m_X2_expect C.tr eq12) (lw_V q711 q713 qs12 q121 q714) rfl hdX2_expect rfl rfl (Nat.le_of_ble_eq_true rfl) ⟨by omega, by omega⟩ dX2_overlap_28 rfl ?_
          refine r_aload_n C 1 dX2_overlap_31 rfl rfl ?_
          obtain ⟨u16, eu16, h⟩ := bs h
          rcases xbs h with ⟨e17, eq15, h⟩ | ⟨q15, eq15, h⟩
          · refine r_xVx C (As := []) (b := a0) (rest := []) (μ1 := e17.2.2) (r := (RX2, TX2, 8)) (ci := 1) rfl eu16 (hF.1 _ _ _ eq15) (lw_V q659 q661 qs4 q121 q662) rfl hdX2_sum rfl rfl (Nat.le_of_ble_eq_true rfl) ⟨by omega, by omega⟩ dX2_overlap_32 ?_
            cases h
            exact r_xoutA C X hK
          · refine r_xV C (As := []) (b := a0) (rest := []) (st1 := [vO q15.1]) (v := some (vO q15.1)) (μ1 := q15.2) (r := (RX2, TX2, 8)) (ci := 1) rfl eu16 (hF.1 _ _ _ eq15) (lw_V q659 q661 qs4 q121 q662) rfl hdX2_sum rfl rfl (Nat.le_of_ble_eq_true rfl) ⟨by omega, by omega⟩ dX2_overlap_32 rfl ?_
            refine r_astore_n C [(3, vO q15.1), (2, vO q9.1), (0, vO a0), (1, vI x1)] dX2_overlap_35 rfl (by decide) rfl ?_
            refine r_aload_n C 2 dX2_overlap_36 rfl rfl ?_
            refine r_bipush C dX2_overlap_37 (by decide) ?_
            obtain ⟨u20, eu20, h⟩ := bs h
            rcases xbs h with ⟨e19, eq18, h⟩ | ⟨q18, eq18, h⟩
            · refine r_xVx C (As := [vI 93]) (b := a0) (rest := []) (μ1 := e19.2.2) (r := (RX2, TX2, 8)) (ci := 1) rfl eu20 (m_X2_expect C.tr eq18) (lw_V q711 q713 qs12 q121 q714) rfl hdX2_expect rfl rfl (Nat.le_of_ble_eq_true rfl) ⟨by omega, by omega⟩ dX2_overlap_39 ?_
              cases h
              exact r_xoutA C X hK
            · refine r_xV C (As := [vI 93]) (b := a0) (rest := []) (st1 := []) (v := none) (μ1 := q18) (r := (RX2, TX2, 8)) (ci := 1) rfl eu20 (m_X2_expect C.tr eq18) (lw_V q711 q713 qs12 q121 q714) rfl hdX2_expect rfl rfl (Nat.le_of_ble_eq_true rfl) ⟨by omega, by omega⟩ dX2_overlap_39 rfl ?_
              refine r_aload_n C 2 dX2_overlap_42 rfl rfl ?_
              refine r_dup C dX2_overlap_43 rfl ?_
              obtain ⟨v21, ev21, h⟩ := bs h
              refine r_getI C (c := 1) (r := (RX2, TX2, 8)) rfl 6 (by decide) rfl ev21 q256 dX2_overlap_44 ?_
              refine r_iconst C dX2_overlap_47 ?_
              refine r_isub C dX2_overlap_48 ?_
              obtain ⟨m22, em22, h⟩ := bs h
              refine r_putI C (c := 1) (r := (RX2, TX2, 8)) rfl 6 (by decide) rfl ⟨rfl, rfl⟩ rfl em22 q256 dX2_overlap_49 ?_
              obtain ⟨q23, eq23, h⟩ := bs h
              refine r_new C (c := 12) (r := (RX15, TX15, 3)) rfl eq23 q719 q720 q142 dX2_overlap_52 ?_
              refine r_dup C dX2_overlap_55 rfl ?_
              refine r_aload_n C 1 dX2_overlap_56 rfl rfl ?_
              refine r_aload_n C 0 dX2_overlap_57 rfl rfl ?_
              refine r_aload_n C 2 dX2_overlap_58 rfl rfl ?_
              refine r_bipush C dX2_overlap_59 (by decide) ?_
              obtain ⟨u26, eu26, h⟩ := bs h
              rcases xbs h with ⟨e25, eq24, h⟩ | ⟨q24, eq24, h⟩
              · refine r_xVx C (As := [vI 8]) (b := a0) (rest := [vO q15.1, vO q9.1, vO q23.1, vO q23.1]) (μ1 := e25.2.2) (r := (RX2, TX2, 8)) (ci := 1) rfl eu26 (m_X2_number C.tr eq24) (lw_V q685 q687 qs10 q121 q688) rfl hdX2_number rfl rfl (Nat.le_of_ble_eq_true rfl) ⟨by omega, by omega⟩ dX2_overlap_61 ?_
                cases h
                exact r_xoutA C X hK
              · refine r_xV C (As := [vI 8]) (b := a0) (rest := [vO q15.1, vO q9.1, vO q23.1, vO q23.1]) (st1 := [vI q24.1, vO q15.1, vO q9.1, vO q23.1, vO q23.1]) (v := some (vI q24.1)) (μ1 := q24.2) (r := (RX2, TX2, 8)) (ci := 1) rfl eu26 (m_X2_number C.tr eq24) (lw_V q685 q687 qs10 q121 q688) rfl hdX2_number rfl rfl (Nat.le_of_ble_eq_true rfl) ⟨by omega, by omega⟩ dX2_overlap_61 rfl ?_
                obtain ⟨q27, eq27, h⟩ := bs h
                refine r_callI C (As := [vO q9.1, vO q15.1, vI q24.1]) (b := q23.1) (rest := [vO q23.1]) (st1 := [vO q23.1]) (v := none) (m_X15_init C.tr eq27) q721 q723 q142 q722 rfl hdX15_init rfl rfl (Nat.le_of_ble_eq_true rfl) ⟨by omega, by omega⟩ dX2_overlap_64 rfl ?_
                cases h
                exact r_xaret C (Or.inl ⟨_, rfl⟩) hK dX2_overlap_67
noncomputable def s_rp : Nat → Nat → Nat → Int → Me → Option (Ex ⊕ (Nat × Me))
  | 0 => fun _ _ _ _ => none
  | n + 1 => fun t a0 z0 μ => if t = 0 then s_X2_sum (s_rp n) a0 μ else if t = 1 then s_X2_term (s_rp n) a0 μ else if t = 2 then s_X2_unit (s_rp n) a0 μ else if t = 3 then s_X2_overlap (s_rp n) a0 z0 μ else none
theorem m_rp {l : Launch} {D : va_G} {b0 : Nat} (hl : l.stackTraces = false) : ∀ n : Nat, HF_rp l D b0 n (s_rp n) := by
  intro n
  induction n with
  | zero => exact ⟨(fun a0  μ w h => by cases h), (fun a0  μ w h => by cases h), (fun a0  μ w h => by cases h), (fun a0 z0 μ w h => by cases h)⟩
  | succ n ih =>
    exact ⟨(fun a0  μ w h => XN.of hl (by decide +kernel) (Nat.le_of_ble_eq_true rfl) (fun Z C X e1 e2 => w_X2_sum C X (by rw [e1, e2]; exact ih) h rfl)),
      (fun a0  μ w h => XN.of hl (by decide +kernel) (Nat.le_of_ble_eq_true rfl) (fun Z C X e1 e2 => w_X2_term C X (by rw [e1, e2]; exact ih) h rfl)),
      (fun a0  μ w h => XN.of hl (by decide +kernel) (Nat.le_of_ble_eq_true rfl) (fun Z C X e1 e2 => w_X2_unit C X (by rw [e1, e2]; exact ih) h rfl)),
      (fun a0 z0 μ w h => XN.of hl (by decide +kernel) (Nat.le_of_ble_eq_true rfl) (fun Z C X e1 e2 => w_X2_overlap C X (by rw [e1, e2]; exact ih) h rfl))⟩
noncomputable def s_X2_text (a0 : Nat) (x1 : Int) (μ : Me) : Option (Ex ⊕ (Nat × Me)) :=
  (pI μ 1 a0 4 x1).bind fun m1 =>
  (pI m1 1 a0 5 0).bind fun m2 =>
  (pI m2 1 a0 6 0).bind fun m3 =>
  (pI m3 1 a0 7 0).bind fun m4 =>
  (ck m4 1 a0).bind fun _ =>
  xb (s_rp 40 0 a0 0 m4) (fun e6 => some (.inl e6)) fun q5 =>
  (ck q5.2 1 a0).bind fun _ =>
  (s_X2_sign a0 q5.2).bind fun q8 =>
  (if w32 q8.1 = w32 (-1) then
  some (.inr (q5.1, q8.2))
  else
  (gI q8.2 1 a0 5).bind fun v11 =>
  (ck q8.2 1 a0).bind fun _ =>
  xb (s_X2_fail a0 v11 q8.2) (fun e13 => some (.inl e13)) fun q12 =>
  some (.inr (q5.1, q12)))
theorem w_X2_text {Z : Zt} {fin : Ex ⊕ (Nat × Me)} {w : Ex ⊕ (Nat × Me)} (C : CX Z yX2_text cX2_text (some (.object "LetterForms$Sign")) 53 3) (X : XE Z) {a0 : Nat} {x1 : Int} {μ : Me} (h : s_X2_text a0 x1 μ = some w) (hK : w = fin) : WL Z (XQ Z (zoA fin) (zmI fin)) μ 0 [(0, vO a0), (1, vI x1)] [] := by
  unfold s_X2_text at h
  refine r_aload_n C 0 dX2_text_0 rfl rfl ?_
  refine r_iload_n C 1 dX2_text_1 rfl rfl ?_
  obtain ⟨m1, em1, h⟩ := bs h
  refine r_putI C (c := 1) (r := (RX2, TX2, 8)) rfl 4 (by decide) rfl ⟨rfl, rfl⟩ rfl em1 q254 dX2_text_2 ?_
  refine r_aload_n C 0 dX2_text_5 rfl rfl ?_
  refine r_iconst C dX2_text_6 ?_
  obtain ⟨m2, em2, h⟩ := bs h
  refine r_putI C (c := 1) (r := (RX2, TX2, 8)) rfl 5 (by decide) rfl ⟨rfl, rfl⟩ rfl em2 q255 dX2_text_7 ?_
  refine r_aload_n C 0 dX2_text_10 rfl rfl ?_
  refine r_iconst C dX2_text_11 ?_
  obtain ⟨m3, em3, h⟩ := bs h
  refine r_putI C (c := 1) (r := (RX2, TX2, 8)) rfl 6 (by decide) rfl ⟨rfl, rfl⟩ rfl em3 q256 dX2_text_12 ?_
  refine r_aload_n C 0 dX2_text_15 rfl rfl ?_
  refine r_iconst C dX2_text_16 ?_
  obtain ⟨m4, em4, h⟩ := bs h
  refine r_putI C (c := 1) (r := (RX2, TX2, 8)) rfl 7 (by decide) rfl ⟨rfl, rfl⟩ rfl em4 q257 dX2_text_17 ?_
  refine r_aload_n C 0 dX2_text_20 rfl rfl ?_
  obtain ⟨u7, eu7, h⟩ := bs h
  rcases xbs h with ⟨e6, eq5, h⟩ | ⟨q5, eq5, h⟩
  · refine r_xVx C (As := []) (b := a0) (rest := []) (μ1 := e6.2.2) (r := (RX2, TX2, 8)) (ci := 1) rfl eu7 ((m_rp C.tr 40).1 _ _ _ eq5) (lw_V q659 q661 qs4 q121 q662) rfl hdX2_sum rfl rfl (Nat.le_of_ble_eq_true rfl) ⟨by decide, by decide⟩ dX2_text_21 ?_
    cases h
    exact r_xoutA C X hK
  · refine r_xV C (As := []) (b := a0) (rest := []) (st1 := [vO q5.1]) (v := some (vO q5.1)) (μ1 := q5.2) (r := (RX2, TX2, 8)) (ci := 1) rfl eu7 ((m_rp C.tr 40).1 _ _ _ eq5) (lw_V q659 q661 qs4 q121 q662) rfl hdX2_sum rfl rfl (Nat.le_of_ble_eq_true rfl) ⟨by decide, by decide⟩ dX2_text_21 rfl ?_
    refine r_astore_n C [(2, vO q5.1), (0, vO a0), (1, vI x1)] dX2_text_24 rfl (by decide) rfl ?_
    refine r_aload_n C 1 dX2_text_25 rfl rfl ?_
    obtain ⟨u9, eu9, h⟩ := bs h
    obtain ⟨q8, eq8, h⟩ := bs h
    refine r_callV C (As := []) (b := a0) (rest := []) (st1 := [vI q8.1]) (v := some (vI q8.1)) (r := (RX2, TX2, 8)) (ci := 1) rfl eu9 (m_X2_sign C.tr eq8) (lw_V q671 q673 qs7 q121 q674) rfl hdX2_sign rfl rfl (Nat.le_of_ble_eq_true rfl) ⟨by decide, by decide⟩ dX2_text_26 rfl ?_
    refine r_iconst C dX2_text_29 ?_
    refine r_icmp_eq C dX2_text_30 (tgt := 41) (by decide) (fun c10 => ?_) (fun c10 => ?_)
    · have h := it_ h c10
      refine r_aload_n C 0 dX2_text_41 rfl rfl ?_
      cases h
      exact r_xaret C (Or.inl ⟨_, rfl⟩) hK dX2_text_42
    · have h := ie_ h c10
      refine r_aload_n C 1 dX2_text_33 rfl rfl ?_
      refine r_aload_n C 1 dX2_text_34 rfl rfl ?_
      obtain ⟨v11, ev11, h⟩ := bs h
      refine r_getI C (c := 1) (r := (RX2, TX2, 8)) rfl 5 (by decide) rfl ev11 q255 dX2_text_35 ?_
      obtain ⟨u14, eu14, h⟩ := bs h
      rcases xbs h with ⟨e13, eq12, h⟩ | ⟨q12, eq12, h⟩
      · refine r_xVx C (As := [vI v11]) (b := a0) (rest := []) (μ1 := e13.2.2) (r := (RX2, TX2, 8)) (ci := 1) rfl eu14 (m_X2_fail C.tr eq12) (lw_V q679 q681 qs9 q121 q682) rfl hdX2_fail rfl rfl (Nat.le_of_ble_eq_true rfl) ⟨by decide, by decide⟩ dX2_text_38 ?_
        cases h
        exact r_xoutA C X hK
      · refine r_xV C (As := [vI v11]) (b := a0) (rest := []) (st1 := []) (v := none) (μ1 := q12) (r := (RX2, TX2, 8)) (ci := 1) rfl eu14 (m_X2_fail C.tr eq12) (lw_V q679 q681 qs9 q121 q682) rfl hdX2_fail rfl rfl (Nat.le_of_ble_eq_true rfl) ⟨by decide, by decide⟩ dX2_text_38 rfl ?_
        refine r_aload_n C 0 dX2_text_41 rfl rfl ?_
        cases h
        exact r_xaret C (Or.inl ⟨_, rfl⟩) hK dX2_text_42
theorem hdX2_text : zhd yX2_text 1 := by decide +kernel
theorem m_X2_text {l : Launch} {D : va_G} {b0 : Nat} (hl : l.stackTraces = false) {a0 : Nat} {x1 : Int} {μ : Me} {w : Ex ⊕ (Nat × Me)} (h : s_X2_text a0 x1 μ = some w) : XN l D b0 yX2_text (ws_ yX2_text cX2_text 3 (some (.object "LetterForms$Sign"))) 53 [vO a0, vI x1] μ (zoA w) (zmI w) :=
  XN.of hl (by decide +kernel) (Nat.le_of_ble_eq_true rfl) (fun Z C X _ _ => w_X2_text C X h rfl)
theorem at_X1_signs_31 : ∀ w ∈ vx_at0 "LetterForms" 84 (exn 0) nm9, w ∈ lw_tbl ∧ (goodWord w || zNest w) = true := lw_pl _ [124, 197, 206, 214, 217, 219, 198, 199, 156, 157, 200, 205, 215, 236, 187, 237, 189, 238, 191, 201, 203, 193, 570, 571, 572, 573, 178, 573, 574, 575, 576, 180, 576, 577, 578, 198, 182, 569, 561, 562, 563, 209, 564, 565, 566, 567, 196, 195, 568] (by decide +kernel) (by decide +kernel)
noncomputable def s_X1_signs_b56 (a0 : Nat) (a2 : Nat) (t0 : Int) (μ : Me) : Option (Ex ⊕ (Int × Me)) :=
  xb (s_X1_mayBe t0 μ) (fun e16 => some (.inl e16)) fun q15 =>
  (gR q15 0 a0 2).bind fun v17 =>
  (gR q15 7 v17 2).bind fun v18 =>
  (gR q15 0 a0 2).bind fun v19 =>
  (gI q15 7 v19 7).bind fun v20 =>
  (uS q15 v18 v20 a2).bind fun m21 =>
  (gR m21 0 a0 2).bind fun v22 =>
  (gI m21 7 v22 7).bind fun v23 =>
  (pI m21 7 v22 7 (v23 + 1)).bind fun m24 =>
  (gR m24 0 a0 2).bind fun v25 =>
  (gI m24 7 v25 7).bind fun v26 =>
  some (.inr ((v26 - 1), m24))
theorem w_X1_signs_b56 {Z : Zt} {fin : Ex ⊕ (Int × Me)} {w : (Ex ⊕ (Int × Me))} (C : CX Z yX1_signs cX1_signs (some .int) 54 4) (X : XT Z [((10 : Nat), (19 : Nat), (22 : Nat), (187 : Nat))]) {a0 : Nat} {a2 : Nat} {t0 : Int} {μ : Me} (h : s_X1_signs_b56 a0 a2 t0 μ = some w) (hK : (fun r : Ex ⊕ (Int × Me) => r = fin) w) : WL Z (XQ Z (zoI fin) (zmI fin)) μ 56 [(0, vO a0), (2, vO a2)] [vI t0] := by
  unfold s_X1_signs_b56 at h
  rcases xbs h with ⟨e16, eq15, h⟩ | ⟨q15, eq15, h⟩
  · refine r_xSx C (As := [vI t0]) (rest := []) (μ1 := e16.2.2) (m_X1_mayBe C.tr eq15) (lw_S q609 q610 q120 q611) hdX1_mayBe rfl rfl (Nat.le_of_ble_eq_true rfl) ⟨by decide, by decide⟩ dX1_signs_56 ?_
    cases h
    subst hK; exact r_xout C (XT.out X (pc := 56) (by decide))
  · refine r_xS C (As := [vI t0]) (rest := []) (st1 := []) (v := none) (μ1 := q15) (m_X1_mayBe C.tr eq15) (lw_S q609 q610 q120 q611) hdX1_mayBe rfl rfl (Nat.le_of_ble_eq_true rfl) ⟨by decide, by decide⟩ dX1_signs_56 rfl ?_
    refine r_aload_n C 0 dX1_signs_59 rfl rfl ?_
    obtain ⟨v17, ev17, h⟩ := bs h
    refine r_getR C (c := 0) (r := (RX1, TX1, 19)) rfl 2 (by decide) rfl ev17 q426 dX1_signs_60 ?_
    obtain ⟨v18, ev18, h⟩ := bs h
    refine r_getRN C (c := 7) (r := (RX9, TX9, 10)) rfl 2 (by decide) rfl ev18 (lw_n q382 rfl) dX1_signs_63 ?_
    refine r_aload_n C 0 dX1_signs_66 rfl rfl ?_
    obtain ⟨v19, ev19, h⟩ := bs h
    refine r_getR C (c := 0) (r := (RX1, TX1, 19)) rfl 2 (by decide) rfl ev19 q426 dX1_signs_67 ?_
    obtain ⟨v20, ev20, h⟩ := bs h
    refine r_getIN C (c := 7) (r := (RX9, TX9, 10)) rfl 7 (by decide) rfl ev20 (lw_n q392 rfl) dX1_signs_70 ?_
    refine r_aload_n C 1 dX1_signs_73 rfl rfl ?_
    obtain ⟨m21, em21, h⟩ := bs h
    refine r_aastS C em21 dX1_signs_74 ?_
    refine r_aload_n C 0 dX1_signs_75 rfl rfl ?_
    obtain ⟨v22, ev22, h⟩ := bs h
    refine r_getR C (c := 0) (r := (RX1, TX1, 19)) rfl 2 (by decide) rfl ev22 q426 dX1_signs_76 ?_
    refine r_dup C dX1_signs_79 rfl ?_
    obtain ⟨v23, ev23, h⟩ := bs h
    refine r_getIN C (c := 7) (r := (RX9, TX9, 10)) rfl 7 (by decide) rfl ev23 (lw_n q392 rfl) dX1_signs_80 ?_
    refine r_iconst C dX1_signs_83 ?_
    refine r_iadd C dX1_signs_84 ?_
    obtain ⟨m24, em24, h⟩ := bs h
    refine r_putIN C (c := 7) (r := (RX9, TX9, 10)) rfl 7 (by decide) rfl ⟨rfl, rfl⟩ rfl em24 (lw_n q392 rfl) dX1_signs_85 ?_
    refine r_aload_n C 0 dX1_signs_88 rfl rfl ?_
    obtain ⟨v25, ev25, h⟩ := bs h
    refine r_getR C (c := 0) (r := (RX1, TX1, 19)) rfl 2 (by decide) rfl ev25 q426 dX1_signs_89 ?_
    obtain ⟨v26, ev26, h⟩ := bs h
    refine r_getIN C (c := 7) (r := (RX9, TX9, 10)) rfl 7 (by decide) rfl ev26 (lw_n q392 rfl) dX1_signs_92 ?_
    refine r_iconst C dX1_signs_95 ?_
    refine r_isub C dX1_signs_96 ?_
    cases h
    exact r_xiret C hK dX1_signs_97
noncomputable def s_X1_signs (a0 : Nat) (μ : Me) : Option (Ex ⊕ (Int × Me)) :=
  (ck μ 0 a0).bind fun _ =>
  (s_X1_took a0 μ).bind fun q1 =>
  (pI q1.2 0 a0 16 (-1)).bind fun m3 =>
  (gR m3 0 a0 0).bind fun v4 =>
  (ck m3 1 v4).bind fun _ =>
  xb (s_X2_text v4 q1.1 m3) (fun e6 => (if e6.1 = 5 then
  (gI e6.2.2 3 e6.2.1 6).bind fun v7 =>
  (pI e6.2.2 0 a0 16 v7).bind fun m8 =>
  (tE m8 0).bind fun e9 =>
  some (.inl e9)
  else
  none)) fun q5 =>
  (gR q5.2 0 a0 2).bind fun v12 =>
  (gI q5.2 7 v12 7).bind fun v13 =>
  (if w32 8 ≤ w32 v13 then
  s_X1_signs_b56 a0 q5.1 0 q5.2
  else
  s_X1_signs_b56 a0 q5.1 1 q5.2)
theorem w_X1_signs {Z : Zt} {fin : Ex ⊕ (Int × Me)} {w : Ex ⊕ (Int × Me)} (C : CX Z yX1_signs cX1_signs (some .int) 54 4) (X : XT Z [((10 : Nat), (19 : Nat), (22 : Nat), (187 : Nat))]) {a0 : Nat} {μ : Me} (h : s_X1_signs a0 μ = some w) (hK : w = fin) : WL Z (XQ Z (zoI fin) (zmI fin)) μ 0 [(0, vO a0)] [] := by
  unfold s_X1_signs at h
  refine r_aload_n C 0 dX1_signs_0 rfl rfl ?_
  obtain ⟨u2, eu2, h⟩ := bs h
  obtain ⟨q1, eq1, h⟩ := bs h
  refine r_callV C (As := []) (b := a0) (rest := []) (st1 := [vI q1.1]) (v := some (vI q1.1)) (r := (RX1, TX1, 19)) (ci := 0) rfl eu2 (m_X1_took C.tr eq1) (lw_V q604 q606 qs2 q120 q607) rfl hdX1_took rfl rfl (Nat.le_of_ble_eq_true rfl) ⟨by decide, by decide⟩ dX1_signs_1 rfl ?_
  refine r_istore_n C [(1, vI q1.1), (0, vO a0)] dX1_signs_4 rfl (by decide) rfl ?_
  refine r_aload_n C 1 dX1_signs_5 rfl rfl ?_
  refine r_iconst C dX1_signs_6 ?_
  obtain ⟨m3, em3, h⟩ := bs h
  refine r_putI C (c := 0) (r := (RX1, TX1, 19)) rfl 16 (by decide) rfl ⟨rfl, rfl⟩ rfl em3 q444 dX1_signs_7 ?_
  refine r_aload_n C 1 dX1_signs_10 rfl rfl ?_
  obtain ⟨v4, ev4, h⟩ := bs h
  refine r_getR C (c := 0) (r := (RX1, TX1, 19)) rfl 0 (by decide) rfl ev4 q421 dX1_signs_11 ?_
  refine r_iload_n C 0 dX1_signs_14 rfl rfl ?_
  obtain ⟨u11, eu11, h⟩ := bs h
  rcases xbs h with ⟨e6, eq5, h⟩ | ⟨q5, eq5, h⟩
  · refine r_xVx C (As := [vI q1.1]) (b := v4) (rest := []) (μ1 := e6.2.2) (r := (RX2, TX2, 8)) (ci := 1) rfl eu11 (m_X2_text C.tr eq5) (lw_V q655 q656 q657 q121 q658) rfl hdX2_text rfl rfl (Nat.le_of_ble_eq_true rfl) ⟨by decide, by decide⟩ dX1_signs_15 ?_
    by_cases c10 : e6.1 = 5
    · have h := it_ h c10
      rw [c10]
      refine r_catch0 C X (by decide) (by decide) q654 (lw_n q177 rfl) ?_
      refine r_astore_n C [(3, vO e6.2.1), (1, vI q1.1), (0, vO a0)] dX1_signs_22 rfl (by decide) rfl ?_
      refine r_aload_n C 2 dX1_signs_23 rfl rfl ?_
      refine r_aload_n C 0 dX1_signs_24 rfl rfl ?_
      obtain ⟨v7, ev7, h⟩ := bs h
      refine r_getIN C (c := 3) (r := (RX5, TX5, 7)) rfl 6 (by decide) rfl ev7 (lw_n q233 rfl) dX1_signs_25 ?_
      obtain ⟨m8, em8, h⟩ := bs h
      refine r_putI C (c := 0) (r := (RX1, TX1, 19)) rfl 16 (by decide) rfl ⟨rfl, rfl⟩ rfl em8 q444 dX1_signs_28 ?_
      obtain ⟨e9, ee9, h⟩ := bs h
      cases h
      exact r_throwI C ee9 hK (by decide +kernel) q560 q134 at_X1_signs_31 (by decide) (Nat.le_of_ble_eq_true rfl) dX1_signs_31 dX1_signs_34 dX1_signs_35 dX1_signs_38 (XT.out X (pc := 38) (by decide))
    have h := ie_ h c10
    cases h
  · refine r_xV C (As := [vI q1.1]) (b := v4) (rest := []) (st1 := [vO q5.1]) (v := some (vO q5.1)) (μ1 := q5.2) (r := (RX2, TX2, 8)) (ci := 1) rfl eu11 (m_X2_text C.tr eq5) (lw_V q655 q656 q657 q121 q658) rfl hdX2_text rfl rfl (Nat.le_of_ble_eq_true rfl) ⟨by decide, by decide⟩ dX1_signs_15 rfl ?_
    refine r_astore_n C [(2, vO q5.1), (1, vI q1.1), (0, vO a0)] dX1_signs_18 rfl (by decide) rfl ?_
    refine r_goto C dX1_signs_19 (tgt := 39) (by decide) ?_
    refine r_aload_n C 2 dX1_signs_39 rfl rfl ?_
    obtain ⟨v12, ev12, h⟩ := bs h
    refine r_getR C (c := 0) (r := (RX1, TX1, 19)) rfl 2 (by decide) rfl ev12 q426 dX1_signs_40 ?_
    obtain ⟨v13, ev13, h⟩ := bs h
    refine r_getIN C (c := 7) (r := (RX9, TX9, 10)) rfl 7 (by decide) rfl ev13 (lw_n q392 rfl) dX1_signs_43 ?_
    refine r_bipush C dX1_signs_46 (by decide) ?_
    refine r_icmp_ge C dX1_signs_48 (tgt := 55) (by decide) (fun c14 => ?_) (fun c14 => ?_)
    · have h := it_ h c14
      refine r_iconst C dX1_signs_55 ?_
      refine r_sub [2, 0] rfl ?_
      exact w_X1_signs_b56 (fin := fin) C X h hK
    · have h := ie_ h c14
      refine r_iconst C dX1_signs_51 ?_
      refine r_goto C dX1_signs_52 (tgt := 56) (by decide) ?_
      refine r_sub [2, 0] rfl ?_
      exact w_X1_signs_b56 (fin := fin) C X h hK
theorem hdX1_signs : zhd yX1_signs 0 := by decide +kernel
theorem m_X1_signs {l : Launch} {D : va_G} {b0 : Nat} (hl : l.stackTraces = false) {a0 : Nat} {μ : Me} {w : Ex ⊕ (Int × Me)} (h : s_X1_signs a0 μ = some w) : XN l D b0 yX1_signs (wsW_ yX1_signs cX1_signs 4 (some .int) [((10 : Nat), (19 : Nat), (22 : Nat), (187 : Nat))]) 54 [vO a0] μ (zoI w) (zmI w) :=
  XN.ofH hl (by decide +kernel) (Nat.le_of_ble_eq_true rfl) (fun Z C X _ _ => w_X1_signs C X h rfl)
noncomputable def s_X1_count_b41 (a0 : Nat) (x1 : Int) (x2 : Int) (x3 : Int) (t0 : Int) (μ : Me) : Option (Ex ⊕ (Int × Me)) :=
  xb (s_X1_must t0 μ) (fun e4 => some (.inl e4)) fun q3 =>
  (if w32 ((x2 * x1) - x3) < 0 then
  some (.inr (0, q3))
  else
  (rmI ((x2 * x1) - x3) 2).bind fun v6 =>
  (if w32 v6 = 0 then
  (dvI ((x2 * x1) - x3) 2).bind fun v8 =>
  (ck q3 0 a0).bind fun _ =>
  (s_su 30 a0 v8 x1 x2 q3).bind fun q9 =>
  (dvI ((x2 * x1) - x3) 2).bind fun v11 =>
  (ck q9.2 0 a0).bind fun _ =>
  (s_su 30 a0 (v11 - 1) x1 x2 q9.2).bind fun q12 =>
  some (.inr ((q9.1 - q12.1), q12.2))
  else
  some (.inr (0, q3))))
theorem w_X1_count_b41 {Z : Zt} {fin : Ex ⊕ (Int × Me)} {w : (Ex ⊕ (Int × Me))} (C : CX Z yX1_count cX1_count (some .long) 33 5) (X : XE Z) {a0 : Nat} {x1 : Int} {x2 : Int} {x3 : Int} {t0 : Int} {μ : Me} (h : s_X1_count_b41 a0 x1 x2 x3 t0 μ = some w) (hK : (fun r : Ex ⊕ (Int × Me) => r = fin) w) : WL Z (XQ Z (zoJ fin) (zmI fin)) μ 41 [(0, vO a0), (1, vI x1), (2, vI x2), (3, vI x3)] [vI t0] := by
  unfold s_X1_count_b41 at h
  rcases xbs h with ⟨e4, eq3, h⟩ | ⟨q3, eq3, h⟩
  · refine r_xSx C (As := [vI t0]) (rest := []) (μ1 := e4.2.2) (m_X1_must C.tr eq3) (lw_S q557 q558 q120 q559) hdX1_must rfl rfl (Nat.le_of_ble_eq_true rfl) ⟨by decide, by decide⟩ dX1_count_41 ?_
    cases h
    exact r_xoutJ C X hK
  · refine r_xS C (As := [vI t0]) (rest := []) (st1 := []) (v := none) (μ1 := q3) (m_X1_must C.tr eq3) (lw_S q557 q558 q120 q559) hdX1_must rfl rfl (Nat.le_of_ble_eq_true rfl) ⟨by decide, by decide⟩ dX1_count_41 rfl ?_
    refine r_iload_n C 2 dX1_count_44 rfl rfl ?_
    refine r_iload_n C 1 dX1_count_45 rfl rfl ?_
    refine r_imul C dX1_count_46 ?_
    refine r_iload_n C 3 dX1_count_47 rfl rfl ?_
    refine r_isub C dX1_count_48 ?_
    refine r_istore C [(4, vI ((x2 * x1) - x3)), (0, vO a0), (1, vI x1), (2, vI x2), (3, vI x3)] dX1_count_49 (by decide) rfl ?_
    refine r_iload C 0 dX1_count_51 rfl ?_
    refine r_if_lt C dX1_count_53 (tgt := 63) (by decide) (fun c5 => ?_) (fun c5 => ?_)
    · have h := it_ h c5
      refine r_lconst (v := 0) C dX1_count_63 (by decide) ?_
      cases h
      exact r_xlret C hK dX1_count_64
    · have h := ie_ h c5
      refine r_iload C 0 dX1_count_56 rfl ?_
      refine r_iconst C dX1_count_58 ?_
      obtain ⟨v6, ev6, h⟩ := bs h
      refine r_irem C ev6 dX1_count_59 ?_
      refine r_if_eq C dX1_count_60 (tgt := 65) (by decide) (fun c7 => ?_) (fun c7 => ?_)
      · have h := it_ h c7
        refine r_aload_n C 1 dX1_count_65 rfl rfl ?_
        refine r_iload C 0 dX1_count_66 rfl ?_
        refine r_iconst C dX1_count_68 ?_
        obtain ⟨v8, ev8, h⟩ := bs h
        refine r_idiv C ev8 dX1_count_69 ?_
        refine r_iload_n C 2 dX1_count_70 rfl rfl ?_
        refine r_iload_n C 3 dX1_count_71 rfl rfl ?_
        obtain ⟨u10, eu10, h⟩ := bs h
        obtain ⟨q9, eq9, h⟩ := bs h
        refine r_callV C (As := [vI v8, vI x1, vI x2]) (b := a0) (rest := []) (st1 := [vJ q9.1]) (v := some (vJ q9.1)) (r := (RX1, TX1, 19)) (ci := 0) rfl eu10 ((m_su C.tr 30) _ _ _ _ _ _ eq9) (lw_V q1019 q1021 qs21 q120 q1022) rfl hdX1_sums rfl rfl (Nat.le_of_ble_eq_true rfl) ⟨by decide, by decide⟩ dX1_count_72 rfl ?_
        refine r_aload_n C 1 dX1_count_75 rfl rfl ?_
        refine r_iload C 0 dX1_count_76 rfl ?_
        refine r_iconst C dX1_count_78 ?_
        obtain ⟨v11, ev11, h⟩ := bs h
        refine r_idiv C ev11 dX1_count_79 ?_
        refine r_iconst C dX1_count_80 ?_
        refine r_isub C dX1_count_81 ?_
        refine r_iload_n C 2 dX1_count_82 rfl rfl ?_
        refine r_iload_n C 3 dX1_count_83 rfl rfl ?_
        obtain ⟨u13, eu13, h⟩ := bs h
        obtain ⟨q12, eq12, h⟩ := bs h
        refine r_callV C (As := [vI (v11 - 1), vI x1, vI x2]) (b := a0) (rest := [vJ q9.1]) (st1 := [vJ q12.1, vJ q9.1]) (v := some (vJ q12.1)) (r := (RX1, TX1, 19)) (ci := 0) rfl eu13 ((m_su C.tr 30) _ _ _ _ _ _ eq12) (lw_V q1019 q1021 qs21 q120 q1022) rfl hdX1_sums rfl rfl (Nat.le_of_ble_eq_true rfl) ⟨by decide, by decide⟩ dX1_count_84 rfl ?_
        refine r_lsub C dX1_count_87 ?_
        cases h
        exact r_xlret C hK dX1_count_88
      · have h := ie_ h c7
        refine r_lconst (v := 0) C dX1_count_63 (by decide) ?_
        cases h
        exact r_xlret C hK dX1_count_64
noncomputable def s_X1_count_b40 (a0 : Nat) (x1 : Int) (x2 : Int) (x3 : Int)  (μ : Me) : Option (Ex ⊕ (Int × Me)) :=
  s_X1_count_b41 a0 x1 x2 x3 0 μ
theorem w_X1_count_b40 {Z : Zt} {fin : Ex ⊕ (Int × Me)} {w : (Ex ⊕ (Int × Me))} (C : CX Z yX1_count cX1_count (some .long) 33 5) (X : XE Z) {a0 : Nat} {x1 : Int} {x2 : Int} {x3 : Int}  {μ : Me} (h : s_X1_count_b40 a0 x1 x2 x3 μ = some w) (hK : (fun r : Ex ⊕ (Int × Me) => r = fin) w) : WL Z (XQ Z (zoJ fin) (zmI fin)) μ 40 [(0, vO a0), (1, vI x1), (2, vI x2), (3, vI x3)] [] := by
  unfold s_X1_count_b40 at h
  refine r_iconst C dX1_count_40 ?_
  exact w_X1_count_b41 (fin := fin) C X h hK
noncomputable def s_X1_count (a0 : Nat) (x1 : Int) (x2 : Int) (x3 : Int) (μ : Me) : Option (Ex ⊕ (Int × Me)) :=
  (s_X1_isIn (w32 x1) 0 12 μ).bind fun q1 =>
  (if w32 q1.1 = 0 then
  s_X1_count_b40 a0 x1 x2 x3 q1.2
  else
  (s_X1_isIn (w32 x2) 1 8 q1.2).bind fun q14 =>
  (if w32 q14.1 = 0 then
  s_X1_count_b40 a0 x1 x2 x3 q14.2
  else
  (s_X1_isIn (w32 x3) 0 96 q14.2).bind fun q16 =>
  (if w32 q16.1 = 0 then
  s_X1_count_b40 a0 x1 x2 x3 q16.2
  else
  s_X1_count_b41 a0 x1 x2 x3 1 q16.2)))
theorem w_X1_count {Z : Zt} {fin : Ex ⊕ (Int × Me)} {w : Ex ⊕ (Int × Me)} (C : CX Z yX1_count cX1_count (some .long) 33 5) (X : XE Z) {a0 : Nat} {x1 : Int} {x2 : Int} {x3 : Int} {μ : Me} (h : s_X1_count a0 x1 x2 x3 μ = some w) (hK : w = fin) : WL Z (XQ Z (zoJ fin) (zmI fin)) μ 0 [(0, vO a0), (1, vI x1), (2, vI x2), (3, vI x3)] [] := by
  unfold s_X1_count at h
  refine r_iload_n C 1 dX1_count_0 rfl rfl ?_
  refine r_i2l C dX1_count_1 ?_
  refine r_lconst (v := 0) C dX1_count_2 (by decide) ?_
  refine r_ldc2 (n := 12) C q1017 dX1_count_3 (by decide) ?_
  obtain ⟨q1, eq1, h⟩ := bs h
  refine r_callS C (As := [vJ (w32 x1), vJ 0, vJ 12]) (rest := []) (st1 := [vI q1.1]) (v := some (vI q1.1)) (m_X1_isIn C.tr eq1) (lw_S q499 q500 q120 q501) hdX1_isIn rfl rfl (Nat.le_of_ble_eq_true rfl) ⟨by decide, by decide⟩ dX1_count_6 rfl ?_
  refine r_if_eq C dX1_count_9 (tgt := 40) (by decide) (fun c2 => ?_) (fun c2 => ?_)
  · have h := it_ h c2
    exact w_X1_count_b40 (fin := fin) C X h hK
  · have h := ie_ h c2
    refine r_iload_n C 2 dX1_count_12 rfl rfl ?_
    refine r_i2l C dX1_count_13 ?_
    refine r_lconst (v := 1) C dX1_count_14 (by decide) ?_
    refine r_ldc2 (n := 8) C q1009 dX1_count_15 (by decide) ?_
    obtain ⟨q14, eq14, h⟩ := bs h
    refine r_callS C (As := [vJ (w32 x2), vJ 1, vJ 8]) (rest := []) (st1 := [vI q14.1]) (v := some (vI q14.1)) (m_X1_isIn C.tr eq14) (lw_S q499 q500 q120 q501) hdX1_isIn rfl rfl (Nat.le_of_ble_eq_true rfl) ⟨by decide, by decide⟩ dX1_count_18 rfl ?_
    refine r_if_eq C dX1_count_21 (tgt := 40) (by decide) (fun c15 => ?_) (fun c15 => ?_)
    · have h := it_ h c15
      exact w_X1_count_b40 (fin := fin) C X h hK
    · have h := ie_ h c15
      refine r_iload_n C 3 dX1_count_24 rfl rfl ?_
      refine r_i2l C dX1_count_25 ?_
      refine r_lconst (v := 0) C dX1_count_26 (by decide) ?_
      refine r_ldc2 (n := 96) C q1018 dX1_count_27 (by decide) ?_
      obtain ⟨q16, eq16, h⟩ := bs h
      refine r_callS C (As := [vJ (w32 x3), vJ 0, vJ 96]) (rest := []) (st1 := [vI q16.1]) (v := some (vI q16.1)) (m_X1_isIn C.tr eq16) (lw_S q499 q500 q120 q501) hdX1_isIn rfl rfl (Nat.le_of_ble_eq_true rfl) ⟨by decide, by decide⟩ dX1_count_30 rfl ?_
      refine r_if_eq C dX1_count_33 (tgt := 40) (by decide) (fun c17 => ?_) (fun c17 => ?_)
      · have h := it_ h c17
        exact w_X1_count_b40 (fin := fin) C X h hK
      · have h := ie_ h c17
        refine r_iconst C dX1_count_36 ?_
        refine r_goto C dX1_count_37 (tgt := 41) (by decide) ?_
        exact w_X1_count_b41 (fin := fin) C X h hK
theorem hdX1_count : zhd yX1_count 3 := by decide +kernel
theorem m_X1_count {l : Launch} {D : va_G} {b0 : Nat} (hl : l.stackTraces = false) {a0 : Nat} {x1 : Int} {x2 : Int} {x3 : Int} {μ : Me} {w : Ex ⊕ (Int × Me)} (h : s_X1_count a0 x1 x2 x3 μ = some w) : XN l D b0 yX1_count (ws_ yX1_count cX1_count 5 (some .long)) 33 [vO a0, vI x1, vI x2, vI x3] μ (zoJ w) (zmI w) :=
  XN.of hl (by decide +kernel) (Nat.le_of_ble_eq_true rfl) (fun Z C X _ _ => w_X1_count C X h rfl)
noncomputable def s_X1_powers_b115 (a0 : Nat) (x2 : Int) (x4 : Int)  (μ : Me) : Option (Ex ⊕ (Int × Me)) :=
  (if w32 x4 = w32 (-1) then
  some (.inr (x4, μ))
  else
  (if w32 x2 = w32 (-1) then
  some (.inr (x4, μ))
  else
  (if w32 x4 ≤ w32 x2 then
  (if w32 x2 < w32 10 then
  some (.inr ((-1), μ))
  else
  (if w32 x4 ≤ w32 (x2 - 10) then
  some (.inr ((-1), μ))
  else
  (gR μ 0 a0 12).bind fun v21 =>
  (aI μ 101 v21 (x2 - 10)).bind fun v22 =>
  some (.inr (v22, μ))))
  else
  (gR μ 0 a0 11).bind fun v23 =>
  (aI μ 101 v23 x2).bind fun v24 =>
  some (.inr (v24, μ)))))
theorem w_X1_powers_b115 {Z : Zt} {fin : Ex ⊕ (Int × Me)} {w : (Ex ⊕ (Int × Me))} (C : CX Z yX1_powers cX1_powers (some .int) 19 6) (X : XE Z) {a0 : Nat} {x2 : Int} {x4 : Int}  {μ : Me} (h : s_X1_powers_b115 a0 x2 x4 μ = some w) (hK : (fun r : Ex ⊕ (Int × Me) => r = fin) w) : WL Z (XQ Z (zoI fin) (zmI fin)) μ 115 [(0, vO a0), (2, vI x2), (4, vI x4)] [] := by
  unfold s_X1_powers_b115 at h
  refine r_iload C 2 dX1_powers_115 rfl ?_
  refine r_iconst C dX1_powers_117 ?_
  refine r_icmp_eq C dX1_powers_118 (tgt := 126) (by decide) (fun c16 => ?_) (fun c16 => ?_)
  · have h := it_ h c16
    refine r_iload C 2 dX1_powers_126 rfl ?_
    cases h
    exact r_xiret C hK dX1_powers_128
  · have h := ie_ h c16
    refine r_iload_n C 1 dX1_powers_121 rfl rfl ?_
    refine r_iconst C dX1_powers_122 ?_
    refine r_icmp_ne C dX1_powers_123 (tgt := 129) (by decide) (fun c17 => ?_) (fun c17 => ?_)
    · have h := ie_ h c17
      refine r_iload_n C 1 dX1_powers_129 rfl rfl ?_
      refine r_iload C 2 dX1_powers_130 rfl ?_
      refine r_icmp_ge C dX1_powers_132 (tgt := 144) (by decide) (fun c18 => ?_) (fun c18 => ?_)
      · have h := it_ h c18
        refine r_iload_n C 1 dX1_powers_144 rfl rfl ?_
        refine r_bipush C dX1_powers_145 (by decide) ?_
        refine r_icmp_lt C dX1_powers_147 (tgt := 171) (by decide) (fun c19 => ?_) (fun c19 => ?_)
        · have h := it_ h c19
          refine r_iconst C dX1_powers_171 ?_
          cases h
          exact r_xiret C hK dX1_powers_172
        · have h := ie_ h c19
          refine r_iload_n C 1 dX1_powers_150 rfl rfl ?_
          refine r_bipush C dX1_powers_151 (by decide) ?_
          refine r_isub C dX1_powers_153 ?_
          refine r_iload C 2 dX1_powers_154 rfl ?_
          refine r_icmp_ge C dX1_powers_156 (tgt := 171) (by decide) (fun c20 => ?_) (fun c20 => ?_)
          · have h := it_ h c20
            refine r_iconst C dX1_powers_171 ?_
            cases h
            exact r_xiret C hK dX1_powers_172
          · have h := ie_ h c20
            refine r_aload_n C 0 dX1_powers_159 rfl rfl ?_
            obtain ⟨v21, ev21, h⟩ := bs h
            refine r_getR C (c := 0) (r := (RX1, TX1, 19)) rfl 12 (by decide) rfl ev21 q440 dX1_powers_160 ?_
            refine r_iload_n C 1 dX1_powers_163 rfl rfl ?_
            refine r_bipush C dX1_powers_164 (by decide) ?_
            refine r_isub C dX1_powers_166 ?_
            obtain ⟨v22, ev22, h⟩ := bs h
            refine r_iald C ev22 dX1_powers_167 ?_
            refine r_goto C dX1_powers_168 (tgt := 172) (by decide) ?_
            cases h
            exact r_xiret C hK dX1_powers_172
      · have h := ie_ h c18
        refine r_aload_n C 0 dX1_powers_135 rfl rfl ?_
        obtain ⟨v23, ev23, h⟩ := bs h
        refine r_getR C (c := 0) (r := (RX1, TX1, 19)) rfl 11 (by decide) rfl ev23 q439 dX1_powers_136 ?_
        refine r_iload_n C 1 dX1_powers_139 rfl rfl ?_
        obtain ⟨v24, ev24, h⟩ := bs h
        refine r_iald C ev24 dX1_powers_140 ?_
        refine r_goto C dX1_powers_141 (tgt := 172) (by decide) ?_
        cases h
        exact r_xiret C hK dX1_powers_172
    · have h := it_ h c17
      refine r_iload C 2 dX1_powers_126 rfl ?_
      cases h
      exact r_xiret C hK dX1_powers_128
noncomputable def s_X1_powers_l77_st (a0 : Nat) (x2 : Int) (a3 : Nat) (x4 : Int) (x5 : Int) (μ : Me) : Option ((Int × Int × Me) ⊕ (Ex ⊕ (Int × Me))) :=
  (if w32 3 < w32 x5 then
  (s_X1_powers_b115 a0 x2 x4 μ).map Sum.inr
  else
  (if w32 x4 = w32 (-1) then
  (ck μ 0 a0).bind fun _ =>
  (s_ad 12 0 a0 a3 0 x5 0 μ).bind fun q26 =>
  (if w32 q26.1 = 0 then
  some (.inl ((-1), (x5 + 1), q26.2))
  else
  some (.inl (x5, (x5 + 1), q26.2)))
  else
  (s_X1_powers_b115 a0 x2 x4 μ).map Sum.inr))
theorem w_X1_powers_l77_st {Z : Zt} {fin : Ex ⊕ (Int × Me)} {w : ((Int × Int × Me) ⊕ (Ex ⊕ (Int × Me)))} (C : CX Z yX1_powers cX1_powers (some .int) 19 6) (X : XE Z) {a0 : Nat} {x2 : Int} {a3 : Nat} {x4 : Int} {x5 : Int} {μ : Me} (h : s_X1_powers_l77_st a0 x2 a3 x4 x5 μ = some w) (hK : (Sum.elim (fun s : Int × Int × Me => WL Z (XQ Z (zoI fin) (zmI fin)) s.2.2 77 [(0, vO a0), (2, vI x2), (3, vO a3), (4, vI s.1), (5, vI s.2.1)] []) (fun r : Ex ⊕ (Int × Me) => r = fin)) w) : WL Z (XQ Z (zoI fin) (zmI fin)) μ 77 [(0, vO a0), (2, vI x2), (3, vO a3), (4, vI x4), (5, vI x5)] [] := by
  unfold s_X1_powers_l77_st at h
  refine r_iload C 4 dX1_powers_77 rfl ?_
  refine r_iconst C dX1_powers_79 ?_
  refine r_icmp_gt C dX1_powers_80 (tgt := 115) (by decide) (fun c15 => ?_) (fun c15 => ?_)
  · have h := it_ h c15
    obtain ⟨z, hz, ez⟩ := ms_ h; clear h; subst ez; have h := hz; clear hz
    refine r_sub [0, 1, 3] rfl ?_
    exact w_X1_powers_b115 (fin := fin) C X h hK
  · have h := ie_ h c15
    refine r_iload C 3 dX1_powers_83 rfl ?_
    refine r_iconst C dX1_powers_85 ?_
    refine r_icmp_ne C dX1_powers_86 (tgt := 115) (by decide) (fun c25 => ?_) (fun c25 => ?_)
    · have h := ie_ h c25
      obtain ⟨z, hz, ez⟩ := ms_ h; clear h; subst ez; have h := hz; clear hz
      refine r_sub [0, 1, 3] rfl ?_
      exact w_X1_powers_b115 (fin := fin) C X h hK
    · have h := it_ h c25
      refine r_aload_n C 0 dX1_powers_89 rfl rfl ?_
      refine r_aload_n C 2 dX1_powers_90 rfl rfl ?_
      refine r_iconst C dX1_powers_91 ?_
      refine r_iload C 4 dX1_powers_92 rfl ?_
      refine r_iconst C dX1_powers_94 ?_
      obtain ⟨u27, eu27, h⟩ := bs h
      obtain ⟨q26, eq26, h⟩ := bs h
      refine r_callV C (As := [vO a3, vI 0, vI x5, vI 0]) (b := a0) (rest := []) (st1 := [vI q26.1]) (v := some (vI q26.1)) (r := (RX1, TX1, 19)) (ci := 0) rfl eu27 ((m_ad C.tr 12).1 _ _ _ _ _ _ _ eq26) (lw_V q1183 q1185 qs32 q120 q1186) rfl hdX1_adds_2 rfl rfl (Nat.le_of_ble_eq_true rfl) ⟨by decide, by decide⟩ dX1_powers_95 rfl ?_
      refine r_if_eq C dX1_powers_98 (tgt := 106) (by decide) (fun c28 => ?_) (fun c28 => ?_)
      · have h := it_ h c28
        refine r_iconst C dX1_powers_106 ?_
        refine r_istore C [(4, vI (-1)), (0, vO a0), (2, vI x2), (3, vO a3), (5, vI x5)] dX1_powers_107 (by decide) rfl ?_
        refine r_iinc C 4 [(5, vI (x5 + 1)), (4, vI (-1)), (0, vO a0), (2, vI x2), (3, vO a3)] dX1_powers_109 rfl (by decide) rfl ?_
        refine r_goto C dX1_powers_112 (tgt := 77) (by decide) ?_
        cases h
        refine r_sub [2, 3, 4, 1, 0] rfl ?_
        exact hK
      · have h := ie_ h c28
        refine r_iload C 4 dX1_powers_101 rfl ?_
        refine r_goto C dX1_powers_103 (tgt := 107) (by decide) ?_
        refine r_istore C [(4, vI x5), (0, vO a0), (2, vI x2), (3, vO a3), (5, vI x5)] dX1_powers_107 (by decide) rfl ?_
        refine r_iinc C 4 [(5, vI (x5 + 1)), (4, vI x5), (0, vO a0), (2, vI x2), (3, vO a3)] dX1_powers_109 rfl (by decide) rfl ?_
        refine r_goto C dX1_powers_112 (tgt := 77) (by decide) ?_
        cases h
        refine r_sub [2, 3, 4, 1, 0] rfl ?_
        exact hK
noncomputable def s_X1_powers_l77 (a0 : Nat) (x2 : Int) (a3 : Nat) (x4 : Int) (x5 : Int) (μ : Me) : Option (Ex ⊕ (Int × Me)) :=
  whileO (fun s : Int × Int × Me => s_X1_powers_l77_st a0 x2 a3 s.1 s.2.1 s.2.2) (x4, x5, μ)
theorem e_X1_powers_l77 (a0 : Nat) (x2 : Int) (a3 : Nat) (x4 : Int) (x5 : Int) (μ : Me) : s_X1_powers_l77 a0 x2 a3 x4 x5 μ = (s_X1_powers_l77_st a0 x2 a3 x4 x5 μ).bind fun x => x.elim (fun s : Int × Int × Me => s_X1_powers_l77 a0 x2 a3 s.1 s.2.1 s.2.2) some := whileO_eq _ _
theorem w_X1_powers_l77 {Z : Zt} {fin : Ex ⊕ (Int × Me)} {w : (Ex ⊕ (Int × Me))} (C : CX Z yX1_powers cX1_powers (some .int) 19 6) (X : XE Z) {a0 : Nat} {x2 : Int} {a3 : Nat} {x4 : Int} {x5 : Int} {μ : Me} (h : s_X1_powers_l77 a0 x2 a3 x4 x5 μ = some w) (hK : (fun r : Ex ⊕ (Int × Me) => r = fin) w) : WL Z (XQ Z (zoI fin) (zmI fin)) μ 77 [(0, vO a0), (2, vI x2), (3, vO a3), (4, vI x4), (5, vI x5)] [] := by
  refine whileO_walk (w := w) (fun s : Int × Int × Me => WL Z (XQ Z (zoI fin) (zmI fin)) s.2.2 77 [(0, vO a0), (2, vI x2), (3, vO a3), (4, vI s.1), (5, vI s.2.1)] []) (fun s v h2 hi hr => ?_) (x4, x5, μ) h
  refine w_X1_powers_l77_st (fin := fin) C X h2 ?_
  cases v with
  | inl s2 => exact hi s2 rfl
  | inr r => have e := hr r rfl; subst e; exact hK
noncomputable def s_X1_powers_b60 (a0 : Nat) (x2 : Int) (a3 : Nat)  (μ : Me) : Option (Ex ⊕ (Int × Me)) :=
  (ck μ 6 a3).bind fun _ =>
  (s_X8_isNought a3 μ).bind fun q12 =>
  (if w32 q12.1 = 0 then
  s_X1_powers_l77 a0 x2 a3 (-1) 1 q12.2
  else
  s_X1_powers_l77 a0 x2 a3 0 1 q12.2)
theorem w_X1_powers_b60 {Z : Zt} {fin : Ex ⊕ (Int × Me)} {w : (Ex ⊕ (Int × Me))} (C : CX Z yX1_powers cX1_powers (some .int) 19 6) (X : XE Z) {a0 : Nat} {x2 : Int} {a3 : Nat}  {μ : Me} (h : s_X1_powers_b60 a0 x2 a3 μ = some w) (hK : (fun r : Ex ⊕ (Int × Me) => r = fin) w) : WL Z (XQ Z (zoI fin) (zmI fin)) μ 60 [(0, vO a0), (2, vI x2), (3, vO a3)] [] := by
  unfold s_X1_powers_b60 at h
  refine r_aload_n C 2 dX1_powers_60 rfl rfl ?_
  obtain ⟨u13, eu13, h⟩ := bs h
  obtain ⟨q12, eq12, h⟩ := bs h
  refine r_callV C (As := []) (b := a3) (rest := []) (st1 := [vI q12.1]) (v := some (vI q12.1)) (r := (RX8, TX8, 2)) (ci := 6) rfl eu13 (m_X8_isNought C.tr eq12) (lw_V q544 q545 q546 q130 q547) rfl hdX8_isNought rfl rfl (Nat.le_of_ble_eq_true rfl) ⟨by decide, by decide⟩ dX1_powers_61 rfl ?_
  refine r_if_eq C dX1_powers_64 (tgt := 71) (by decide) (fun c14 => ?_) (fun c14 => ?_)
  · have h := it_ h c14
    refine r_iconst C dX1_powers_71 ?_
    refine r_istore C [(4, vI (-1)), (0, vO a0), (2, vI x2), (3, vO a3)] dX1_powers_72 (by decide) rfl ?_
    refine r_iconst C dX1_powers_74 ?_
    refine r_istore C [(5, vI 1), (4, vI (-1)), (0, vO a0), (2, vI x2), (3, vO a3)] dX1_powers_75 (by decide) rfl ?_
    refine r_sub [2, 3, 4, 1, 0] rfl ?_
    exact w_X1_powers_l77 (fin := fin) C X h hK
  · have h := ie_ h c14
    refine r_iconst C dX1_powers_67 ?_
    refine r_goto C dX1_powers_68 (tgt := 72) (by decide) ?_
    refine r_istore C [(4, vI 0), (0, vO a0), (2, vI x2), (3, vO a3)] dX1_powers_72 (by decide) rfl ?_
    refine r_iconst C dX1_powers_74 ?_
    refine r_istore C [(5, vI 1), (4, vI 0), (0, vO a0), (2, vI x2), (3, vO a3)] dX1_powers_75 (by decide) rfl ?_
    refine r_sub [2, 3, 4, 1, 0] rfl ?_
    exact w_X1_powers_l77 (fin := fin) C X h hK
noncomputable def s_X1_powers_l29_st (a0 : Nat) (x2 : Int) (a3 : Nat) (x4 : Int) (μ : Me) : Option ((Int × Me) ⊕ (Ex ⊕ (Int × Me))) :=
  (gR μ 0 a0 1).bind fun v8 =>
  (gR μ 4 v8 0).bind fun v9 =>
  (gI μ 5 v9 0).bind fun v10 =>
  (if w32 v10 < w32 x4 then
  (s_X1_powers_b60 a0 x2 a3 μ).map Sum.inr
  else
  (gI μ 6 a3 1).bind fun v29 =>
  (ck μ 0 a0).bind fun _ =>
  (s_X1_line a0 x4 v29 μ).bind fun q30 =>
  some (.inl ((x4 + 1), q30)))
theorem w_X1_powers_l29_st {Z : Zt} {fin : Ex ⊕ (Int × Me)} {w : ((Int × Me) ⊕ (Ex ⊕ (Int × Me)))} (C : CX Z yX1_powers cX1_powers (some .int) 19 6) (X : XE Z) {a0 : Nat} {x2 : Int} {a3 : Nat} {x4 : Int} {μ : Me} (h : s_X1_powers_l29_st a0 x2 a3 x4 μ = some w) (hK : (Sum.elim (fun s : Int × Me => WL Z (XQ Z (zoI fin) (zmI fin)) s.2 29 [(0, vO a0), (2, vI x2), (3, vO a3), (4, vI s.1)] []) (fun r : Ex ⊕ (Int × Me) => r = fin)) w) : WL Z (XQ Z (zoI fin) (zmI fin)) μ 29 [(0, vO a0), (2, vI x2), (3, vO a3), (4, vI x4)] [] := by
  unfold s_X1_powers_l29_st at h
  refine r_iload C 3 dX1_powers_29 rfl ?_
  refine r_aload_n C 0 dX1_powers_31 rfl rfl ?_
  obtain ⟨v8, ev8, h⟩ := bs h
  refine r_getR C (c := 0) (r := (RX1, TX1, 19)) rfl 1 (by decide) rfl ev8 q422 dX1_powers_32 ?_
  obtain ⟨v9, ev9, h⟩ := bs h
  refine r_getRN C (c := 4) (r := (RX6, TX6, 6)) rfl 0 (by decide) rfl ev9 (lw_n q320 rfl) dX1_powers_35 ?_
  obtain ⟨v10, ev10, h⟩ := bs h
  refine r_getIN C (c := 5) (r := (RX7, TX7, 1)) rfl 0 (by decide) rfl ev10 (lw_n q289 rfl) dX1_powers_38 ?_
  refine r_icmp_gt C dX1_powers_41 (tgt := 60) (by decide) (fun c11 => ?_) (fun c11 => ?_)
  · have h := it_ h c11
    obtain ⟨z, hz, ez⟩ := ms_ h; clear h; subst ez; have h := hz; clear hz
    refine r_sub [0, 1, 2] rfl ?_
    exact w_X1_powers_b60 (fin := fin) C X h hK
  · have h := ie_ h c11
    refine r_aload_n C 0 dX1_powers_44 rfl rfl ?_
    refine r_iload C 3 dX1_powers_45 rfl ?_
    refine r_aload_n C 2 dX1_powers_47 rfl rfl ?_
    obtain ⟨v29, ev29, h⟩ := bs h
    refine r_getIN C (c := 6) (r := (RX8, TX8, 2)) rfl 1 (by decide) rfl ev29 (lw_n q309 rfl) dX1_powers_48 ?_
    obtain ⟨u31, eu31, h⟩ := bs h
    obtain ⟨q30, eq30, h⟩ := bs h
    refine r_callV C (As := [vI x4, vI v29]) (b := a0) (rest := []) (st1 := []) (v := none) (r := (RX1, TX1, 19)) (ci := 0) rfl eu31 (m_X1_line C.tr eq30) (lw_V q1178 q1180 qs31 q120 q1181) rfl hdX1_line rfl rfl (Nat.le_of_ble_eq_true rfl) ⟨by decide, by decide⟩ dX1_powers_51 rfl ?_
    refine r_iinc C 3 [(4, vI (x4 + 1)), (0, vO a0), (2, vI x2), (3, vO a3)] dX1_powers_54 rfl (by decide) rfl ?_
    refine r_goto C dX1_powers_57 (tgt := 29) (by decide) ?_
    cases h
    refine r_sub [1, 2, 3, 0] rfl ?_
    exact hK
noncomputable def s_X1_powers_l29 (a0 : Nat) (x2 : Int) (a3 : Nat) (x4 : Int) (μ : Me) : Option (Ex ⊕ (Int × Me)) :=
  whileO (fun s : Int × Me => s_X1_powers_l29_st a0 x2 a3 s.1 s.2) (x4, μ)
theorem e_X1_powers_l29 (a0 : Nat) (x2 : Int) (a3 : Nat) (x4 : Int) (μ : Me) : s_X1_powers_l29 a0 x2 a3 x4 μ = (s_X1_powers_l29_st a0 x2 a3 x4 μ).bind fun x => x.elim (fun s : Int × Me => s_X1_powers_l29 a0 x2 a3 s.1 s.2) some := whileO_eq _ _
theorem w_X1_powers_l29 {Z : Zt} {fin : Ex ⊕ (Int × Me)} {w : (Ex ⊕ (Int × Me))} (C : CX Z yX1_powers cX1_powers (some .int) 19 6) (X : XE Z) {a0 : Nat} {x2 : Int} {a3 : Nat} {x4 : Int} {μ : Me} (h : s_X1_powers_l29 a0 x2 a3 x4 μ = some w) (hK : (fun r : Ex ⊕ (Int × Me) => r = fin) w) : WL Z (XQ Z (zoI fin) (zmI fin)) μ 29 [(0, vO a0), (2, vI x2), (3, vO a3), (4, vI x4)] [] := by
  refine whileO_walk (w := w) (fun s : Int × Me => WL Z (XQ Z (zoI fin) (zmI fin)) s.2 29 [(0, vO a0), (2, vI x2), (3, vO a3), (4, vI s.1)] []) (fun s v h2 hi hr => ?_) (x4, μ) h
  refine w_X1_powers_l29_st (fin := fin) C X h2 ?_
  cases v with
  | inl s2 => exact hi s2 rfl
  | inr r => have e := hr r rfl; subst e; exact hK
noncomputable def s_X1_powers (a0 : Nat) (x1 : Int) (x2 : Int) (μ : Me) : Option (Ex ⊕ (Int × Me)) :=
  (ck μ 0 a0).bind fun _ =>
  xb (s_X1_formAt a0 x1 μ) (fun e2 => some (.inl e2)) fun q1 =>
  (gI q1.2 6 q1.1 1).bind fun v4 =>
  (if w32 v4 ≤ 0 then
  xb (s_X1_must 0 q1.2) (fun e7 => some (.inl e7)) fun q6 =>
  s_X1_powers_l29 a0 x2 q1.1 0 q6
  else
  (if w32 x2 < w32 (-1) then
  xb (s_X1_must 0 q1.2) (fun e34 => some (.inl e34)) fun q33 =>
  s_X1_powers_l29 a0 x2 q1.1 0 q33
  else
  xb (s_X1_must 1 q1.2) (fun e36 => some (.inl e36)) fun q35 =>
  s_X1_powers_l29 a0 x2 q1.1 0 q35))
theorem w_X1_powers {Z : Zt} {fin : Ex ⊕ (Int × Me)} {w : Ex ⊕ (Int × Me)} (C : CX Z yX1_powers cX1_powers (some .int) 19 6) (X : XE Z) {a0 : Nat} {x1 : Int} {x2 : Int} {μ : Me} (h : s_X1_powers a0 x1 x2 μ = some w) (hK : w = fin) : WL Z (XQ Z (zoI fin) (zmI fin)) μ 0 [(0, vO a0), (1, vI x1), (2, vI x2)] [] := by
  unfold s_X1_powers at h
  refine r_aload_n C 0 dX1_powers_0 rfl rfl ?_
  refine r_iload_n C 1 dX1_powers_1 rfl rfl ?_
  obtain ⟨u3, eu3, h⟩ := bs h
  rcases xbs h with ⟨e2, eq1, h⟩ | ⟨q1, eq1, h⟩
  · refine r_xVx C (As := [vI x1]) (b := a0) (rest := []) (μ1 := e2.2.2) (r := (RX1, TX1, 19)) (ci := 0) rfl eu3 (m_X1_formAt C.tr eq1) (lw_V q799 q801 qs15 q120 q802) rfl hdX1_formAt rfl rfl (Nat.le_of_ble_eq_true rfl) ⟨by decide, by decide⟩ dX1_powers_2 ?_
    cases h
    exact r_xoutI C X hK
  · refine r_xV C (As := [vI x1]) (b := a0) (rest := []) (st1 := [vO q1.1]) (v := some (vO q1.1)) (μ1 := q1.2) (r := (RX1, TX1, 19)) (ci := 0) rfl eu3 (m_X1_formAt C.tr eq1) (lw_V q799 q801 qs15 q120 q802) rfl hdX1_formAt rfl rfl (Nat.le_of_ble_eq_true rfl) ⟨by decide, by decide⟩ dX1_powers_2 rfl ?_
    refine r_astore_n C [(3, vO q1.1), (0, vO a0), (1, vI x1), (2, vI x2)] dX1_powers_5 rfl (by decide) rfl ?_
    refine r_aload_n C 0 dX1_powers_6 rfl rfl ?_
    obtain ⟨v4, ev4, h⟩ := bs h
    refine r_getIN C (c := 6) (r := (RX8, TX8, 2)) rfl 1 (by decide) rfl ev4 (lw_n q309 rfl) dX1_powers_7 ?_
    refine r_if_le C dX1_powers_10 (tgt := 22) (by decide) (fun c5 => ?_) (fun c5 => ?_)
    · have h := it_ h c5
      refine r_iconst C dX1_powers_22 ?_
      rcases xbs h with ⟨e7, eq6, h⟩ | ⟨q6, eq6, h⟩
      · refine r_xSx C (As := [vI 0]) (rest := []) (μ1 := e7.2.2) (m_X1_must C.tr eq6) (lw_S q557 q558 q120 q559) hdX1_must rfl rfl (Nat.le_of_ble_eq_true rfl) ⟨by decide, by decide⟩ dX1_powers_23 ?_
        cases h
        exact r_xoutI C X hK
      · refine r_xS C (As := [vI 0]) (rest := []) (st1 := []) (v := none) (μ1 := q6) (m_X1_must C.tr eq6) (lw_S q557 q558 q120 q559) hdX1_must rfl rfl (Nat.le_of_ble_eq_true rfl) ⟨by decide, by decide⟩ dX1_powers_23 rfl ?_
        refine r_iconst C dX1_powers_26 ?_
        refine r_istore C [(4, vI 0), (3, vO q1.1), (0, vO a0), (1, vI x1), (2, vI x2)] dX1_powers_27 (by decide) rfl ?_
        refine r_sub [2, 4, 1, 0] rfl ?_
        exact w_X1_powers_l29 (fin := fin) C X h hK
    · have h := ie_ h c5
      refine r_iload_n C 3 dX1_powers_13 rfl rfl ?_
      refine r_iconst C dX1_powers_14 ?_
      refine r_icmp_lt C dX1_powers_15 (tgt := 22) (by decide) (fun c32 => ?_) (fun c32 => ?_)
      · have h := it_ h c32
        refine r_iconst C dX1_powers_22 ?_
        rcases xbs h with ⟨e34, eq33, h⟩ | ⟨q33, eq33, h⟩
        · refine r_xSx C (As := [vI 0]) (rest := []) (μ1 := e34.2.2) (m_X1_must C.tr eq33) (lw_S q557 q558 q120 q559) hdX1_must rfl rfl (Nat.le_of_ble_eq_true rfl) ⟨by decide, by decide⟩ dX1_powers_23 ?_
          cases h
          exact r_xoutI C X hK
        · refine r_xS C (As := [vI 0]) (rest := []) (st1 := []) (v := none) (μ1 := q33) (m_X1_must C.tr eq33) (lw_S q557 q558 q120 q559) hdX1_must rfl rfl (Nat.le_of_ble_eq_true rfl) ⟨by decide, by decide⟩ dX1_powers_23 rfl ?_
          refine r_iconst C dX1_powers_26 ?_
          refine r_istore C [(4, vI 0), (3, vO q1.1), (0, vO a0), (1, vI x1), (2, vI x2)] dX1_powers_27 (by decide) rfl ?_
          refine r_sub [2, 4, 1, 0] rfl ?_
          exact w_X1_powers_l29 (fin := fin) C X h hK
      · have h := ie_ h c32
        refine r_iconst C dX1_powers_18 ?_
        refine r_goto C dX1_powers_19 (tgt := 23) (by decide) ?_
        rcases xbs h with ⟨e36, eq35, h⟩ | ⟨q35, eq35, h⟩
        · refine r_xSx C (As := [vI 1]) (rest := []) (μ1 := e36.2.2) (m_X1_must C.tr eq35) (lw_S q557 q558 q120 q559) hdX1_must rfl rfl (Nat.le_of_ble_eq_true rfl) ⟨by decide, by decide⟩ dX1_powers_23 ?_
          cases h
          exact r_xoutI C X hK
        · refine r_xS C (As := [vI 1]) (rest := []) (st1 := []) (v := none) (μ1 := q35) (m_X1_must C.tr eq35) (lw_S q557 q558 q120 q559) hdX1_must rfl rfl (Nat.le_of_ble_eq_true rfl) ⟨by decide, by decide⟩ dX1_powers_23 rfl ?_
          refine r_iconst C dX1_powers_26 ?_
          refine r_istore C [(4, vI 0), (3, vO q1.1), (0, vO a0), (1, vI x1), (2, vI x2)] dX1_powers_27 (by decide) rfl ?_
          refine r_sub [2, 4, 1, 0] rfl ?_
          exact w_X1_powers_l29 (fin := fin) C X h hK
theorem hdX1_powers : zhd yX1_powers 2 := by decide +kernel
theorem m_X1_powers {l : Launch} {D : va_G} {b0 : Nat} (hl : l.stackTraces = false) {a0 : Nat} {x1 : Int} {x2 : Int} {μ : Me} {w : Ex ⊕ (Int × Me)} (h : s_X1_powers a0 x1 x2 μ = some w) : XN l D b0 yX1_powers (ws_ yX1_powers cX1_powers 6 (some .int)) 19 [vO a0, vI x1, vI x2] μ (zoI w) (zmI w) :=
  XN.of hl (by decide +kernel) (Nat.le_of_ble_eq_true rfl) (fun Z C X _ _ => w_X1_powers C X h rfl)
noncomputable def s_X11_signs_b168 (a0 : Nat) (x2 : Int)  (μ : Me) : Option (Int × Me) :=
  (gR μ 9 a0 1).bind fun v28 =>
  (aI μ 101 v28 3).bind fun v29 =>
  (uI μ v28 3 (v29 + 1)).bind fun m30 =>
  some (x2, m30)
theorem w_X11_signs_b168 {Z : Zt} {fin : Int × Me} {w : (Int × Me)} (C : CX Z yX11_signs cX11_signs (some .int) 47 4) {a0 : Nat} {x2 : Int}  {μ : Me} (h : s_X11_signs_b168 a0 x2 μ = some w) (hK : (fun r : Int × Me => r = fin) w) : WL Z (QN Z (some (vI fin.1)) fin.2) μ 168 [(0, vO a0), (2, vI x2)] [] := by
  unfold s_X11_signs_b168 at h
  refine r_aload_n C 0 dX11_signs_168 rfl rfl ?_
  obtain ⟨v28, ev28, h⟩ := bs h
  refine r_getR C (c := 9) (r := (RX11, TX11, 38)) rfl 1 (by decide) rfl ev28 q1314 dX11_signs_169 ?_
  refine r_iconst C dX11_signs_172 ?_
  refine r_dup2 C dX11_signs_173 rfl rfl ?_
  obtain ⟨v29, ev29, h⟩ := bs h
  refine r_iald C ev29 dX11_signs_174 ?_
  refine r_iconst C dX11_signs_175 ?_
  refine r_iadd C dX11_signs_176 ?_
  obtain ⟨m30, em30, h⟩ := bs h
  refine r_iast C em30 dX11_signs_177 ?_
  refine r_iload_n C 1 dX11_signs_178 rfl rfl ?_
  cases h
  exact r_iret C hK dX11_signs_179
noncomputable def s_X11_signs_l129_st (a0 : Nat) (x2 : Int) (x3 : Int) (μ : Me) : Option ((Int × Me) ⊕ (Int × Me)) :=
  (if w32 401 ≤ w32 x3 then
  (s_X11_signs_b168 a0 x2 μ).map Sum.inr
  else
  (gR μ 9 a0 1).bind fun v31 =>
  (gR μ 9 a0 1).bind fun v32 =>
  (aI μ 101 v32 (3606 + x3)).bind fun v33 =>
  (uI μ v31 ((198 + (401 * x2)) + x3) v33).bind fun m34 =>
  some (.inl ((x3 + 1), m34)))
theorem w_X11_signs_l129_st {Z : Zt} {fin : Int × Me} {w : ((Int × Me) ⊕ (Int × Me))} (C : CX Z yX11_signs cX11_signs (some .int) 47 4) {a0 : Nat} {x2 : Int} {x3 : Int} {μ : Me} (h : s_X11_signs_l129_st a0 x2 x3 μ = some w) (hK : (Sum.elim (fun s : Int × Me => WL Z (QN Z (some (vI fin.1)) fin.2) s.2 129 [(0, vO a0), (2, vI x2), (3, vI s.1)] []) (fun r : Int × Me => r = fin)) w) : WL Z (QN Z (some (vI fin.1)) fin.2) μ 129 [(0, vO a0), (2, vI x2), (3, vI x3)] [] := by
  unfold s_X11_signs_l129_st at h
  refine r_iload_n C 2 dX11_signs_129 rfl rfl ?_
  refine r_sipush C dX11_signs_130 (by decide) ?_
  refine r_icmp_ge C dX11_signs_133 (tgt := 168) (by decide) (fun c27 => ?_) (fun c27 => ?_)
  · have h := it_ h c27
    obtain ⟨z, hz, ez⟩ := ms_ h; clear h; subst ez; have h := hz; clear hz
    refine r_sub [0, 1] rfl ?_
    exact w_X11_signs_b168 (fin := fin) C h hK
  · have h := ie_ h c27
    refine r_aload_n C 0 dX11_signs_136 rfl rfl ?_
    obtain ⟨v31, ev31, h⟩ := bs h
    refine r_getR C (c := 9) (r := (RX11, TX11, 38)) rfl 1 (by decide) rfl ev31 q1314 dX11_signs_137 ?_
    refine r_sipush C dX11_signs_140 (by decide) ?_
    refine r_sipush C dX11_signs_143 (by decide) ?_
    refine r_iload_n C 1 dX11_signs_146 rfl rfl ?_
    refine r_imul C dX11_signs_147 ?_
    refine r_iadd C dX11_signs_148 ?_
    refine r_iload_n C 2 dX11_signs_149 rfl rfl ?_
    refine r_iadd C dX11_signs_150 ?_
    refine r_aload_n C 0 dX11_signs_151 rfl rfl ?_
    obtain ⟨v32, ev32, h⟩ := bs h
    refine r_getR C (c := 9) (r := (RX11, TX11, 38)) rfl 1 (by decide) rfl ev32 q1314 dX11_signs_152 ?_
    refine r_sipush C dX11_signs_155 (by decide) ?_
    refine r_iload_n C 2 dX11_signs_158 rfl rfl ?_
    refine r_iadd C dX11_signs_159 ?_
    obtain ⟨v33, ev33, h⟩ := bs h
    refine r_iald C ev33 dX11_signs_160 ?_
    obtain ⟨m34, em34, h⟩ := bs h
    refine r_iast C em34 dX11_signs_161 ?_
    refine r_iinc C 2 [(3, vI (x3 + 1)), (0, vO a0), (2, vI x2)] dX11_signs_162 rfl (by decide) rfl ?_
    refine r_goto C dX11_signs_165 (tgt := 129) (by decide) ?_
    cases h
    refine r_sub [1, 2, 0] rfl ?_
    exact hK
noncomputable def s_X11_signs_l129 (a0 : Nat) (x2 : Int) (x3 : Int) (μ : Me) : Option (Int × Me) :=
  whileO (fun s : Int × Me => s_X11_signs_l129_st a0 x2 s.1 s.2) (x3, μ)
theorem e_X11_signs_l129 (a0 : Nat) (x2 : Int) (x3 : Int) (μ : Me) : s_X11_signs_l129 a0 x2 x3 μ = (s_X11_signs_l129_st a0 x2 x3 μ).bind fun x => x.elim (fun s : Int × Me => s_X11_signs_l129 a0 x2 s.1 s.2) some := whileO_eq _ _
theorem w_X11_signs_l129 {Z : Zt} {fin : Int × Me} {w : (Int × Me)} (C : CX Z yX11_signs cX11_signs (some .int) 47 4) {a0 : Nat} {x2 : Int} {x3 : Int} {μ : Me} (h : s_X11_signs_l129 a0 x2 x3 μ = some w) (hK : (fun r : Int × Me => r = fin) w) : WL Z (QN Z (some (vI fin.1)) fin.2) μ 129 [(0, vO a0), (2, vI x2), (3, vI x3)] [] := by
  refine whileO_walk (w := w) (fun s : Int × Me => WL Z (QN Z (some (vI fin.1)) fin.2) s.2 129 [(0, vO a0), (2, vI x2), (3, vI s.1)] []) (fun s v h2 hi hr => ?_) (x3, μ) h
  refine w_X11_signs_l129_st (fin := fin) C h2 ?_
  cases v with
  | inl s2 => exact hi s2 rfl
  | inr r => have e := hr r rfl; subst e; exact hK
noncomputable def s_X11_signs_b99 (a0 : Nat) (t0 : Int) (t1 : Nat) (μ : Me) : Option (Int × Me) :=
  (ck μ 9 t1).bind fun _ =>
  (s_X11_throwsIf t1 t0 2 μ).bind fun q19 =>
  (if w32 q19.1 = 0 then
  (gR q19.2 9 a0 1).bind fun v22 =>
  (aI q19.2 101 v22 3).bind fun v23 =>
  (gR q19.2 9 a0 1).bind fun v24 =>
  (gI q19.2 9 a0 19).bind fun v25 =>
  (uI q19.2 v24 3606 v25).bind fun m26 =>
  s_X11_signs_l129 a0 v23 0 m26
  else
  some (0, q19.2))
theorem w_X11_signs_b99 {Z : Zt} {fin : Int × Me} {w : (Int × Me)} (C : CX Z yX11_signs cX11_signs (some .int) 47 4) {a0 : Nat} {t0 : Int} {t1 : Nat} {μ : Me} (h : s_X11_signs_b99 a0 t0 t1 μ = some w) (hK : (fun r : Int × Me => r = fin) w) : WL Z (QN Z (some (vI fin.1)) fin.2) μ 99 [(0, vO a0)] [vI t0, vO t1] := by
  unfold s_X11_signs_b99 at h
  refine r_iconst C dX11_signs_99 ?_
  obtain ⟨u20, eu20, h⟩ := bs h
  obtain ⟨q19, eq19, h⟩ := bs h
  refine r_callV C (As := [vI t0, vI 2]) (b := t1) (rest := []) (st1 := [vI q19.1]) (v := some (vI q19.1)) (r := (RX11, TX11, 38)) (ci := 9) rfl eu20 (m_X11_throwsIf C.tr eq19) (lw_V q1500 q1502 qs49 q133 q1503) rfl hdX11_throwsIf rfl rfl (Nat.le_of_ble_eq_true rfl) ⟨by decide, by decide⟩ dX11_signs_100 rfl ?_
  refine r_if_eq C dX11_signs_103 (tgt := 108) (by decide) (fun c21 => ?_) (fun c21 => ?_)
  · have h := it_ h c21
    refine r_aload_n C 0 dX11_signs_108 rfl rfl ?_
    obtain ⟨v22, ev22, h⟩ := bs h
    refine r_getR C (c := 9) (r := (RX11, TX11, 38)) rfl 1 (by decide) rfl ev22 q1314 dX11_signs_109 ?_
    refine r_iconst C dX11_signs_112 ?_
    obtain ⟨v23, ev23, h⟩ := bs h
    refine r_iald C ev23 dX11_signs_113 ?_
    refine r_istore_n C [(2, vI v23), (0, vO a0)] dX11_signs_114 rfl (by decide) rfl ?_
    refine r_aload_n C 1 dX11_signs_115 rfl rfl ?_
    obtain ⟨v24, ev24, h⟩ := bs h
    refine r_getR C (c := 9) (r := (RX11, TX11, 38)) rfl 1 (by decide) rfl ev24 q1314 dX11_signs_116 ?_
    refine r_sipush C dX11_signs_119 (by decide) ?_
    refine r_aload_n C 1 dX11_signs_122 rfl rfl ?_
    obtain ⟨v25, ev25, h⟩ := bs h
    refine r_getI C (c := 9) (r := (RX11, TX11, 38)) rfl 19 (by decide) rfl ev25 q1332 dX11_signs_123 ?_
    obtain ⟨m26, em26, h⟩ := bs h
    refine r_iast C em26 dX11_signs_126 ?_
    refine r_iconst C dX11_signs_127 ?_
    refine r_istore_n C [(3, vI 0), (2, vI v23), (0, vO a0)] dX11_signs_128 rfl (by decide) rfl ?_
    refine r_sub [2, 1, 0] rfl ?_
    exact w_X11_signs_l129 (fin := fin) C h hK
  · have h := ie_ h c21
    refine r_iconst C dX11_signs_106 ?_
    cases h
    exact r_iret C hK dX11_signs_107
noncomputable def s_X11_signs_b75 (a0 : Nat) (t0 : Int) (t1 : Nat) (μ : Me) : Option (Int × Me) :=
  (ck μ 9 t1).bind fun _ =>
  (s_X11_throwsIf t1 t0 1 μ).bind fun q13 =>
  (if w32 q13.1 = 0 then
  (gR q13.2 9 a0 1).bind fun v16 =>
  (aI q13.2 101 v16 3).bind fun v17 =>
  (if w32 v17 = w32 8 then
  s_X11_signs_b99 a0 1 a0 q13.2
  else
  s_X11_signs_b99 a0 0 a0 q13.2)
  else
  some (0, q13.2))
theorem w_X11_signs_b75 {Z : Zt} {fin : Int × Me} {w : (Int × Me)} (C : CX Z yX11_signs cX11_signs (some .int) 47 4) {a0 : Nat} {t0 : Int} {t1 : Nat} {μ : Me} (h : s_X11_signs_b75 a0 t0 t1 μ = some w) (hK : (fun r : Int × Me => r = fin) w) : WL Z (QN Z (some (vI fin.1)) fin.2) μ 75 [(0, vO a0)] [vI t0, vO t1] := by
  unfold s_X11_signs_b75 at h
  refine r_iconst C dX11_signs_75 ?_
  obtain ⟨u14, eu14, h⟩ := bs h
  obtain ⟨q13, eq13, h⟩ := bs h
  refine r_callV C (As := [vI t0, vI 1]) (b := t1) (rest := []) (st1 := [vI q13.1]) (v := some (vI q13.1)) (r := (RX11, TX11, 38)) (ci := 9) rfl eu14 (m_X11_throwsIf C.tr eq13) (lw_V q1500 q1502 qs49 q133 q1503) rfl hdX11_throwsIf rfl rfl (Nat.le_of_ble_eq_true rfl) ⟨by decide, by decide⟩ dX11_signs_76 rfl ?_
  refine r_if_ne C dX11_signs_79 (tgt := 106) (by decide) (fun c15 => ?_) (fun c15 => ?_)
  · have h := ie_ h c15
    refine r_iconst C dX11_signs_106 ?_
    cases h
    exact r_iret C hK dX11_signs_107
  · have h := it_ h c15
    refine r_aload_n C 0 dX11_signs_82 rfl rfl ?_
    refine r_aload_n C 0 dX11_signs_83 rfl rfl ?_
    obtain ⟨v16, ev16, h⟩ := bs h
    refine r_getR C (c := 9) (r := (RX11, TX11, 38)) rfl 1 (by decide) rfl ev16 q1314 dX11_signs_84 ?_
    refine r_iconst C dX11_signs_87 ?_
    obtain ⟨v17, ev17, h⟩ := bs h
    refine r_iald C ev17 dX11_signs_88 ?_
    refine r_bipush C dX11_signs_89 (by decide) ?_
    refine r_icmp_ne C dX11_signs_91 (tgt := 98) (by decide) (fun c18 => ?_) (fun c18 => ?_)
    · have h := ie_ h c18
      refine r_iconst C dX11_signs_98 ?_
      exact w_X11_signs_b99 (fin := fin) C h hK
    · have h := it_ h c18
      refine r_iconst C dX11_signs_94 ?_
      refine r_goto C dX11_signs_95 (tgt := 99) (by decide) ?_
      exact w_X11_signs_b99 (fin := fin) C h hK
noncomputable def s_X11_signs_b62 (a0 : Nat) (x1 : Int) (t0 : Int) (t1 : Nat) (μ : Me) : Option (Int × Me) :=
  (pI μ 9 t1 17 t0).bind fun m11 =>
  (if w32 x1 = 0 then
  s_X11_signs_b75 a0 1 a0 m11
  else
  s_X11_signs_b75 a0 0 a0 m11)
theorem w_X11_signs_b62 {Z : Zt} {fin : Int × Me} {w : (Int × Me)} (C : CX Z yX11_signs cX11_signs (some .int) 47 4) {a0 : Nat} {x1 : Int} {t0 : Int} {t1 : Nat} {μ : Me} (h : s_X11_signs_b62 a0 x1 t0 t1 μ = some w) (hK : (fun r : Int × Me => r = fin) w) : WL Z (QN Z (some (vI fin.1)) fin.2) μ 62 [(0, vO a0), (1, vI x1)] [vI t0, vO t1] := by
  unfold s_X11_signs_b62 at h
  obtain ⟨m11, em11, h⟩ := bs h
  refine r_putI C (c := 9) (r := (RX11, TX11, 38)) rfl 17 (by decide) rfl ⟨rfl, rfl⟩ rfl em11 q1330 dX11_signs_62 ?_
  refine r_aload_n C 0 dX11_signs_65 rfl rfl ?_
  refine r_iload_n C 1 dX11_signs_66 rfl rfl ?_
  refine r_if_ne C dX11_signs_67 (tgt := 74) (by decide) (fun c12 => ?_) (fun c12 => ?_)
  · have h := ie_ h c12
    refine r_iconst C dX11_signs_74 ?_
    refine r_sub [0] rfl ?_
    exact w_X11_signs_b75 (fin := fin) C h hK
  · have h := it_ h c12
    refine r_iconst C dX11_signs_70 ?_
    refine r_goto C dX11_signs_71 (tgt := 75) (by decide) ?_
    refine r_sub [0] rfl ?_
    exact w_X11_signs_b75 (fin := fin) C h hK
noncomputable def s_X11_signs_b49 (a0 : Nat) (x1 : Int)  (μ : Me) : Option (Int × Me) :=
  (if w32 x1 = 0 then
  (gI μ 9 a0 14).bind fun v10 =>
  s_X11_signs_b62 a0 x1 v10 a0 μ
  else
  s_X11_signs_b62 a0 x1 (-1) a0 μ)
theorem w_X11_signs_b49 {Z : Zt} {fin : Int × Me} {w : (Int × Me)} (C : CX Z yX11_signs cX11_signs (some .int) 47 4) {a0 : Nat} {x1 : Int}  {μ : Me} (h : s_X11_signs_b49 a0 x1 μ = some w) (hK : (fun r : Int × Me => r = fin) w) : WL Z (QN Z (some (vI fin.1)) fin.2) μ 49 [(0, vO a0), (1, vI x1)] [] := by
  unfold s_X11_signs_b49 at h
  refine r_aload_n C 0 dX11_signs_49 rfl rfl ?_
  refine r_iload_n C 1 dX11_signs_50 rfl rfl ?_
  refine r_if_eq C dX11_signs_51 (tgt := 58) (by decide) (fun c9 => ?_) (fun c9 => ?_)
  · have h := it_ h c9
    refine r_aload_n C 0 dX11_signs_58 rfl rfl ?_
    obtain ⟨v10, ev10, h⟩ := bs h
    refine r_getI C (c := 9) (r := (RX11, TX11, 38)) rfl 14 (by decide) rfl ev10 q1327 dX11_signs_59 ?_
    exact w_X11_signs_b62 (fin := fin) C h hK
  · have h := ie_ h c9
    refine r_iconst C dX11_signs_54 ?_
    refine r_goto C dX11_signs_55 (tgt := 62) (by decide) ?_
    exact w_X11_signs_b62 (fin := fin) C h hK
noncomputable def s_X11_signs_b48 (a0 : Nat) (t0 : Int) (μ : Me) : Option (Int × Me) :=
  s_X11_signs_b49 a0 t0 μ
theorem w_X11_signs_b48 {Z : Zt} {fin : Int × Me} {w : (Int × Me)} (C : CX Z yX11_signs cX11_signs (some .int) 47 4) {a0 : Nat} {t0 : Int} {μ : Me} (h : s_X11_signs_b48 a0 t0 μ = some w) (hK : (fun r : Int × Me => r = fin) w) : WL Z (QN Z (some (vI fin.1)) fin.2) μ 48 [(0, vO a0)] [vI t0] := by
  unfold s_X11_signs_b48 at h
  refine r_istore_n C [(1, vI t0), (0, vO a0)] dX11_signs_48 rfl (by decide) rfl ?_
  refine r_sub [1, 0] rfl ?_
  exact w_X11_signs_b49 (fin := fin) C h hK
noncomputable def s_X11_signs (a0 : Nat) (μ : Me) : Option (Int × Me) :=
  (ck μ 9 a0).bind fun _ =>
  (s_X11_uses a0 μ).bind fun q1 =>
  (pI q1 9 a0 15 0).bind fun m3 =>
  (pI m3 9 a0 16 0).bind fun m4 =>
  (pI m4 9 a0 19 0).bind fun m5 =>
  (ck m5 9 a0).bind fun _ =>
  (s_rd 40 0 a0 m5).bind fun q6 =>
  (if w32 q6.1 = 0 then
  s_X11_signs_b49 a0 q6.1 q6.2
  else
  (ck q6.2 9 a0).bind fun _ =>
  (s_X11_blanks a0 q6.2).bind fun q35 =>
  (gI q35 9 a0 12).bind fun v37 =>
  (gI q35 9 a0 13).bind fun v38 =>
  (if w32 v37 = w32 v38 then
  s_X11_signs_b48 a0 1 q35
  else
  s_X11_signs_b48 a0 0 q35))
theorem w_X11_signs {Z : Zt} {fin : Int × Me} {w : Int × Me} (C : CX Z yX11_signs cX11_signs (some .int) 47 4) {a0 : Nat} {μ : Me} (h : s_X11_signs a0 μ = some w) (hK : w = fin) : WL Z (QN Z (some (vI fin.1)) fin.2) μ 0 [(0, vO a0)] [] := by
  unfold s_X11_signs at h
  refine r_aload_n C 0 dX11_signs_0 rfl rfl ?_
  obtain ⟨u2, eu2, h⟩ := bs h
  obtain ⟨q1, eq1, h⟩ := bs h
  refine r_callV C (As := []) (b := a0) (rest := []) (st1 := []) (v := none) (r := (RX11, TX11, 38)) (ci := 9) rfl eu2 (m_X11_uses C.tr eq1) (lw_V q1452 q1454 qs37 q133 q1455) rfl hdX11_uses rfl rfl (Nat.le_of_ble_eq_true rfl) ⟨by decide, by decide⟩ dX11_signs_1 rfl ?_
  refine r_aload_n C 0 dX11_signs_4 rfl rfl ?_
  refine r_iconst C dX11_signs_5 ?_
  obtain ⟨m3, em3, h⟩ := bs h
  refine r_putI C (c := 9) (r := (RX11, TX11, 38)) rfl 15 (by decide) rfl ⟨rfl, rfl⟩ rfl em3 q1328 dX11_signs_6 ?_
  refine r_aload_n C 0 dX11_signs_9 rfl rfl ?_
  refine r_iconst C dX11_signs_10 ?_
  obtain ⟨m4, em4, h⟩ := bs h
  refine r_putI C (c := 9) (r := (RX11, TX11, 38)) rfl 16 (by decide) rfl ⟨rfl, rfl⟩ rfl em4 q1329 dX11_signs_11 ?_
  refine r_aload_n C 0 dX11_signs_14 rfl rfl ?_
  refine r_iconst C dX11_signs_15 ?_
  obtain ⟨m5, em5, h⟩ := bs h
  refine r_putI C (c := 9) (r := (RX11, TX11, 38)) rfl 19 (by decide) rfl ⟨rfl, rfl⟩ rfl em5 q1332 dX11_signs_16 ?_
  refine r_aload_n C 0 dX11_signs_19 rfl rfl ?_
  obtain ⟨u7, eu7, h⟩ := bs h
  obtain ⟨q6, eq6, h⟩ := bs h
  refine r_callV C (As := []) (b := a0) (rest := []) (st1 := [vI q6.1]) (v := some (vI q6.1)) (r := (RX11, TX11, 38)) (ci := 9) rfl eu7 ((m_rd C.tr 40).1 _ _ _ eq6) (lw_V q1456 q1458 qs38 q133 q1459) rfl hdX11_readSum rfl rfl (Nat.le_of_ble_eq_true rfl) ⟨by decide, by decide⟩ dX11_signs_20 rfl ?_
  refine r_istore_n C [(1, vI q6.1), (0, vO a0)] dX11_signs_23 rfl (by decide) rfl ?_
  refine r_iload_n C 0 dX11_signs_24 rfl rfl ?_
  refine r_if_eq C dX11_signs_25 (tgt := 49) (by decide) (fun c8 => ?_) (fun c8 => ?_)
  · have h := it_ h c8
    refine r_sub [1, 0] rfl ?_
    exact w_X11_signs_b49 (fin := fin) C h hK
  · have h := ie_ h c8
    refine r_aload_n C 1 dX11_signs_28 rfl rfl ?_
    obtain ⟨u36, eu36, h⟩ := bs h
    obtain ⟨q35, eq35, h⟩ := bs h
    refine r_callV C (As := []) (b := a0) (rest := []) (st1 := []) (v := none) (r := (RX11, TX11, 38)) (ci := 9) rfl eu36 (m_X11_blanks C.tr eq35) (lw_V q1472 q1474 qs42 q133 q1475) rfl hdX11_blanks rfl rfl (Nat.le_of_ble_eq_true rfl) ⟨by decide, by decide⟩ dX11_signs_29 rfl ?_
    refine r_aload_n C 1 dX11_signs_32 rfl rfl ?_
    obtain ⟨v37, ev37, h⟩ := bs h
    refine r_getI C (c := 9) (r := (RX11, TX11, 38)) rfl 12 (by decide) rfl ev37 q1325 dX11_signs_33 ?_
    refine r_aload_n C 1 dX11_signs_36 rfl rfl ?_
    obtain ⟨v38, ev38, h⟩ := bs h
    refine r_getI C (c := 9) (r := (RX11, TX11, 38)) rfl 13 (by decide) rfl ev38 q1326 dX11_signs_37 ?_
    refine r_icmp_ne C dX11_signs_40 (tgt := 47) (by decide) (fun c39 => ?_) (fun c39 => ?_)
    · have h := ie_ h c39
      refine r_iconst C dX11_signs_47 ?_
      refine r_sub [1] rfl ?_
      exact w_X11_signs_b48 (fin := fin) C h hK
    · have h := it_ h c39
      refine r_iconst C dX11_signs_43 ?_
      refine r_goto C dX11_signs_44 (tgt := 48) (by decide) ?_
      refine r_sub [1] rfl ?_
      exact w_X11_signs_b48 (fin := fin) C h hK
theorem hdX11_signs : zhd yX11_signs 0 := by decide +kernel
theorem m_X11_signs {l : Launch} {D : va_G} {b0 : Nat} (hl : l.stackTraces = false) {a0 : Nat} {μ : Me} {w : Int × Me} (h : s_X11_signs a0 μ = some w) : MN l D b0 yX11_signs (ws_ yX11_signs cX11_signs 4 (some .int)) 47 [vO a0] μ (some (vI w.1)) w.2 :=
  MN.of hl (by decide +kernel) (Nat.le_of_ble_eq_true rfl) (fun Z C _ _ => w_X11_signs C h rfl)
